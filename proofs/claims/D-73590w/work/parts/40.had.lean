/-! THE COMPONENT as transformers over its heap, and the walks (printed by gen/genh.py) -/
/-! MergeJudge.step(II)I -/
def hX0_step (j : JX) (Λ : JLam) (a0 : Nat) (p1 : Int32) (p2 : Int32) (G : HG) (post : Int32 → HG → Prop) : Prop :=
  isO G a0 0 (hX0_isState j Λ a0 p1.toInt64 G fun x2 G1 => (x2 = 0 → (post ((-2) : Int32) G1)) ∧ (¬ x2 = 0 → (isO G1 a0 0 (hX0_isState j Λ a0 p2.toInt64 G1 fun x5 G4 => (x5 = 0 → (post ((-2) : Int32) G4)) ∧ (¬ x5 = 0 → (gtQ G4 a0 0 14 fun q7 => nnq q7 fun a8 => isO G4 a8 3 (hX3_of j Λ a8 p1 (3 : Int32) (0 : Int32) G4 fun q10 G9 => nnq q10 fun a11 => gtQ G9 a11 3 0 fun q12 => nnq q12 fun a13 => ldI G9 a13 (j.1 0) p2 fun x14 => (x14 ≤ 0 → (post ((-1) : Int32) G9)) ∧ (¬ x14 ≤ 0 → (gtQ G9 a0 0 14 fun q16 => nnq q16 fun a17 => gtQ G9 a17 3 1 fun q18 => nnq q18 fun a19 => ldI G9 a19 (j.1 0) p2 fun x20 => post x20 G9)))))))))
abbrev rhX0_step (fr lo : Nat) : Room := { frames := fr + 3, cells := 0, slots := 0, locals := lo + 89 }
theorem mhX0_step (l : Launch) (Z : (Nat → Prop) → State → Heap → Prop) (D : va_G) (j : JX) (Λ : JLam) (fr lo : Nat) (E : JE l Z D j Λ fr lo) (a0 : Nat) (p1 : Int32) (p2 : Int32) (G : HG) (post : Int32 → HG → Prop) (hf : hX0_step j Λ a0 p1 p2 G post) : HMi l yX0_step (ws_ yX0_step cX0_step 3 (some .int)) (rhX0_step fr lo) D jC (jty j.1) Z G [.ref a0, .int p1, .int p2] post 0 0 := by
  refine h_openi E.1 (by decide) (by exact Nat.le_of_ble_eq_true rfl) (fun p e s m args below meth c ls A0 Q X hI hnd hnm hl hret => ?_)
  have X : XC p s m args meth c cX0_step 3 RX0 D jC (jty j.1) A0 Z := X
  have hx := X.1
  have hb := X.2.1
  have hown := X.2.2.2.1
  have hts := X.2.2.2.2.1
  have hl : lv_has ls 3 [(0, .ref a0), (1, .int p1), (2, .int p2)] := by exact hl
  unfold hX0_step at hf
  obtain ⟨H, eH⟩ : ∃ H, H = s.heap := ⟨_, rfl⟩
  obtain ⟨locs, eL⟩ : ∃ locs : List Loc, locs = [] := ⟨_, rfl⟩
  have hI : HI D jC G A0 s.heap H locs := by rw [eH, eL]; exact hI
  rw [← eL]
  suffices h : W p l e (rhX0_step fr lo) s m args below meth c H locs 0 0 Q (F0 m 0 ls []) by rw [eH] at h; exact h
  clear eH eL
  refine lv_aload_n hx hb dX0_step_0 rfl (lv_at hl 0 rfl) ?_
  refine lv_iload_n hx hb dX0_step_1 rfl (lv_at hl 1 rfl) ?_
  refine lv_i2l hx hb dX0_step_2 rfl ?_
  obtain ⟨_, _, hO, hf⟩ := hf
  refine h_ki X hI (h_runV (As := [.long p1.toInt64]) X hI (h_recv X hI hO (show jC.1[0]? = some (RX0, TX0, 20) from rfl)) (mhX0_isState l Z D j Λ fr lo E a0 p1.toInt64 G _ hf H.size) (cwV 1 hts (lw_V q1968 q1970 qs43 q167 q1971) rfl rfl rfl (by decide +kernel) (by show fr + 2 + 1 ≤ fr + 3 ∧ 8 + (3 + 11) + (lo + 65) ≤ lo + 89; omega)) rfl hl.1 (Nat.le_of_ble_eq_true rfl) dX0_step_3 ⟨Nat.le_refl _, Nat.le_refl _⟩ rfl) (fun x2 G1 H locs hf hI => ?_)
  clear hO
  refine lv_if_eq (tgt := 18) hx hb dX0_step_6 (by decide) (fun c3 => ?_) (fun c3 => ?_)
  · have hf := hf.1 c3
    refine lv_bipush (v := -2) hx hb dX0_step_18 (by decide) ?_
    exact hret hf hI dX0_step_20 (Nat.le_refl _) (Nat.le_refl _)
  · have hf := hf.2 c3
    refine lv_aload_n hx hb dX0_step_9 rfl (lv_at hl 0 rfl) ?_
    refine lv_iload_n hx hb dX0_step_10 rfl (lv_at hl 2 rfl) ?_
    refine lv_i2l hx hb dX0_step_11 rfl ?_
    obtain ⟨_, _, hO, hf⟩ := hf
    refine h_ki X hI (h_runV (As := [.long p2.toInt64]) X hI (h_recv X hI hO (show jC.1[0]? = some (RX0, TX0, 20) from rfl)) (mhX0_isState l Z D j Λ fr lo E a0 p2.toInt64 G1 _ hf H.size) (cwV 1 hts (lw_V q1968 q1970 qs43 q167 q1971) rfl rfl rfl (by decide +kernel) (by show fr + 2 + 1 ≤ fr + 3 ∧ 8 + (3 + 11) + (lo + 65) ≤ lo + 89; omega)) rfl hl.1 (Nat.le_of_ble_eq_true rfl) dX0_step_12 ⟨Nat.le_refl _, Nat.le_refl _⟩ rfl) (fun x5 G4 H locs hf hI => ?_)
    clear hO
    refine lv_if_ne (tgt := 21) hx hb dX0_step_15 (by decide) (fun c6 => ?_) (fun c6 => ?_)
    · have hf := hf.2 c6
      refine lv_aload_n hx hb dX0_step_21 rfl (lv_at hl 0 rfl) ?_
      refine hr_gtQ X hI (rfl : jC.1[0]? = some (RX0, TX0, 20)) in_X0 14 (Nat.le_of_ble_eq_true rfl) hf q669 (fun _ h => h) dX0_step_22 (fun q7 hf => ?_)
      refine lv_iload_n hx hb dX0_step_25 rfl (lv_at hl 1 rfl) ?_
      refine lv_iconst (v := 3) hx hb dX0_step_26 (by decide) ?_
      refine lv_iconst (v := 0) hx hb dX0_step_27 (by decide) ?_
      obtain ⟨a8, ea8, hf⟩ := hf
      revert hl hf
      subst ea8
      intro hl hf
      have hl : lv_has ls 3 [(0, .ref a0), (1, .int p1), (2, .int p2)] := hl
      obtain ⟨_, _, hO, hf⟩ := hf
      refine h_kq X hI (h_runV (As := [.int p1, .int 3, .int 0]) X hI (h_recv X hI hO (show jC.1[3]? = some (RX3, TX3, 5) from rfl)) (mhX3_of l Z D j Λ fr lo E a8 p1 (3 : Int32) (0 : Int32) G4 _ hf H.size) (cwV 3 hts (lw_V q1995 q1996 q1997 q174 q1998) rfl rfl rfl (by decide +kernel) (by show fr + 2 + 1 ≤ fr + 3 ∧ 8 + (7 + 11) + (lo + 63) ≤ lo + 89; omega)) rfl hl.1 (Nat.le_of_ble_eq_true rfl) dX0_step_28 ⟨Nat.le_refl _, Nat.le_refl _⟩ rfl) (fun q10 G9 H locs hf hI => ?_)
      clear hO
      obtain ⟨a11, ea11, hf⟩ := hf
      revert hl hf
      subst ea11
      intro hl hf
      have hl : lv_has ls 3 [(0, .ref a0), (1, .int p1), (2, .int p2)] := hl
      refine hr_gtQN X hI (rfl : jC.1[3]? = some (RX3, TX3, 5)) in_X3 0 (Nat.le_of_ble_eq_true rfl) hf (E.nw X q562 rfl) (fun _ h => h) dX0_step_31 (fun q12 hf => ?_)
      refine lv_iload_n hx hb dX0_step_34 rfl (lv_at hl 2 rfl) ?_
      obtain ⟨a13, ea13, hf⟩ := hf
      revert hl hf
      subst ea13
      intro hl hf
      have hl : lv_has ls 3 [(0, .ref a0), (1, .int p1), (2, .int p2)] := hl
      refine hr_ild X hI 0 rfl hf dX0_step_35 (fun x14 hf => ?_)
      refine lv_if_le (tgt := 51) hx hb dX0_step_36 (by decide) (fun c15 => ?_) (fun c15 => ?_)
      · have hf := hf.1 c15
        refine lv_iconst (v := -1) hx hb dX0_step_51 (by decide) ?_
        exact hret hf hI dX0_step_52 (Nat.le_refl _) (Nat.le_refl _)
      · have hf := hf.2 c15
        refine lv_aload_n hx hb dX0_step_39 rfl (lv_at hl 0 rfl) ?_
        refine hr_gtQ X hI (rfl : jC.1[0]? = some (RX0, TX0, 20)) in_X0 14 (Nat.le_of_ble_eq_true rfl) hf q669 (fun _ h => h) dX0_step_40 (fun q16 hf => ?_)
        obtain ⟨a17, ea17, hf⟩ := hf
        revert hl hf
        subst ea17
        intro hl hf
        have hl : lv_has ls 3 [(0, .ref a0), (1, .int p1), (2, .int p2)] := hl
        refine hr_gtQN X hI (rfl : jC.1[3]? = some (RX3, TX3, 5)) in_X3 1 (Nat.le_of_ble_eq_true rfl) hf (E.nw X q564 rfl) (fun _ h => h) dX0_step_43 (fun q18 hf => ?_)
        refine lv_iload_n hx hb dX0_step_46 rfl (lv_at hl 2 rfl) ?_
        obtain ⟨a19, ea19, hf⟩ := hf
        revert hl hf
        subst ea19
        intro hl hf
        have hl : lv_has ls 3 [(0, .ref a0), (1, .int p1), (2, .int p2)] := hl
        refine hr_ild X hI 0 rfl hf dX0_step_47 (fun x20 hf => ?_)
        refine lv_goto (tgt := 52) hx hb dX0_step_48 (by decide) ?_
        exact hret hf hI dX0_step_52 (Nat.le_refl _) (Nat.le_refl _)
    · have hf := hf.1 c6
      refine lv_bipush (v := -2) hx hb dX0_step_18 (by decide) ?_
      exact hret hf hI dX0_step_20 (Nat.le_refl _) (Nat.le_refl _)
/-! MergeJudge.freely(II)I -/
def hX0_freely (j : JX) (Λ : JLam) (a0 : Nat) (p1 : Int32) (p2 : Int32) (G : HG) (post : Int32 → HG → Prop) : Prop :=
  isO G a0 0 (hX0_isState j Λ a0 p1.toInt64 G fun x2 G1 => (x2 = 0 → (post ((-2) : Int32) G1)) ∧ (¬ x2 = 0 → (isO G1 a0 0 (hX0_isDeep j Λ a0 p2 G1 fun x5 G4 => (x5 = 0 → (post ((-2) : Int32) G4)) ∧ (¬ x5 = 0 → (gtQ G4 a0 0 11 fun q7 => nnq q7 fun a8 => ldI G4 a8 (j.1 1) p1 fun x9 => (x9 = 0 → (post ((-1) : Int32) G4)) ∧ (¬ x9 = 0 → (gtQ G4 a0 0 14 fun q11 => gtI G4 a0 0 13 fun x12 => nnq q11 fun a13 => isO G4 a13 3 (hX3_of j Λ a13 p1 p2 x12 G4 fun q15 G14 => nnq q15 fun a16 => gtI G14 a16 3 3 fun x17 => post x17 G14)))))))))
abbrev rhX0_freely (fr lo : Nat) : Room := { frames := fr + 3, cells := 0, slots := 0, locals := lo + 89 }
theorem mhX0_freely (l : Launch) (Z : (Nat → Prop) → State → Heap → Prop) (D : va_G) (j : JX) (Λ : JLam) (fr lo : Nat) (E : JE l Z D j Λ fr lo) (a0 : Nat) (p1 : Int32) (p2 : Int32) (G : HG) (post : Int32 → HG → Prop) (hf : hX0_freely j Λ a0 p1 p2 G post) : HMi l yX0_freely (ws_ yX0_freely cX0_freely 3 (some .int)) (rhX0_freely fr lo) D jC (jty j.1) Z G [.ref a0, .int p1, .int p2] post 0 0 := by
  refine h_openi E.1 (by decide) (by exact Nat.le_of_ble_eq_true rfl) (fun p e s m args below meth c ls A0 Q X hI hnd hnm hl hret => ?_)
  have X : XC p s m args meth c cX0_freely 3 RX0 D jC (jty j.1) A0 Z := X
  have hx := X.1
  have hb := X.2.1
  have hown := X.2.2.2.1
  have hts := X.2.2.2.2.1
  have hl : lv_has ls 3 [(0, .ref a0), (1, .int p1), (2, .int p2)] := by exact hl
  unfold hX0_freely at hf
  obtain ⟨H, eH⟩ : ∃ H, H = s.heap := ⟨_, rfl⟩
  obtain ⟨locs, eL⟩ : ∃ locs : List Loc, locs = [] := ⟨_, rfl⟩
  have hI : HI D jC G A0 s.heap H locs := by rw [eH, eL]; exact hI
  rw [← eL]
  suffices h : W p l e (rhX0_freely fr lo) s m args below meth c H locs 0 0 Q (F0 m 0 ls []) by rw [eH] at h; exact h
  clear eH eL
  refine lv_aload_n hx hb dX0_freely_0 rfl (lv_at hl 0 rfl) ?_
  refine lv_iload_n hx hb dX0_freely_1 rfl (lv_at hl 1 rfl) ?_
  refine lv_i2l hx hb dX0_freely_2 rfl ?_
  obtain ⟨_, _, hO, hf⟩ := hf
  refine h_ki X hI (h_runV (As := [.long p1.toInt64]) X hI (h_recv X hI hO (show jC.1[0]? = some (RX0, TX0, 20) from rfl)) (mhX0_isState l Z D j Λ fr lo E a0 p1.toInt64 G _ hf H.size) (cwV 1 hts (lw_V q1968 q1970 qs43 q167 q1971) rfl rfl rfl (by decide +kernel) (by show fr + 2 + 1 ≤ fr + 3 ∧ 8 + (3 + 11) + (lo + 65) ≤ lo + 89; omega)) rfl hl.1 (Nat.le_of_ble_eq_true rfl) dX0_freely_3 ⟨Nat.le_refl _, Nat.le_refl _⟩ rfl) (fun x2 G1 H locs hf hI => ?_)
  clear hO
  refine lv_if_eq (tgt := 17) hx hb dX0_freely_6 (by decide) (fun c3 => ?_) (fun c3 => ?_)
  · have hf := hf.1 c3
    refine lv_bipush (v := -2) hx hb dX0_freely_17 (by decide) ?_
    exact hret hf hI dX0_freely_19 (Nat.le_refl _) (Nat.le_refl _)
  · have hf := hf.2 c3
    refine lv_aload_n hx hb dX0_freely_9 rfl (lv_at hl 0 rfl) ?_
    refine lv_iload_n hx hb dX0_freely_10 rfl (lv_at hl 2 rfl) ?_
    obtain ⟨_, _, hO, hf⟩ := hf
    refine h_ki X hI (h_runV (As := [.int p2]) X hI (h_recv X hI hO (show jC.1[0]? = some (RX0, TX0, 20) from rfl)) (mhX0_isDeep l Z D j Λ fr lo E a0 p2 G1 _ hf H.size) (cwV 1 hts (lw_V q1976 q1978 qs44 q167 q1979) rfl rfl rfl (by decide +kernel) (by show fr + 2 + 1 ≤ fr + 3 ∧ 8 + (2 + 11) + (lo + 65) ≤ lo + 89; omega)) rfl hl.1 (Nat.le_of_ble_eq_true rfl) dX0_freely_11 ⟨Nat.le_refl _, Nat.le_refl _⟩ rfl) (fun x5 G4 H locs hf hI => ?_)
    clear hO
    refine lv_if_ne (tgt := 20) hx hb dX0_freely_14 (by decide) (fun c6 => ?_) (fun c6 => ?_)
    · have hf := hf.2 c6
      refine lv_aload_n hx hb dX0_freely_20 rfl (lv_at hl 0 rfl) ?_
      refine hr_gtQ X hI (rfl : jC.1[0]? = some (RX0, TX0, 20)) in_X0 11 (Nat.le_of_ble_eq_true rfl) hf q664 (fun _ h => h) dX0_freely_21 (fun q7 hf => ?_)
      refine lv_iload_n hx hb dX0_freely_24 rfl (lv_at hl 1 rfl) ?_
      obtain ⟨a8, ea8, hf⟩ := hf
      revert hl hf
      subst ea8
      intro hl hf
      have hl : lv_has ls 3 [(0, .ref a0), (1, .int p1), (2, .int p2)] := hl
      refine hr_zld X hI 1 rfl hf dX0_freely_25 (fun x9 hf => ?_)
      refine lv_if_eq (tgt := 48) hx hb dX0_freely_26 (by decide) (fun c10 => ?_) (fun c10 => ?_)
      · have hf := hf.1 c10
        refine lv_iconst (v := -1) hx hb dX0_freely_48 (by decide) ?_
        exact hret hf hI dX0_freely_49 (Nat.le_refl _) (Nat.le_refl _)
      · have hf := hf.2 c10
        refine lv_aload_n hx hb dX0_freely_29 rfl (lv_at hl 0 rfl) ?_
        refine hr_gtQ X hI (rfl : jC.1[0]? = some (RX0, TX0, 20)) in_X0 14 (Nat.le_of_ble_eq_true rfl) hf q669 (fun _ h => h) dX0_freely_30 (fun q11 hf => ?_)
        refine lv_iload_n hx hb dX0_freely_33 rfl (lv_at hl 1 rfl) ?_
        refine lv_iload_n hx hb dX0_freely_34 rfl (lv_at hl 2 rfl) ?_
        refine lv_aload_n hx hb dX0_freely_35 rfl (lv_at hl 0 rfl) ?_
        refine hr_gtI X hI (rfl : jC.1[0]? = some (RX0, TX0, 20)) in_X0 13 (Nat.le_of_ble_eq_true rfl) hf q667 (fun _ h => h) dX0_freely_36 (fun x12 hf => ?_)
        obtain ⟨a13, ea13, hf⟩ := hf
        revert hl hf
        subst ea13
        intro hl hf
        have hl : lv_has ls 3 [(0, .ref a0), (1, .int p1), (2, .int p2)] := hl
        obtain ⟨_, _, hO, hf⟩ := hf
        refine h_kq X hI (h_runV (As := [.int p1, .int p2, .int x12]) X hI (h_recv X hI hO (show jC.1[3]? = some (RX3, TX3, 5) from rfl)) (mhX3_of l Z D j Λ fr lo E a13 p1 p2 x12 G4 _ hf H.size) (cwV 3 hts (lw_V q1995 q1996 q1997 q174 q1998) rfl rfl rfl (by decide +kernel) (by show fr + 2 + 1 ≤ fr + 3 ∧ 8 + (7 + 11) + (lo + 63) ≤ lo + 89; omega)) rfl hl.1 (Nat.le_of_ble_eq_true rfl) dX0_freely_39 ⟨Nat.le_refl _, Nat.le_refl _⟩ rfl) (fun q15 G14 H locs hf hI => ?_)
        clear hO
        obtain ⟨a16, ea16, hf⟩ := hf
        revert hl hf
        subst ea16
        intro hl hf
        have hl : lv_has ls 3 [(0, .ref a0), (1, .int p1), (2, .int p2)] := hl
        refine hr_gtIN X hI (rfl : jC.1[3]? = some (RX3, TX3, 5)) in_X3 3 (Nat.le_of_ble_eq_true rfl) hf (E.nw X q567 rfl) (fun _ h => h) dX0_freely_42 (fun x17 hf => ?_)
        refine lv_goto (tgt := 49) hx hb dX0_freely_45 (by decide) ?_
        exact hret hf hI dX0_freely_49 (Nat.le_refl _) (Nat.le_refl _)
    · have hf := hf.1 c6
      refine lv_bipush (v := -2) hx hb dX0_freely_17 (by decide) ?_
      exact hret hf hI dX0_freely_19 (Nat.le_refl _) (Nat.le_refl _)
/-! MergeJudge.through(ILMergeJudge$Break;)I -/
def hX0_through_b5 (j : JX) (Λ : JLam) (a0 : Nat) (p1 : Int32) (p2 : Nat) (post : Int32 → HG → Prop) (K5 : Int32 → Int32 → Nat → Nat → HG → Prop) (lx3 : Int32) (lx4 : Int32) (mc ms : Nat) (G : HG) : Prop :=
  isO G a0 0 (hX0_states0 j Λ a0 G fun x2 G1 => (x2 ≤ lx4 → (post lx3 G1)) ∧ (¬ x2 ≤ lx4 → (isO G1 a0 0 (∃ m4 m5 : Nat, m4 ≤ mc ∧ m5 ≤ ms ∧ hX0_breaksFrom j Λ a0 lx4 p1 p2 m4 m5 G1 fun x7 G6 => K5 (lx3 + x7) (lx4 + 1) (mc - m4) (ms - m5) G6))))
def hX0_through_l5 (j : JX) (Λ : JLam) (a0 : Nat) (p1 : Int32) (p2 : Nat) (post : Int32 → HG → Prop) : Nat → Int32 → Int32 → Nat → Nat → HG → Prop
  | 0 => fun _ _ _ _ _ => False
  | n + 1 => fun lx3 lx4 mc ms G => hX0_through_b5 j Λ a0 p1 p2 post (hX0_through_l5 j Λ a0 p1 p2 post n) lx3 lx4 mc ms G
def hX0_through (j : JX) (Λ : JLam) (a0 : Nat) (p1 : Int32) (p2 : Nat) (mc ms : Nat) (G : HG) (post : Int32 → HG → Prop) : Prop :=
  ∃ n, hX0_through_l5 j Λ a0 p1 p2 post n (0 : Int32) (0 : Int32) mc ms G
abbrev rhX0_through (fr lo mc ms : Nat) : Room := { frames := fr + 5, cells := mc, slots := ms, locals := lo + 137 }
theorem mhX0_through (l : Launch) (Z : (Nat → Prop) → State → Heap → Prop) (D : va_G) (j : JX) (Λ : JLam) (fr lo : Nat) (E : JE l Z D j Λ fr lo) (a0 : Nat) (p1 : Int32) (p2 : Nat) (mc ms : Nat) (G : HG) (post : Int32 → HG → Prop) (hf : hX0_through j Λ a0 p1 p2 mc ms G post) : HMi l yX0_through (ws_ yX0_through cX0_through 5 (some .int)) (rhX0_through fr lo mc ms) D jC (jty j.1) Z G [.ref a0, .int p1, .ref p2] post mc ms := by
  obtain ⟨MC, eMC⟩ : ∃ MC, MC = mc := ⟨_, rfl⟩
  obtain ⟨MS, eMS⟩ : ∃ MS, MS = ms := ⟨_, rfl⟩
  suffices goal : HMi l yX0_through (ws_ yX0_through cX0_through 5 (some .int)) (rhX0_through fr lo MC MS) D jC (jty j.1) Z G [.ref a0, .int p1, .ref p2] post MC MS by rw [eMC, eMS] at goal; exact goal
  have hm0_ : 0 + mc ≤ MC ∧ 0 + ms ≤ MS := by omega
  clear eMC eMS
  refine h_openi E.1 (by decide) (by exact Nat.le_of_ble_eq_true rfl) (fun p e s m args below meth c ls A0 Q X hI hnd hnm hl hret => ?_)
  have X : XC p s m args meth c cX0_through 5 RX0 D jC (jty j.1) A0 Z := X
  have hx := X.1
  have hb := X.2.1
  have hown := X.2.2.2.1
  have hts := X.2.2.2.2.1
  have L5 : ∀ (n : Nat) (lx3 : Int32) (lx4 : Int32) (mc ms : Nat) (G : HG), hX0_through_l5 j Λ a0 p1 p2 post n lx3 lx4 mc ms G → ∀ (cells slots : Nat), cells + mc ≤ MC ∧ slots + ms ≤ MS → ∀ (H : Heap) (locs : List Loc), HI D jC G A0 s.heap H locs → ∀ (ls : Array Slot), lv_has ls 5 [(0, .ref a0), (1, .int p1), (2, .ref p2), (3, .int lx3), (4, .int lx4)] → W p l e (rhX0_through fr lo MC MS) s m args below meth c H locs cells slots Q (F0 m 5 ls []) := by
    intro n5
    induction n5 with
    | zero => intro lx3 lx4 mc ms G hf; exact hf.elim
    | succ n5 ih5 =>
      intro lx3 lx4 mc ms G hf cells slots hm H locs hI ls hl
      have hf : hX0_through_b5 j Λ a0 p1 p2 post (hX0_through_l5 j Λ a0 p1 p2 post n5) lx3 lx4 mc ms G := hf
      unfold hX0_through_b5 at hf
      refine lv_iload hx hb dX0_through_5 (lv_at hl 4 rfl) ?_
      refine lv_aload_n hx hb dX0_through_7 rfl (lv_at hl 0 rfl) ?_
      obtain ⟨_, _, hO, hf⟩ := hf
      refine h_ki X hI (h_runV (As := []) X hI (h_recv X hI hO (show jC.1[0]? = some (RX0, TX0, 20) from rfl)) (mhX0_states0 l Z D j Λ fr lo E a0 G _ hf H.size) (cwV 0 hts (lw_V q1945 q1947 qs41 q167 q1948) rfl rfl rfl (by decide +kernel) (by show fr + 1 + 1 ≤ fr + 5 ∧ 8 + (3 + 11) + (lo + 40) ≤ lo + 137; omega)) rfl hl.1 (Nat.le_of_ble_eq_true rfl) dX0_through_8 ⟨hm0 hm.1, hm0 hm.2⟩ rfl) (fun x2 G1 H locs hf hI => ?_)
      clear hO
      refine lv_icmp_ge (tgt := 31) hx hb dX0_through_11 (by decide) (fun c3 => ?_) (fun c3 => ?_)
      · have hf := hf.1 c3
        refine lv_iload_n hx hb dX0_through_31 rfl (lv_at hl 3 rfl) ?_
        exact hret hf hI dX0_through_32 (hmC hm.1) (hmC hm.2)
      · have hf := hf.2 c3
        refine lv_iload_n hx hb dX0_through_14 rfl (lv_at hl 3 rfl) ?_
        refine lv_aload_n hx hb dX0_through_15 rfl (lv_at hl 0 rfl) ?_
        refine lv_iload hx hb dX0_through_16 (lv_at hl 4 rfl) ?_
        refine lv_iload_n hx hb dX0_through_18 rfl (lv_at hl 1 rfl) ?_
        refine lv_aload_n hx hb dX0_through_19 rfl (lv_at hl 2 rfl) ?_
        obtain ⟨_, _, hO, hf⟩ := hf
        obtain ⟨m4, m5, hb1, hb2, hf⟩ := hf
        refine h_ki X hI (h_runV (As := [.int lx4, .int p1, .ref p2]) X hI (h_recv X hI hO (show jC.1[0]? = some (RX0, TX0, 20) from rfl)) (mhX0_breaksFrom l Z D j Λ fr lo E a0 lx4 p1 p2 m4 m5 G1 _ hf H.size) (cwV 3 hts (lw_V q1991 q1993 qs47 q167 q1994) rfl rfl rfl (by decide +kernel) (by show fr + 4 + 1 ≤ fr + 5 ∧ 8 + (8 + 11) + (lo + 110) ≤ lo + 137; omega)) rfl hl.1 (Nat.le_of_ble_eq_true rfl) dX0_through_20 ⟨hmA hm.1 hb1, hmA hm.2 hb2⟩ rfl) (fun x7 G6 H locs hf hI => ?_)
        have hm := And.intro (hmB hm.1 hb1) (hmB hm.2 hb2)
        clear hb1 hb2
        clear hO
        refine lv_iadd hx hb dX0_through_23 ?_
        refine lv_istore_n (lv' := [(3, .int (lx3 + x7)), (0, .ref a0), (1, .int p1), (2, .ref p2), (4, .int lx4)]) hx hb dX0_through_24 rfl hl (by decide) rfl (fun ls hl => ?_)
        refine lv_iinc (v := lx4 + 1) (lv' := [(4, .int (lx4 + 1)), (3, .int (lx3 + x7)), (0, .ref a0), (1, .int p1), (2, .ref p2)]) hx hb dX0_through_25 hl (k := 4) rfl rfl (by decide) rfl (fun ls hl => ?_)
        refine lv_goto (tgt := 5) hx hb dX0_through_28 (by decide) ?_
        exact ih5 (lx3 + x7) (lx4 + 1) (mc - m4) (ms - m5) G6 hf _ _ hm H locs hI ls (lv_sub hl [2, 3, 4, 1, 0] rfl)
  have hl : lv_has ls 5 [(0, .ref a0), (1, .int p1), (2, .ref p2)] := by exact hl
  unfold hX0_through at hf
  obtain ⟨H, eH⟩ : ∃ H, H = s.heap := ⟨_, rfl⟩
  obtain ⟨locs, eL⟩ : ∃ locs : List Loc, locs = [] := ⟨_, rfl⟩
  have hI : HI D jC G A0 s.heap H locs := by rw [eH, eL]; exact hI
  rw [← eL]
  obtain ⟨cells, eC⟩ : ∃ n : Nat, n = 0 := ⟨_, rfl⟩
  obtain ⟨slots, eS⟩ : ∃ n : Nat, n = 0 := ⟨_, rfl⟩
  have hm : cells + mc ≤ MC ∧ slots + ms ≤ MS := by rw [eC, eS]; exact hm0_
  suffices h : W p l e (rhX0_through fr lo MC MS) s m args below meth c H locs cells slots Q (F0 m 0 ls []) by rw [eH, eC, eS] at h; exact h
  clear eH eL eC eS
  refine lv_iconst (v := 0) hx hb dX0_through_0 (by decide) ?_
  refine lv_istore_n (lv' := [(3, .int 0), (0, .ref a0), (1, .int p1), (2, .ref p2)]) hx hb dX0_through_1 rfl hl (by decide) rfl (fun ls hl => ?_)
  refine lv_iconst (v := 0) hx hb dX0_through_2 (by decide) ?_
  refine lv_istore (lv' := [(4, .int 0), (3, .int 0), (0, .ref a0), (1, .int p1), (2, .ref p2)]) hx hb dX0_through_3 hl (by decide) rfl (fun ls hl => ?_)
  obtain ⟨n, hf⟩ := hf
  exact L5 n (0 : Int32) (0 : Int32) mc ms G hf _ _ hm H locs hI ls (lv_sub hl [2, 3, 4, 1, 0] rfl)
/-! MergeJudge.allIn(I)I -/
def hX0_allIn (j : JX) (Λ : JLam) (a0 : Nat) (p1 : Int32) (mc ms : Nat) (G : HG) (post : Int32 → HG → Prop) : Prop :=
  1 ≤ mc ∧ 1 ≤ ms ∧ mkO G (.inr (43, .ref a0 :: ([] : List Int32).map .int)) fun a1 G2 => isO G2 a0 0 (∃ m3 m4 : Nat, m3 ≤ mc - 1 ∧ m4 ≤ ms - 1 ∧ hX0_through j Λ a0 p1 a1 m3 m4 G2 fun x6 G5 => post x6 G5)
abbrev rhX0_allIn (fr lo mc ms : Nat) : Room := { frames := fr + 6, cells := mc, slots := ms, locals := lo + 3200 }
theorem mhX0_allIn (l : Launch) (Z : (Nat → Prop) → State → Heap → Prop) (D : va_G) (j : JX) (Λ : JLam) (fr lo : Nat) (E : JE l Z D j Λ fr lo) (a0 : Nat) (p1 : Int32) (mc ms : Nat) (G : HG) (post : Int32 → HG → Prop) (hf : hX0_allIn j Λ a0 p1 mc ms G post) : HMi l yX0_allIn (ws_ yX0_allIn cX0_allIn 2 (some .int)) (rhX0_allIn fr lo mc ms) D jC (jty j.1) Z G [.ref a0, .int p1] post mc ms := by
  obtain ⟨MC, eMC⟩ : ∃ MC, MC = mc := ⟨_, rfl⟩
  obtain ⟨MS, eMS⟩ : ∃ MS, MS = ms := ⟨_, rfl⟩
  suffices goal : HMi l yX0_allIn (ws_ yX0_allIn cX0_allIn 2 (some .int)) (rhX0_allIn fr lo MC MS) D jC (jty j.1) Z G [.ref a0, .int p1] post MC MS by rw [eMC, eMS] at goal; exact goal
  have hm0_ : 0 + mc ≤ MC ∧ 0 + ms ≤ MS := by omega
  clear eMC eMS
  refine h_openi E.1 (by decide) (by exact Nat.le_of_ble_eq_true rfl) (fun p e s m args below meth c ls A0 Q X hI hnd hnm hl hret => ?_)
  have X : XC p s m args meth c cX0_allIn 2 RX0 D jC (jty j.1) A0 Z := X
  have hx := X.1
  have hb := X.2.1
  have hown := X.2.2.2.1
  have hts := X.2.2.2.2.1
  have hl : lv_has ls 2 [(0, .ref a0), (1, .int p1)] := by exact hl
  unfold hX0_allIn at hf
  obtain ⟨H, eH⟩ : ∃ H, H = s.heap := ⟨_, rfl⟩
  obtain ⟨locs, eL⟩ : ∃ locs : List Loc, locs = [] := ⟨_, rfl⟩
  have hI : HI D jC G A0 s.heap H locs := by rw [eH, eL]; exact hI
  rw [← eL]
  obtain ⟨cells, eC⟩ : ∃ n : Nat, n = 0 := ⟨_, rfl⟩
  obtain ⟨slots, eS⟩ : ∃ n : Nat, n = 0 := ⟨_, rfl⟩
  have hm : cells + mc ≤ MC ∧ slots + ms ≤ MS := by rw [eC, eS]; exact hm0_
  suffices h : W p l e (rhX0_allIn fr lo MC MS) s m args below meth c H locs cells slots Q (F0 m 0 ls []) by rw [eH, eC, eS] at h; exact h
  clear eH eL eC eS
  refine lv_aload_n hx hb dX0_allIn_0 rfl (lv_at hl 0 rfl) ?_
  refine lv_iload_n hx hb dX0_allIn_1 rfl (lv_at hl 1 rfl) ?_
  refine lv_aload_n hx hb dX0_allIn_2 rfl (lv_at hl 0 rfl) ?_
  obtain ⟨hb1, hb2, hf⟩ := hf
  refine E.2.2.2.1 20 yX0_allIn 3 368 a0 [] rfl (rest := [.int p1, .ref a0]) X hI hnd hl.1 (Nat.le_of_ble_eq_true rfl) dX0_allIn_3 (by show 3200 ≤ lo + 3200; omega) (hmA hm.1 hb1) (hmA hm.2 hb2) hf (fun a1 G2 H hf hI => ?_)
  have hm := And.intro (hmB hm.1 hb1) (hmB hm.2 hb2)
  clear hb1 hb2
  obtain ⟨_, _, hO, hf⟩ := hf
  obtain ⟨m3, m4, hb1, hb2, hf⟩ := hf
  refine h_ki X hI (h_runV (As := [.int p1, .ref a1]) X hI (h_recv X hI hO (show jC.1[0]? = some (RX0, TX0, 20) from rfl)) (mhX0_through l Z D j Λ fr lo E a0 p1 a1 m3 m4 G2 _ hf H.size) (cwV 2 hts (lw_V q2208 q2210 qs62 q167 q2211) rfl rfl rfl (by decide +kernel) (by show fr + 5 + 1 ≤ fr + 6 ∧ 8 + (5 + 11) + (lo + 137) ≤ lo + 3200; omega)) rfl hl.1 (Nat.le_of_ble_eq_true rfl) dX0_allIn_8 ⟨hmA hm.1 hb1, hmA hm.2 hb2⟩ rfl) (fun x6 G5 H locs hf hI => ?_)
  have hm := And.intro (hmB hm.1 hb1) (hmB hm.2 hb2)
  clear hb1 hb2
  clear hO
  exact hret hf hI dX0_allIn_11 (hmC hm.1) (hmC hm.2)
/-! MergeJudge.all(I)I -/
def hX0_all (j : JX) (Λ : JLam) (a0 : Nat) (p1 : Int32) (mc ms : Nat) (G : HG) (post : Int32 → HG → Prop) : Prop :=
  isO G a0 0 (hX0_isDeep j Λ a0 p1 G fun x2 G1 => (x2 = 0 → (post ((-2) : Int32) G1)) ∧ (¬ x2 = 0 → (isO G1 a0 0 (∃ m4 m5 : Nat, m4 ≤ mc ∧ m5 ≤ ms ∧ hX0_allIn j Λ a0 p1 m4 m5 G1 fun x7 G6 => post x7 G6))))
abbrev rhX0_all (fr lo mc ms : Nat) : Room := { frames := fr + 7, cells := mc, slots := ms, locals := lo + 3221 }
theorem mhX0_all (l : Launch) (Z : (Nat → Prop) → State → Heap → Prop) (D : va_G) (j : JX) (Λ : JLam) (fr lo : Nat) (E : JE l Z D j Λ fr lo) (a0 : Nat) (p1 : Int32) (mc ms : Nat) (G : HG) (post : Int32 → HG → Prop) (hf : hX0_all j Λ a0 p1 mc ms G post) : HMi l yX0_all (ws_ yX0_all cX0_all 2 (some .int)) (rhX0_all fr lo mc ms) D jC (jty j.1) Z G [.ref a0, .int p1] post mc ms := by
  obtain ⟨MC, eMC⟩ : ∃ MC, MC = mc := ⟨_, rfl⟩
  obtain ⟨MS, eMS⟩ : ∃ MS, MS = ms := ⟨_, rfl⟩
  suffices goal : HMi l yX0_all (ws_ yX0_all cX0_all 2 (some .int)) (rhX0_all fr lo MC MS) D jC (jty j.1) Z G [.ref a0, .int p1] post MC MS by rw [eMC, eMS] at goal; exact goal
  have hm0_ : 0 + mc ≤ MC ∧ 0 + ms ≤ MS := by omega
  clear eMC eMS
  refine h_openi E.1 (by decide) (by exact Nat.le_of_ble_eq_true rfl) (fun p e s m args below meth c ls A0 Q X hI hnd hnm hl hret => ?_)
  have X : XC p s m args meth c cX0_all 2 RX0 D jC (jty j.1) A0 Z := X
  have hx := X.1
  have hb := X.2.1
  have hown := X.2.2.2.1
  have hts := X.2.2.2.2.1
  have hl : lv_has ls 2 [(0, .ref a0), (1, .int p1)] := by exact hl
  unfold hX0_all at hf
  obtain ⟨H, eH⟩ : ∃ H, H = s.heap := ⟨_, rfl⟩
  obtain ⟨locs, eL⟩ : ∃ locs : List Loc, locs = [] := ⟨_, rfl⟩
  have hI : HI D jC G A0 s.heap H locs := by rw [eH, eL]; exact hI
  rw [← eL]
  obtain ⟨cells, eC⟩ : ∃ n : Nat, n = 0 := ⟨_, rfl⟩
  obtain ⟨slots, eS⟩ : ∃ n : Nat, n = 0 := ⟨_, rfl⟩
  have hm : cells + mc ≤ MC ∧ slots + ms ≤ MS := by rw [eC, eS]; exact hm0_
  suffices h : W p l e (rhX0_all fr lo MC MS) s m args below meth c H locs cells slots Q (F0 m 0 ls []) by rw [eH, eC, eS] at h; exact h
  clear eH eL eC eS
  refine lv_aload_n hx hb dX0_all_0 rfl (lv_at hl 0 rfl) ?_
  refine lv_iload_n hx hb dX0_all_1 rfl (lv_at hl 1 rfl) ?_
  obtain ⟨_, _, hO, hf⟩ := hf
  refine h_ki X hI (h_runV (As := [.int p1]) X hI (h_recv X hI hO (show jC.1[0]? = some (RX0, TX0, 20) from rfl)) (mhX0_isDeep l Z D j Λ fr lo E a0 p1 G _ hf H.size) (cwV 1 hts (lw_V q1976 q1978 qs44 q167 q1979) rfl rfl rfl (by decide +kernel) (by show fr + 2 + 1 ≤ fr + 7 ∧ 8 + (2 + 11) + (lo + 65) ≤ lo + 3221; omega)) rfl hl.1 (Nat.le_of_ble_eq_true rfl) dX0_all_2 ⟨hm0 hm.1, hm0 hm.2⟩ rfl) (fun x2 G1 H locs hf hI => ?_)
  clear hO
  refine lv_if_eq (tgt := 16) hx hb dX0_all_5 (by decide) (fun c3 => ?_) (fun c3 => ?_)
  · have hf := hf.1 c3
    refine lv_bipush (v := -2) hx hb dX0_all_16 (by decide) ?_
    exact hret hf hI dX0_all_18 (hmC hm.1) (hmC hm.2)
  · have hf := hf.2 c3
    refine lv_aload_n hx hb dX0_all_8 rfl (lv_at hl 0 rfl) ?_
    refine lv_iload_n hx hb dX0_all_9 rfl (lv_at hl 1 rfl) ?_
    obtain ⟨_, _, hO, hf⟩ := hf
    obtain ⟨m4, m5, hb1, hb2, hf⟩ := hf
    refine h_ki X hI (h_runV (As := [.int p1]) X hI (h_recv X hI hO (show jC.1[0]? = some (RX0, TX0, 20) from rfl)) (mhX0_allIn l Z D j Λ fr lo E a0 p1 m4 m5 G1 _ hf H.size) (cwV 1 hts (lw_V q2201 q2203 qs60 q167 q2204) rfl rfl rfl (by decide +kernel) (by show fr + 6 + 1 ≤ fr + 7 ∧ 8 + (2 + 11) + (lo + 3200) ≤ lo + 3221; omega)) rfl hl.1 (Nat.le_of_ble_eq_true rfl) dX0_all_10 ⟨hmA hm.1 hb1, hmA hm.2 hb2⟩ rfl) (fun x7 G6 H locs hf hI => ?_)
    have hm := And.intro (hmB hm.1 hb1) (hmB hm.2 hb2)
    clear hb1 hb2
    clear hO
    refine lv_goto (tgt := 18) hx hb dX0_all_13 (by decide) ?_
    exact hret hf hI dX0_all_18 (hmC hm.1) (hmC hm.2)
/-! MergeJudge.lambda$allIn$13(IIII)V -/
def hX0_lambda_allIn_13 (j : JX) (Λ : JLam) (a0 : Nat) (p1 : Int32) (p2 : Int32) (p3 : Int32) (p4 : Int32) (G : HG) (post : HG → Prop) : Prop :=
  isO G a0 0 (hX0_tells j Λ a0 p4 G fun G1 => post G1)
abbrev rhX0_lambda_allIn_13 (fr lo : Nat) : Room := { frames := fr + 2, cells := 0, slots := 0, locals := lo + 61 }
theorem mhX0_lambda_allIn_13 (l : Launch) (Z : (Nat → Prop) → State → Heap → Prop) (D : va_G) (j : JX) (Λ : JLam) (fr lo : Nat) (E : JE l Z D j Λ fr lo) (a0 : Nat) (p1 : Int32) (p2 : Int32) (p3 : Int32) (p4 : Int32) (G : HG) (post : HG → Prop) (hf : hX0_lambda_allIn_13 j Λ a0 p1 p2 p3 p4 G post) : HMv l yX0_lambda_allIn_13 (ws_ yX0_lambda_allIn_13 cX0_lambda_allIn_13 5 none) (rhX0_lambda_allIn_13 fr lo) D jC (jty j.1) Z G [.ref a0, .int p1, .int p2, .int p3, .int p4] post 0 0 := by
  refine h_openv E.1 (by decide) (by exact Nat.le_of_ble_eq_true rfl) (fun p e s m args below meth c ls A0 Q X hI hnd hnm hl hret => ?_)
  have X : XC p s m args meth c cX0_lambda_allIn_13 5 RX0 D jC (jty j.1) A0 Z := X
  have hx := X.1
  have hb := X.2.1
  have hown := X.2.2.2.1
  have hts := X.2.2.2.2.1
  have hl : lv_has ls 5 [(0, .ref a0), (1, .int p1), (2, .int p2), (3, .int p3), (4, .int p4)] := by exact hl
  unfold hX0_lambda_allIn_13 at hf
  obtain ⟨H, eH⟩ : ∃ H, H = s.heap := ⟨_, rfl⟩
  obtain ⟨locs, eL⟩ : ∃ locs : List Loc, locs = [] := ⟨_, rfl⟩
  have hI : HI D jC G A0 s.heap H locs := by rw [eH, eL]; exact hI
  rw [← eL]
  suffices h : W p l e (rhX0_lambda_allIn_13 fr lo) s m args below meth c H locs 0 0 Q (F0 m 0 ls []) by rw [eH] at h; exact h
  clear eH eL
  refine lv_aload_n hx hb dX0_lambda_allIn_13_0 rfl (lv_at hl 0 rfl) ?_
  refine lv_iload hx hb dX0_lambda_allIn_13_1 (lv_at hl 4 rfl) ?_
  obtain ⟨_, _, hO, hf⟩ := hf
  refine h_kv X hI (h_runV (As := [.int p4]) X hI (h_recv X hI hO (show jC.1[0]? = some (RX0, TX0, 20) from rfl)) (mhX0_tells l Z D j Λ fr lo E a0 p4 G _ hf H.size) (cwV 1 hts (lw_V q1987 q1989 qs46 q167 q1990) rfl rfl rfl (by decide +kernel) (by show fr + 1 + 1 ≤ fr + 2 ∧ 8 + (2 + 11) + (lo + 40) ≤ lo + 61; omega)) rfl hl.1 (Nat.le_of_ble_eq_true rfl) dX0_lambda_allIn_13_3 ⟨Nat.le_refl _, Nat.le_refl _⟩ rfl) (fun G1 H locs hf hI => ?_)
  clear hO
  exact hret hf hI dX0_lambda_allIn_13_6 (Nat.le_refl _) (Nat.le_refl _)
/-! MergeJudge$Pair.<init>(II)V -/
def hX13_init (j : JX) (Λ : JLam) (a0 : Nat) (p1 : Int32) (p2 : Int32) (G : HG) (post : HG → Prop) : Prop :=
  ptV G a0 13 0 (.int (if p2 < p1 then p2 else p1)) fun G1 => ptV G1 a0 13 1 (.int (if p1 < p2 then p2 else p1)) fun G2 => post G2
abbrev rhX13_init (fr lo : Nat) : Room := { frames := fr + 1, cells := 0, slots := 0, locals := lo + 40 }
theorem mhX13_init (l : Launch) (Z : (Nat → Prop) → State → Heap → Prop) (D : va_G) (j : JX) (Λ : JLam) (fr lo : Nat) (E : JE l Z D j Λ fr lo) (a0 : Nat) (p1 : Int32) (p2 : Int32) (G : HG) (post : HG → Prop) (hf : hX13_init j Λ a0 p1 p2 G post) : HMv l yX13_init (ws_ yX13_init cX13_init 3 none) (rhX13_init fr lo) D jC (jty j.1) Z G [.ref a0, .int p1, .int p2] post 0 0 := by
  refine h_openv E.1 (by decide) (by exact Nat.le_of_ble_eq_true rfl) (fun p e s m args below meth c ls A0 Q X hI hnd hnm hl hret => ?_)
  have X : XC p s m args meth c cX13_init 3 RX13 D jC (jty j.1) A0 Z := X
  have hx := X.1
  have hb := X.2.1
  have hown := X.2.2.2.1
  have hts := X.2.2.2.2.1
  have hl : lv_has ls 3 [(0, .ref a0), (1, .int p1), (2, .int p2)] := by exact hl
  unfold hX13_init at hf
  obtain ⟨H, eH⟩ : ∃ H, H = s.heap := ⟨_, rfl⟩
  obtain ⟨locs, eL⟩ : ∃ locs : List Loc, locs = [] := ⟨_, rfl⟩
  have hI : HI D jC G A0 s.heap H locs := by rw [eH, eL]; exact hI
  rw [← eL]
  suffices h : W p l e (rhX13_init fr lo) s m args below meth c H locs 0 0 Q (F0 m 0 ls []) by rw [eH] at h; exact h
  clear eH eL
  refine lv_aload_n hx hb dX13_init_0 rfl (lv_at hl 0 rfl) ?_
  refine W.objInit hx hb hown (hts _ q2238) (hts _ q247) (hts _ q248) rfl (by rw [X.2.2.1]; exact hl.1) rfl dX13_init_1 (by show 1 ≤ fr + 1; omega) (Nat.le_trans (m := 40) (Nat.le_of_ble_eq_true rfl) (by show 40 ≤ lo + 40; omega)) ?_
  show W p l e _ s m args below meth c H locs _ _ Q (F0 m 4 ls [])
  refine lv_aload_n hx hb dX13_init_4 rfl (lv_at hl 0 rfl) ?_
  refine lv_iload_n hx hb dX13_init_5 rfl (lv_at hl 1 rfl) ?_
  refine lv_iload_n hx hb dX13_init_6 rfl (lv_at hl 2 rfl) ?_
  refine x_mmin X hl.1 q2239 q638 q173 q639 (by show 1 ≤ fr + 1 ∧ 21 ≤ lo + 40; omega) (Nat.le_of_ble_eq_true rfl) ⟨Nat.le_refl _, Nat.le_refl _⟩ dX13_init_7 ?_
  refine hr_ptF X hI (rfl : jC.1[13]? = some (RX13, TX13, 2)) in_X13 0 (Nat.le_of_ble_eq_true rfl) tyX13 tyX13_ok nmX13 hf q2241 (fun _ h => h) rfl hnm rfl rfl rfl dX13_init_10 (fun G1 H locs hf hI => ?_)
  refine lv_aload_n hx hb dX13_init_13 rfl (lv_at hl 0 rfl) ?_
  refine lv_iload_n hx hb dX13_init_14 rfl (lv_at hl 1 rfl) ?_
  refine lv_iload_n hx hb dX13_init_15 rfl (lv_at hl 2 rfl) ?_
  refine x_mmax X hl.1 q2240 q546 q173 q547 (by show 1 ≤ fr + 1 ∧ 21 ≤ lo + 40; omega) (Nat.le_of_ble_eq_true rfl) ⟨Nat.le_refl _, Nat.le_refl _⟩ dX13_init_16 ?_
  refine hr_ptF X hI (rfl : jC.1[13]? = some (RX13, TX13, 2)) in_X13 1 (Nat.le_of_ble_eq_true rfl) tyX13 tyX13_ok nmX13 hf q2242 (fun _ h => h) rfl hnm rfl rfl rfl dX13_init_19 (fun G2 H locs hf hI => ?_)
  exact hret hf hI dX13_init_22 (Nat.le_refl _) (Nat.le_refl _)
/-! MergeJudge.isSafe(I)Z -/
def hX0_isSafe_b2 (j : JX) (Λ : JLam) (a0 : Nat) (p1 : Int32) (post : Int32 → HG → Prop) (K2 : Int32 → Nat → Nat → HG → Prop) (lx2 : Int32) (mc ms : Nat) (G : HG) : Prop :=
  isO G a0 0 (hX0_states0 j Λ a0 G fun x2 G1 => (x2 ≤ lx2 → (post (1 : Int32) G1)) ∧ (¬ x2 ≤ lx2 → (1 ≤ mc ∧ 1 ≤ ms ∧ mkO G1 (.inr (45, .ref a0 :: ([] : List Int32).map .int)) fun a4 G5 => isO G5 a0 0 (∃ m6 m7 : Nat, m6 ≤ mc - 1 ∧ m7 ≤ ms - 1 ∧ hX0_breaksFrom j Λ a0 lx2 p1 a4 m6 m7 G5 fun x9 G8 => (x9 ≤ 0 → (K2 (lx2 + 1) (mc - 1 - m6) (ms - 1 - m7) G8)) ∧ (¬ x9 ≤ 0 → (post (0 : Int32) G8))))))
def hX0_isSafe_l2 (j : JX) (Λ : JLam) (a0 : Nat) (p1 : Int32) (post : Int32 → HG → Prop) : Nat → Int32 → Nat → Nat → HG → Prop
  | 0 => fun _ _ _ _ => False
  | n + 1 => fun lx2 mc ms G => hX0_isSafe_b2 j Λ a0 p1 post (hX0_isSafe_l2 j Λ a0 p1 post n) lx2 mc ms G
def hX0_isSafe (j : JX) (Λ : JLam) (a0 : Nat) (p1 : Int32) (mc ms : Nat) (G : HG) (post : Int32 → HG → Prop) : Prop :=
  ∃ n, hX0_isSafe_l2 j Λ a0 p1 post n (0 : Int32) mc ms G
abbrev rhX0_isSafe (fr lo mc ms : Nat) : Room := { frames := fr + 5, cells := mc, slots := ms, locals := lo + 3200 }
theorem mhX0_isSafe (l : Launch) (Z : (Nat → Prop) → State → Heap → Prop) (D : va_G) (j : JX) (Λ : JLam) (fr lo : Nat) (E : JE l Z D j Λ fr lo) (a0 : Nat) (p1 : Int32) (mc ms : Nat) (G : HG) (post : Int32 → HG → Prop) (hf : hX0_isSafe j Λ a0 p1 mc ms G post) : HMi l yX0_isSafe (ws_ yX0_isSafe cX0_isSafe 3 (some .boolean)) (rhX0_isSafe fr lo mc ms) D jC (jty j.1) Z G [.ref a0, .int p1] post mc ms := by
  obtain ⟨MC, eMC⟩ : ∃ MC, MC = mc := ⟨_, rfl⟩
  obtain ⟨MS, eMS⟩ : ∃ MS, MS = ms := ⟨_, rfl⟩
  suffices goal : HMi l yX0_isSafe (ws_ yX0_isSafe cX0_isSafe 3 (some .boolean)) (rhX0_isSafe fr lo MC MS) D jC (jty j.1) Z G [.ref a0, .int p1] post MC MS by rw [eMC, eMS] at goal; exact goal
  have hm0_ : 0 + mc ≤ MC ∧ 0 + ms ≤ MS := by omega
  clear eMC eMS
  refine h_openz E.1 (by decide) (by exact Nat.le_of_ble_eq_true rfl) (fun p e s m args below meth c ls A0 Q X hI hnd hnm hl hret => ?_)
  have X : XC p s m args meth c cX0_isSafe 3 RX0 D jC (jty j.1) A0 Z := X
  have hx := X.1
  have hb := X.2.1
  have hown := X.2.2.2.1
  have hts := X.2.2.2.2.1
  have L2 : ∀ (n : Nat) (lx2 : Int32) (mc ms : Nat) (G : HG), hX0_isSafe_l2 j Λ a0 p1 post n lx2 mc ms G → ∀ (cells slots : Nat), cells + mc ≤ MC ∧ slots + ms ≤ MS → ∀ (H : Heap) (locs : List Loc), HI D jC G A0 s.heap H locs → ∀ (ls : Array Slot), lv_has ls 3 [(0, .ref a0), (1, .int p1), (2, .int lx2)] → W p l e (rhX0_isSafe fr lo MC MS) s m args below meth c H locs cells slots Q (F0 m 2 ls []) := by
    intro n2
    induction n2 with
    | zero => intro lx2 mc ms G hf; exact hf.elim
    | succ n2 ih2 =>
      intro lx2 mc ms G hf cells slots hm H locs hI ls hl
      have hf : hX0_isSafe_b2 j Λ a0 p1 post (hX0_isSafe_l2 j Λ a0 p1 post n2) lx2 mc ms G := hf
      unfold hX0_isSafe_b2 at hf
      refine lv_iload_n hx hb dX0_isSafe_2 rfl (lv_at hl 2 rfl) ?_
      refine lv_aload_n hx hb dX0_isSafe_3 rfl (lv_at hl 0 rfl) ?_
      obtain ⟨_, _, hO, hf⟩ := hf
      refine h_ki X hI (h_runV (As := []) X hI (h_recv X hI hO (show jC.1[0]? = some (RX0, TX0, 20) from rfl)) (mhX0_states0 l Z D j Λ fr lo E a0 G _ hf H.size) (cwV 0 hts (lw_V q1945 q1947 qs41 q167 q1948) rfl rfl rfl (by decide +kernel) (by show fr + 1 + 1 ≤ fr + 5 ∧ 8 + (3 + 11) + (lo + 40) ≤ lo + 3200; omega)) rfl hl.1 (Nat.le_of_ble_eq_true rfl) dX0_isSafe_4 ⟨hm0 hm.1, hm0 hm.2⟩ rfl) (fun x2 G1 H locs hf hI => ?_)
      clear hO
      refine lv_icmp_ge (tgt := 33) hx hb dX0_isSafe_7 (by decide) (fun c3 => ?_) (fun c3 => ?_)
      · have hf := hf.1 c3
        refine lv_iconst (v := 1) hx hb dX0_isSafe_33 (by decide) ?_
        exact hret rfl hf hI dX0_isSafe_34 (hmC hm.1) (hmC hm.2)
      · have hf := hf.2 c3
        refine lv_aload_n hx hb dX0_isSafe_10 rfl (lv_at hl 0 rfl) ?_
        refine lv_iload_n hx hb dX0_isSafe_11 rfl (lv_at hl 2 rfl) ?_
        refine lv_iload_n hx hb dX0_isSafe_12 rfl (lv_at hl 1 rfl) ?_
        refine lv_aload_n hx hb dX0_isSafe_13 rfl (lv_at hl 0 rfl) ?_
        obtain ⟨hb1, hb2, hf⟩ := hf
        refine E.2.2.2.1 22 yX0_isSafe 14 375 a0 [] rfl (rest := [.int p1, .int lx2, .ref a0]) X hI hnd hl.1 (Nat.le_of_ble_eq_true rfl) dX0_isSafe_14 (by show 3200 ≤ lo + 3200; omega) (hmA hm.1 hb1) (hmA hm.2 hb2) hf (fun a4 G5 H hf hI => ?_)
        have hm := And.intro (hmB hm.1 hb1) (hmB hm.2 hb2)
        clear hb1 hb2
        obtain ⟨_, _, hO, hf⟩ := hf
        obtain ⟨m6, m7, hb1, hb2, hf⟩ := hf
        refine h_ki X hI (h_runV (As := [.int lx2, .int p1, .ref a4]) X hI (h_recv X hI hO (show jC.1[0]? = some (RX0, TX0, 20) from rfl)) (mhX0_breaksFrom l Z D j Λ fr lo E a0 lx2 p1 a4 m6 m7 G5 _ hf H.size) (cwV 3 hts (lw_V q1991 q1993 qs47 q167 q1994) rfl rfl rfl (by decide +kernel) (by show fr + 4 + 1 ≤ fr + 5 ∧ 8 + (8 + 11) + (lo + 110) ≤ lo + 3200; omega)) rfl hl.1 (Nat.le_of_ble_eq_true rfl) dX0_isSafe_19 ⟨hmA hm.1 hb1, hmA hm.2 hb2⟩ rfl) (fun x9 G8 H locs hf hI => ?_)
        have hm := And.intro (hmB hm.1 hb1) (hmB hm.2 hb2)
        clear hb1 hb2
        clear hO
        refine lv_if_le (tgt := 27) hx hb dX0_isSafe_22 (by decide) (fun c10 => ?_) (fun c10 => ?_)
        · have hf := hf.1 c10
          refine lv_iinc (v := lx2 + 1) (lv' := [(2, .int (lx2 + 1)), (0, .ref a0), (1, .int p1)]) hx hb dX0_isSafe_27 hl (k := 2) rfl rfl (by decide) rfl (fun ls hl => ?_)
          refine lv_goto (tgt := 2) hx hb dX0_isSafe_30 (by decide) ?_
          exact ih2 (lx2 + 1) (mc - 1 - m6) (ms - 1 - m7) G8 hf _ _ hm H locs hI ls (lv_sub hl [1, 2, 0] rfl)
        · have hf := hf.2 c10
          refine lv_iconst (v := 0) hx hb dX0_isSafe_25 (by decide) ?_
          exact hret rfl hf hI dX0_isSafe_26 (hmC hm.1) (hmC hm.2)
  have hl : lv_has ls 3 [(0, .ref a0), (1, .int p1)] := by exact hl
  unfold hX0_isSafe at hf
  obtain ⟨H, eH⟩ : ∃ H, H = s.heap := ⟨_, rfl⟩
  obtain ⟨locs, eL⟩ : ∃ locs : List Loc, locs = [] := ⟨_, rfl⟩
  have hI : HI D jC G A0 s.heap H locs := by rw [eH, eL]; exact hI
  rw [← eL]
  obtain ⟨cells, eC⟩ : ∃ n : Nat, n = 0 := ⟨_, rfl⟩
  obtain ⟨slots, eS⟩ : ∃ n : Nat, n = 0 := ⟨_, rfl⟩
  have hm : cells + mc ≤ MC ∧ slots + ms ≤ MS := by rw [eC, eS]; exact hm0_
  suffices h : W p l e (rhX0_isSafe fr lo MC MS) s m args below meth c H locs cells slots Q (F0 m 0 ls []) by rw [eH, eC, eS] at h; exact h
  clear eH eL eC eS
  refine lv_iconst (v := 0) hx hb dX0_isSafe_0 (by decide) ?_
  refine lv_istore_n (lv' := [(2, .int 0), (0, .ref a0), (1, .int p1)]) hx hb dX0_isSafe_1 rfl hl (by decide) rfl (fun ls hl => ?_)
  obtain ⟨n, hf⟩ := hf
  exact L2 n (0 : Int32) mc ms G hf _ _ hm H locs hI ls (lv_sub hl [1, 2, 0] rfl)
/-! MergeJudge.safe(I)I -/
def hX0_safe (j : JX) (Λ : JLam) (a0 : Nat) (p1 : Int32) (mc ms : Nat) (G : HG) (post : Int32 → HG → Prop) : Prop :=
  isO G a0 0 (hX0_isDeep j Λ a0 p1 G fun x2 G1 => (x2 = 0 → (post ((-2) : Int32) G1)) ∧ (¬ x2 = 0 → (isO G1 a0 0 (∃ m4 m5 : Nat, m4 ≤ mc ∧ m5 ≤ ms ∧ hX0_isSafe j Λ a0 p1 m4 m5 G1 fun x7 G6 => (x7 = 0 → (post (0 : Int32) G6)) ∧ (¬ x7 = 0 → (post (1 : Int32) G6))))))
abbrev rhX0_safe (fr lo mc ms : Nat) : Room := { frames := fr + 6, cells := mc, slots := ms, locals := lo + 3222 }
theorem mhX0_safe (l : Launch) (Z : (Nat → Prop) → State → Heap → Prop) (D : va_G) (j : JX) (Λ : JLam) (fr lo : Nat) (E : JE l Z D j Λ fr lo) (a0 : Nat) (p1 : Int32) (mc ms : Nat) (G : HG) (post : Int32 → HG → Prop) (hf : hX0_safe j Λ a0 p1 mc ms G post) : HMi l yX0_safe (ws_ yX0_safe cX0_safe 2 (some .int)) (rhX0_safe fr lo mc ms) D jC (jty j.1) Z G [.ref a0, .int p1] post mc ms := by
  obtain ⟨MC, eMC⟩ : ∃ MC, MC = mc := ⟨_, rfl⟩
  obtain ⟨MS, eMS⟩ : ∃ MS, MS = ms := ⟨_, rfl⟩
  suffices goal : HMi l yX0_safe (ws_ yX0_safe cX0_safe 2 (some .int)) (rhX0_safe fr lo MC MS) D jC (jty j.1) Z G [.ref a0, .int p1] post MC MS by rw [eMC, eMS] at goal; exact goal
  have hm0_ : 0 + mc ≤ MC ∧ 0 + ms ≤ MS := by omega
  clear eMC eMS
  refine h_openi E.1 (by decide) (by exact Nat.le_of_ble_eq_true rfl) (fun p e s m args below meth c ls A0 Q X hI hnd hnm hl hret => ?_)
  have X : XC p s m args meth c cX0_safe 2 RX0 D jC (jty j.1) A0 Z := X
  have hx := X.1
  have hb := X.2.1
  have hown := X.2.2.2.1
  have hts := X.2.2.2.2.1
  have hl : lv_has ls 2 [(0, .ref a0), (1, .int p1)] := by exact hl
  unfold hX0_safe at hf
  obtain ⟨H, eH⟩ : ∃ H, H = s.heap := ⟨_, rfl⟩
  obtain ⟨locs, eL⟩ : ∃ locs : List Loc, locs = [] := ⟨_, rfl⟩
  have hI : HI D jC G A0 s.heap H locs := by rw [eH, eL]; exact hI
  rw [← eL]
  obtain ⟨cells, eC⟩ : ∃ n : Nat, n = 0 := ⟨_, rfl⟩
  obtain ⟨slots, eS⟩ : ∃ n : Nat, n = 0 := ⟨_, rfl⟩
  have hm : cells + mc ≤ MC ∧ slots + ms ≤ MS := by rw [eC, eS]; exact hm0_
  suffices h : W p l e (rhX0_safe fr lo MC MS) s m args below meth c H locs cells slots Q (F0 m 0 ls []) by rw [eH, eC, eS] at h; exact h
  clear eH eL eC eS
  refine lv_aload_n hx hb dX0_safe_0 rfl (lv_at hl 0 rfl) ?_
  refine lv_iload_n hx hb dX0_safe_1 rfl (lv_at hl 1 rfl) ?_
  obtain ⟨_, _, hO, hf⟩ := hf
  refine h_ki X hI (h_runV (As := [.int p1]) X hI (h_recv X hI hO (show jC.1[0]? = some (RX0, TX0, 20) from rfl)) (mhX0_isDeep l Z D j Λ fr lo E a0 p1 G _ hf H.size) (cwV 1 hts (lw_V q1976 q1978 qs44 q167 q1979) rfl rfl rfl (by decide +kernel) (by show fr + 2 + 1 ≤ fr + 6 ∧ 8 + (2 + 11) + (lo + 65) ≤ lo + 3222; omega)) rfl hl.1 (Nat.le_of_ble_eq_true rfl) dX0_safe_2 ⟨hm0 hm.1, hm0 hm.2⟩ rfl) (fun x2 G1 H locs hf hI => ?_)
  clear hO
  refine lv_if_eq (tgt := 24) hx hb dX0_safe_5 (by decide) (fun c3 => ?_) (fun c3 => ?_)
  · have hf := hf.1 c3
    refine lv_bipush (v := -2) hx hb dX0_safe_24 (by decide) ?_
    exact hret hf hI dX0_safe_26 (hmC hm.1) (hmC hm.2)
  · have hf := hf.2 c3
    refine lv_aload_n hx hb dX0_safe_8 rfl (lv_at hl 0 rfl) ?_
    refine lv_iload_n hx hb dX0_safe_9 rfl (lv_at hl 1 rfl) ?_
    obtain ⟨_, _, hO, hf⟩ := hf
    obtain ⟨m4, m5, hb1, hb2, hf⟩ := hf
    refine h_ki X hI (h_runV (As := [.int p1]) X hI (h_recv X hI hO (show jC.1[0]? = some (RX0, TX0, 20) from rfl)) (mhX0_isSafe l Z D j Λ fr lo E a0 p1 m4 m5 G1 _ hf H.size) (cwV 1 hts (lw_V q2267 q2269 qs63 q167 q2270) rfl rfl rfl (by decide +kernel) (by show fr + 5 + 1 ≤ fr + 6 ∧ 8 + (3 + 11) + (lo + 3200) ≤ lo + 3222; omega)) rfl hl.1 (Nat.le_of_ble_eq_true rfl) dX0_safe_10 ⟨hmA hm.1 hb1, hmA hm.2 hb2⟩ rfl) (fun x7 G6 H locs hf hI => ?_)
    have hm := And.intro (hmB hm.1 hb1) (hmB hm.2 hb2)
    clear hb1 hb2
    clear hO
    refine lv_if_eq (tgt := 20) hx hb dX0_safe_13 (by decide) (fun c8 => ?_) (fun c8 => ?_)
    · have hf := hf.1 c8
      refine lv_iconst (v := 0) hx hb dX0_safe_20 (by decide) ?_
      refine lv_goto (tgt := 26) hx hb dX0_safe_21 (by decide) ?_
      exact hret hf hI dX0_safe_26 (hmC hm.1) (hmC hm.2)
    · have hf := hf.2 c8
      refine lv_iconst (v := 1) hx hb dX0_safe_16 (by decide) ?_
      refine lv_goto (tgt := 26) hx hb dX0_safe_17 (by decide) ?_
      exact hret hf hI dX0_safe_26 (hmC hm.1) (hmC hm.2)
/-! MergeJudge.lambda$isSafe$14(IIII)V -/
def hX0_lambda_isSafe_14 (j : JX) (Λ : JLam) (a0 : Nat) (p1 : Int32) (p2 : Int32) (p3 : Int32) (p4 : Int32) (G : HG) (post : HG → Prop) : Prop :=
  isO G a0 0 (hX0_tells j Λ a0 p4 G fun G1 => post G1)
abbrev rhX0_lambda_isSafe_14 (fr lo : Nat) : Room := { frames := fr + 2, cells := 0, slots := 0, locals := lo + 61 }
theorem mhX0_lambda_isSafe_14 (l : Launch) (Z : (Nat → Prop) → State → Heap → Prop) (D : va_G) (j : JX) (Λ : JLam) (fr lo : Nat) (E : JE l Z D j Λ fr lo) (a0 : Nat) (p1 : Int32) (p2 : Int32) (p3 : Int32) (p4 : Int32) (G : HG) (post : HG → Prop) (hf : hX0_lambda_isSafe_14 j Λ a0 p1 p2 p3 p4 G post) : HMv l yX0_lambda_isSafe_14 (ws_ yX0_lambda_isSafe_14 cX0_lambda_isSafe_14 5 none) (rhX0_lambda_isSafe_14 fr lo) D jC (jty j.1) Z G [.ref a0, .int p1, .int p2, .int p3, .int p4] post 0 0 := by
  refine h_openv E.1 (by decide) (by exact Nat.le_of_ble_eq_true rfl) (fun p e s m args below meth c ls A0 Q X hI hnd hnm hl hret => ?_)
  have X : XC p s m args meth c cX0_lambda_isSafe_14 5 RX0 D jC (jty j.1) A0 Z := X
  have hx := X.1
  have hb := X.2.1
  have hown := X.2.2.2.1
  have hts := X.2.2.2.2.1
  have hl : lv_has ls 5 [(0, .ref a0), (1, .int p1), (2, .int p2), (3, .int p3), (4, .int p4)] := by exact hl
  unfold hX0_lambda_isSafe_14 at hf
  obtain ⟨H, eH⟩ : ∃ H, H = s.heap := ⟨_, rfl⟩
  obtain ⟨locs, eL⟩ : ∃ locs : List Loc, locs = [] := ⟨_, rfl⟩
  have hI : HI D jC G A0 s.heap H locs := by rw [eH, eL]; exact hI
  rw [← eL]
  suffices h : W p l e (rhX0_lambda_isSafe_14 fr lo) s m args below meth c H locs 0 0 Q (F0 m 0 ls []) by rw [eH] at h; exact h
  clear eH eL
  refine lv_aload_n hx hb dX0_lambda_isSafe_14_0 rfl (lv_at hl 0 rfl) ?_
  refine lv_iload hx hb dX0_lambda_isSafe_14_1 (lv_at hl 4 rfl) ?_
  obtain ⟨_, _, hO, hf⟩ := hf
  refine h_kv X hI (h_runV (As := [.int p4]) X hI (h_recv X hI hO (show jC.1[0]? = some (RX0, TX0, 20) from rfl)) (mhX0_tells l Z D j Λ fr lo E a0 p4 G _ hf H.size) (cwV 1 hts (lw_V q1987 q1989 qs46 q167 q1990) rfl rfl rfl (by decide +kernel) (by show fr + 1 + 1 ≤ fr + 2 ∧ 8 + (2 + 11) + (lo + 40) ≤ lo + 61; omega)) rfl hl.1 (Nat.le_of_ble_eq_true rfl) dX0_lambda_isSafe_14_3 ⟨Nat.le_refl _, Nat.le_refl _⟩ rfl) (fun G1 H locs hf hI => ?_)
  clear hO
  exact hret hf hI dX0_lambda_isSafe_14_6 (Nat.le_refl _) (Nat.le_refl _)
/-! MergeJudge.bound()I -/
def hX0_bound_b15 (j : JX) (Λ : JLam) (a0 : Nat) (post : Int32 → HG → Prop) (K15 : Int32 → Nat → Nat → HG → Prop) (lx1 : Int32) (mc ms : Nat) (G : HG) : Prop :=
  (lx1 < 0 → (post ((-1) : Int32) G)) ∧ (¬ lx1 < 0 → (isO G a0 0 (∃ m7 m8 : Nat, m7 ≤ mc ∧ m8 ≤ ms ∧ hX0_isSafe j Λ a0 lx1 m7 m8 G fun x10 G9 => (x10 = 0 → (K15 (lx1 + (-1)) (mc - m7) (ms - m8) G9)) ∧ (¬ x10 = 0 → (post lx1 G9)))))
def hX0_bound_l15 (j : JX) (Λ : JLam) (a0 : Nat) (post : Int32 → HG → Prop) : Nat → Int32 → Nat → Nat → HG → Prop
  | 0 => fun _ _ _ _ => False
  | n + 1 => fun lx1 mc ms G => hX0_bound_b15 j Λ a0 post (hX0_bound_l15 j Λ a0 post n) lx1 mc ms G
def hX0_bound (j : JX) (Λ : JLam) (a0 : Nat) (mc ms : Nat) (G : HG) (post : Int32 → HG → Prop) : Prop :=
  gtQ G a0 0 1 fun q1 => nnq q1 fun a2 => isO G a2 2 (hX2_is j Λ a2 G fun x4 G3 => (x4 = 0 → (post ((-2) : Int32) G3)) ∧ (¬ x4 = 0 → (∃ n, hX0_bound_l15 j Λ a0 post n (3 : Int32) mc ms G3)))
abbrev rhX0_bound (fr lo mc ms : Nat) : Room := { frames := fr + 6, cells := mc, slots := ms, locals := lo + 3222 }
theorem mhX0_bound (l : Launch) (Z : (Nat → Prop) → State → Heap → Prop) (D : va_G) (j : JX) (Λ : JLam) (fr lo : Nat) (E : JE l Z D j Λ fr lo) (a0 : Nat) (mc ms : Nat) (G : HG) (post : Int32 → HG → Prop) (hf : hX0_bound j Λ a0 mc ms G post) : HMi l yX0_bound (ws_ yX0_bound cX0_bound 2 (some .int)) (rhX0_bound fr lo mc ms) D jC (jty j.1) Z G [.ref a0] post mc ms := by
  obtain ⟨MC, eMC⟩ : ∃ MC, MC = mc := ⟨_, rfl⟩
  obtain ⟨MS, eMS⟩ : ∃ MS, MS = ms := ⟨_, rfl⟩
  suffices goal : HMi l yX0_bound (ws_ yX0_bound cX0_bound 2 (some .int)) (rhX0_bound fr lo MC MS) D jC (jty j.1) Z G [.ref a0] post MC MS by rw [eMC, eMS] at goal; exact goal
  have hm0_ : 0 + mc ≤ MC ∧ 0 + ms ≤ MS := by omega
  clear eMC eMS
  refine h_openi E.1 (by decide) (by exact Nat.le_of_ble_eq_true rfl) (fun p e s m args below meth c ls A0 Q X hI hnd hnm hl hret => ?_)
  have X : XC p s m args meth c cX0_bound 2 RX0 D jC (jty j.1) A0 Z := X
  have hx := X.1
  have hb := X.2.1
  have hown := X.2.2.2.1
  have hts := X.2.2.2.2.1
  have L15 : ∀ (n : Nat) (lx1 : Int32) (mc ms : Nat) (G : HG), hX0_bound_l15 j Λ a0 post n lx1 mc ms G → ∀ (cells slots : Nat), cells + mc ≤ MC ∧ slots + ms ≤ MS → ∀ (H : Heap) (locs : List Loc), HI D jC G A0 s.heap H locs → ∀ (ls : Array Slot), lv_has ls 2 [(0, .ref a0), (1, .int lx1)] → W p l e (rhX0_bound fr lo MC MS) s m args below meth c H locs cells slots Q (F0 m 15 ls []) := by
    intro n15
    induction n15 with
    | zero => intro lx1 mc ms G hf; exact hf.elim
    | succ n15 ih15 =>
      intro lx1 mc ms G hf cells slots hm H locs hI ls hl
      have hf : hX0_bound_b15 j Λ a0 post (hX0_bound_l15 j Λ a0 post n15) lx1 mc ms G := hf
      unfold hX0_bound_b15 at hf
      refine lv_iload_n hx hb dX0_bound_15 rfl (lv_at hl 1 rfl) ?_
      refine lv_if_lt (tgt := 35) hx hb dX0_bound_16 (by decide) (fun c6 => ?_) (fun c6 => ?_)
      · have hf := hf.1 c6
        refine lv_iconst (v := -1) hx hb dX0_bound_35 (by decide) ?_
        exact hret hf hI dX0_bound_36 (hmC hm.1) (hmC hm.2)
      · have hf := hf.2 c6
        refine lv_aload_n hx hb dX0_bound_19 rfl (lv_at hl 0 rfl) ?_
        refine lv_iload_n hx hb dX0_bound_20 rfl (lv_at hl 1 rfl) ?_
        obtain ⟨_, _, hO, hf⟩ := hf
        obtain ⟨m7, m8, hb1, hb2, hf⟩ := hf
        refine h_ki X hI (h_runV (As := [.int lx1]) X hI (h_recv X hI hO (show jC.1[0]? = some (RX0, TX0, 20) from rfl)) (mhX0_isSafe l Z D j Λ fr lo E a0 lx1 m7 m8 G _ hf H.size) (cwV 1 hts (lw_V q2267 q2269 qs63 q167 q2270) rfl rfl rfl (by decide +kernel) (by show fr + 5 + 1 ≤ fr + 6 ∧ 8 + (3 + 11) + (lo + 3200) ≤ lo + 3222; omega)) rfl hl.1 (Nat.le_of_ble_eq_true rfl) dX0_bound_21 ⟨hmA hm.1 hb1, hmA hm.2 hb2⟩ rfl) (fun x10 G9 H locs hf hI => ?_)
        have hm := And.intro (hmB hm.1 hb1) (hmB hm.2 hb2)
        clear hb1 hb2
        clear hO
        refine lv_if_eq (tgt := 29) hx hb dX0_bound_24 (by decide) (fun c11 => ?_) (fun c11 => ?_)
        · have hf := hf.1 c11
          refine lv_iinc (v := lx1 + (-1)) (lv' := [(1, .int (lx1 + (-1))), (0, .ref a0)]) hx hb dX0_bound_29 hl (k := 1) rfl rfl (by decide) rfl (fun ls hl => ?_)
          refine lv_goto (tgt := 15) hx hb dX0_bound_32 (by decide) ?_
          exact ih15 (lx1 + (-1)) (mc - m7) (ms - m8) G9 hf _ _ hm H locs hI ls (lv_sub hl [1, 0] rfl)
        · have hf := hf.2 c11
          refine lv_iload_n hx hb dX0_bound_27 rfl (lv_at hl 1 rfl) ?_
          exact hret hf hI dX0_bound_28 (hmC hm.1) (hmC hm.2)
  have hl : lv_has ls 2 [(0, .ref a0)] := by exact hl
  unfold hX0_bound at hf
  obtain ⟨H, eH⟩ : ∃ H, H = s.heap := ⟨_, rfl⟩
  obtain ⟨locs, eL⟩ : ∃ locs : List Loc, locs = [] := ⟨_, rfl⟩
  have hI : HI D jC G A0 s.heap H locs := by rw [eH, eL]; exact hI
  rw [← eL]
  obtain ⟨cells, eC⟩ : ∃ n : Nat, n = 0 := ⟨_, rfl⟩
  obtain ⟨slots, eS⟩ : ∃ n : Nat, n = 0 := ⟨_, rfl⟩
  have hm : cells + mc ≤ MC ∧ slots + ms ≤ MS := by rw [eC, eS]; exact hm0_
  suffices h : W p l e (rhX0_bound fr lo MC MS) s m args below meth c H locs cells slots Q (F0 m 0 ls []) by rw [eH, eC, eS] at h; exact h
  clear eH eL eC eS
  refine lv_aload_n hx hb dX0_bound_0 rfl (lv_at hl 0 rfl) ?_
  refine hr_gtQ X hI (rfl : jC.1[0]? = some (RX0, TX0, 20)) in_X0 1 (Nat.le_of_ble_eq_true rfl) hf q653 (fun _ h => h) dX0_bound_1 (fun q1 hf => ?_)
  obtain ⟨a2, ea2, hf⟩ := hf
  revert hl hf
  subst ea2
  intro hl hf
  have hl : lv_has ls 2 [(0, .ref a0)] := hl
  obtain ⟨_, _, hO, hf⟩ := hf
  refine h_ki X hI (h_runV (As := []) X hI (h_recv X hI hO (show jC.1[2]? = some (RX2, TX2, 11) from rfl)) (mhX2_is l Z D j Λ fr lo E a2 G _ hf H.size) (cwV 0 hts (lw_V q1839 q1840 q1841 q169 q1842) rfl rfl rfl (by decide +kernel) (by show fr + 1 + 1 ≤ fr + 6 ∧ 8 + (1 + 11) + (lo + 40) ≤ lo + 3222; omega)) rfl hl.1 (Nat.le_of_ble_eq_true rfl) dX0_bound_4 ⟨hm0 hm.1, hm0 hm.2⟩ rfl) (fun x4 G3 H locs hf hI => ?_)
  clear hO
  refine lv_if_ne (tgt := 13) hx hb dX0_bound_7 (by decide) (fun c5 => ?_) (fun c5 => ?_)
  · have hf := hf.2 c5
    refine lv_iconst (v := 3) hx hb dX0_bound_13 (by decide) ?_
    refine lv_istore_n (lv' := [(1, .int 3), (0, .ref a0)]) hx hb dX0_bound_14 rfl hl (by decide) rfl (fun ls hl => ?_)
    obtain ⟨n, hf⟩ := hf
    exact L15 n (3 : Int32) mc ms G3 hf _ _ hm H locs hI ls (lv_sub hl [1, 0] rfl)
  · have hf := hf.1 c5
    refine lv_bipush (v := -2) hx hb dX0_bound_10 (by decide) ?_
    exact hret hf hI dX0_bound_12 (hmC hm.1) (hmC hm.2)
/-! MergeJudge$Least.of(I)LMergeJudge$Least; -/
def hX4_of (j : JX) (Λ : JLam) (a0 : Nat) (p1 : Int32) (mc ms : Nat) (G : HG) (post : Option Nat → HG → Prop) : Prop :=
  ptV G a0 4 4 (.int 10000000) fun G1 => gtQ G1 a0 4 5 fun q2 => 1 ≤ mc ∧ 1 ≤ ms ∧ mkO G1 (.inr (46, .ref a0 :: ([] : List Int32).map .int)) fun a3 G4 => nnq q2 fun a5 => isO G4 a5 0 (∃ m6 m7 : Nat, m6 ≤ mc - 1 ∧ m7 ≤ ms - 1 ∧ hX0_through j Λ a5 p1 a3 m6 m7 G4 fun x9 G8 => post (some a0) G8)
abbrev rhX4_of (fr lo mc ms : Nat) : Room := { frames := fr + 6, cells := mc, slots := ms, locals := lo + 3200 }
theorem mhX4_of (l : Launch) (Z : (Nat → Prop) → State → Heap → Prop) (D : va_G) (j : JX) (Λ : JLam) (fr lo : Nat) (E : JE l Z D j Λ fr lo) (a0 : Nat) (p1 : Int32) (mc ms : Nat) (G : HG) (post : Option Nat → HG → Prop) (hf : hX4_of j Λ a0 p1 mc ms G post) : HMq l yX4_of (ws_ yX4_of cX4_of 2 (some (.object "MergeJudge$Least"))) (rhX4_of fr lo mc ms) D jC (jty j.1) Z G [.ref a0, .int p1] post mc ms := by
  obtain ⟨MC, eMC⟩ : ∃ MC, MC = mc := ⟨_, rfl⟩
  obtain ⟨MS, eMS⟩ : ∃ MS, MS = ms := ⟨_, rfl⟩
  suffices goal : HMq l yX4_of (ws_ yX4_of cX4_of 2 (some (.object "MergeJudge$Least"))) (rhX4_of fr lo MC MS) D jC (jty j.1) Z G [.ref a0, .int p1] post MC MS by rw [eMC, eMS] at goal; exact goal
  have hm0_ : 0 + mc ≤ MC ∧ 0 + ms ≤ MS := by omega
  clear eMC eMS
  refine h_openq (Or.inl ⟨_, rfl⟩) E.1 (by decide) (by exact Nat.le_of_ble_eq_true rfl) (fun p e s m args below meth c ls A0 Q X hI hnd hnm hl hret => ?_)
  have X : XC p s m args meth c cX4_of 2 RX4 D jC (jty j.1) A0 Z := X
  have hx := X.1
  have hb := X.2.1
  have hown := X.2.2.2.1
  have hts := X.2.2.2.2.1
  have hl : lv_has ls 2 [(0, .ref a0), (1, .int p1)] := by exact hl
  unfold hX4_of at hf
  obtain ⟨H, eH⟩ : ∃ H, H = s.heap := ⟨_, rfl⟩
  obtain ⟨locs, eL⟩ : ∃ locs : List Loc, locs = [] := ⟨_, rfl⟩
  have hI : HI D jC G A0 s.heap H locs := by rw [eH, eL]; exact hI
  rw [← eL]
  obtain ⟨cells, eC⟩ : ∃ n : Nat, n = 0 := ⟨_, rfl⟩
  obtain ⟨slots, eS⟩ : ∃ n : Nat, n = 0 := ⟨_, rfl⟩
  have hm : cells + mc ≤ MC ∧ slots + ms ≤ MS := by rw [eC, eS]; exact hm0_
  suffices h : W p l e (rhX4_of fr lo MC MS) s m args below meth c H locs cells slots Q (F0 m 0 ls []) by rw [eH, eC, eS] at h; exact h
  clear eH eL eC eS
  refine lv_aload_n hx hb dX4_of_0 rfl (lv_at hl 0 rfl) ?_
  refine lv_ldc (v := 10000000) hx hb hown (hts _ q2286) dX4_of_1 ?_
  refine hr_pt X hI (rfl : jC.1[4]? = some (RX4, TX4, 6)) in_X4 4 (Nat.le_of_ble_eq_true rfl) tyX4 tyX4_ok nmX4 hf q592 (fun _ h => h) rfl rfl rfl dX4_of_3 (fun G1 H locs hf hI => ?_)
  refine lv_aload_n hx hb dX4_of_6 rfl (lv_at hl 0 rfl) ?_
  refine hr_gtQ X hI (rfl : jC.1[4]? = some (RX4, TX4, 6)) in_X4 5 (Nat.le_of_ble_eq_true rfl) hf q593 (fun _ h => h) dX4_of_7 (fun q2 hf => ?_)
  refine lv_iload_n hx hb dX4_of_10 rfl (lv_at hl 1 rfl) ?_
  refine lv_aload_n hx hb dX4_of_11 rfl (lv_at hl 0 rfl) ?_
  obtain ⟨hb1, hb2, hf⟩ := hf
  refine E.2.2.2.1 23 yX4_of 12 20 a0 [] rfl (rest := [.int p1, va_rf q2]) X hI hnd hl.1 (by cases q2 <;> exact Nat.le_of_ble_eq_true rfl) dX4_of_12 (by show 3200 ≤ lo + 3200; omega) (hmA hm.1 hb1) (hmA hm.2 hb2) hf (fun a3 G4 H hf hI => ?_)
  have hm := And.intro (hmB hm.1 hb1) (hmB hm.2 hb2)
  clear hb1 hb2
  obtain ⟨a5, ea5, hf⟩ := hf
  revert hl hf
  subst ea5
  intro hl hf
  have hl : lv_has ls 2 [(0, .ref a0), (1, .int p1)] := hl
  obtain ⟨_, _, hO, hf⟩ := hf
  obtain ⟨m6, m7, hb1, hb2, hf⟩ := hf
  refine h_ki X hI (h_runVN (As := [.int p1, .ref a3]) X hI (h_recv X hI hO (show jC.1[0]? = some (RX0, TX0, 20) from rfl)) (mhX0_through l Z D j Λ fr lo E a5 p1 a3 m6 m7 G4 _ hf H.size) (cwVn 2 hts (E.nw X q2290 rfl) q2210 qs62 q167 q2211 rfl rfl (by decide +kernel) (by show fr + 5 + 1 ≤ fr + 6 ∧ 8 + (5 + 11) + (lo + 137) ≤ lo + 3200; omega)) rfl hl.1 (Nat.le_of_ble_eq_true rfl) dX4_of_17 ⟨hmA hm.1 hb1, hmA hm.2 hb2⟩ rfl) (fun x9 G8 H locs hf hI => ?_)
  have hm := And.intro (hmB hm.1 hb1) (hmB hm.2 hb2)
  clear hb1 hb2
  clear hO
  refine lv_pop hx hb dX4_of_20 rfl ?_
  refine lv_aload_n hx hb dX4_of_21 rfl (lv_at hl 0 rfl) ?_
  exact hret (v := (some a0)) hf hI dX4_of_22 (hmC hm.1) (hmC hm.2)
/-! MergeJudge$Least.what(I)I -/
def hX4_what (j : JX) (Λ : JLam) (a0 : Nat) (p1 : Int32) (G : HG) (post : Int32 → HG → Prop) : Prop :=
  gtI G a0 4 4 fun x1 => (x1 = (10000000 : Int32) → (post ((-1) : Int32) G)) ∧ (¬ x1 = (10000000 : Int32) → ((p1 = 0 → (gtI G a0 4 0 fun x11 => post x11 G)) ∧ (¬ p1 = 0 → ((p1 = (1 : Int32) → (gtI G a0 4 1 fun x10 => post x10 G)) ∧ (¬ p1 = (1 : Int32) → ((p1 = (2 : Int32) → (gtI G a0 4 2 fun x9 => post x9 G)) ∧ (¬ p1 = (2 : Int32) → ((p1 = (3 : Int32) → (gtI G a0 4 3 fun x8 => post x8 G)) ∧ (¬ p1 = (3 : Int32) → (gtI G a0 4 4 fun x7 => post x7 G))))))))))
abbrev rhX4_what (fr lo : Nat) : Room := { frames := fr + 1, cells := 0, slots := 0, locals := lo + 40 }
theorem mhX4_what (l : Launch) (Z : (Nat → Prop) → State → Heap → Prop) (D : va_G) (j : JX) (Λ : JLam) (fr lo : Nat) (E : JE l Z D j Λ fr lo) (a0 : Nat) (p1 : Int32) (G : HG) (post : Int32 → HG → Prop) (hf : hX4_what j Λ a0 p1 G post) : HMi l yX4_what (ws_ yX4_what cX4_what 2 (some .int)) (rhX4_what fr lo) D jC (jty j.1) Z G [.ref a0, .int p1] post 0 0 := by
  refine h_openi E.1 (by decide) (by exact Nat.le_of_ble_eq_true rfl) (fun p e s m args below meth c ls A0 Q X hI hnd hnm hl hret => ?_)
  have X : XC p s m args meth c cX4_what 2 RX4 D jC (jty j.1) A0 Z := X
  have hx := X.1
  have hb := X.2.1
  have hown := X.2.2.2.1
  have hts := X.2.2.2.2.1
  have hl : lv_has ls 2 [(0, .ref a0), (1, .int p1)] := by exact hl
  unfold hX4_what at hf
  obtain ⟨H, eH⟩ : ∃ H, H = s.heap := ⟨_, rfl⟩
  obtain ⟨locs, eL⟩ : ∃ locs : List Loc, locs = [] := ⟨_, rfl⟩
  have hI : HI D jC G A0 s.heap H locs := by rw [eH, eL]; exact hI
  rw [← eL]
  suffices h : W p l e (rhX4_what fr lo) s m args below meth c H locs 0 0 Q (F0 m 0 ls []) by rw [eH] at h; exact h
  clear eH eL
  refine lv_aload_n hx hb dX4_what_0 rfl (lv_at hl 0 rfl) ?_
  refine hr_gtI X hI (rfl : jC.1[4]? = some (RX4, TX4, 6)) in_X4 4 (Nat.le_of_ble_eq_true rfl) hf q592 (fun _ h => h) dX4_what_1 (fun x1 hf => ?_)
  refine lv_ldc (v := 10000000) hx hb hown (hts _ q2286) dX4_what_4 ?_
  refine lv_icmp_ne (tgt := 13) hx hb dX4_what_6 (by decide) (fun c2 => ?_) (fun c2 => ?_)
  · have hf := hf.2 c2
    refine lv_iload_n hx hb dX4_what_13 rfl (lv_at hl 1 rfl) ?_
    refine lv_if_ne (tgt := 24) hx hb dX4_what_14 (by decide) (fun c3 => ?_) (fun c3 => ?_)
    · have hf := hf.2 c3
      refine lv_iload_n hx hb dX4_what_24 rfl (lv_at hl 1 rfl) ?_
      refine lv_iconst (v := 1) hx hb dX4_what_25 (by decide) ?_
      refine lv_icmp_ne (tgt := 36) hx hb dX4_what_26 (by decide) (fun c4 => ?_) (fun c4 => ?_)
      · have hf := hf.2 c4
        refine lv_iload_n hx hb dX4_what_36 rfl (lv_at hl 1 rfl) ?_
        refine lv_iconst (v := 2) hx hb dX4_what_37 (by decide) ?_
        refine lv_icmp_ne (tgt := 48) hx hb dX4_what_38 (by decide) (fun c5 => ?_) (fun c5 => ?_)
        · have hf := hf.2 c5
          refine lv_iload_n hx hb dX4_what_48 rfl (lv_at hl 1 rfl) ?_
          refine lv_iconst (v := 3) hx hb dX4_what_49 (by decide) ?_
          refine lv_icmp_ne (tgt := 60) hx hb dX4_what_50 (by decide) (fun c6 => ?_) (fun c6 => ?_)
          · have hf := hf.2 c6
            refine lv_aload_n hx hb dX4_what_60 rfl (lv_at hl 0 rfl) ?_
            refine hr_gtI X hI (rfl : jC.1[4]? = some (RX4, TX4, 6)) in_X4 4 (Nat.le_of_ble_eq_true rfl) hf q592 (fun _ h => h) dX4_what_61 (fun x7 hf => ?_)
            exact hret hf hI dX4_what_64 (Nat.le_refl _) (Nat.le_refl _)
          · have hf := hf.1 c6
            refine lv_aload_n hx hb dX4_what_53 rfl (lv_at hl 0 rfl) ?_
            refine hr_gtI X hI (rfl : jC.1[4]? = some (RX4, TX4, 6)) in_X4 3 (Nat.le_of_ble_eq_true rfl) hf q590 (fun _ h => h) dX4_what_54 (fun x8 hf => ?_)
            refine lv_goto (tgt := 64) hx hb dX4_what_57 (by decide) ?_
            exact hret hf hI dX4_what_64 (Nat.le_refl _) (Nat.le_refl _)
        · have hf := hf.1 c5
          refine lv_aload_n hx hb dX4_what_41 rfl (lv_at hl 0 rfl) ?_
          refine hr_gtI X hI (rfl : jC.1[4]? = some (RX4, TX4, 6)) in_X4 2 (Nat.le_of_ble_eq_true rfl) hf q589 (fun _ h => h) dX4_what_42 (fun x9 hf => ?_)
          refine lv_goto (tgt := 64) hx hb dX4_what_45 (by decide) ?_
          exact hret hf hI dX4_what_64 (Nat.le_refl _) (Nat.le_refl _)
      · have hf := hf.1 c4
        refine lv_aload_n hx hb dX4_what_29 rfl (lv_at hl 0 rfl) ?_
        refine hr_gtI X hI (rfl : jC.1[4]? = some (RX4, TX4, 6)) in_X4 1 (Nat.le_of_ble_eq_true rfl) hf q588 (fun _ h => h) dX4_what_30 (fun x10 hf => ?_)
        refine lv_goto (tgt := 64) hx hb dX4_what_33 (by decide) ?_
        exact hret hf hI dX4_what_64 (Nat.le_refl _) (Nat.le_refl _)
    · have hf := hf.1 c3
      refine lv_aload_n hx hb dX4_what_17 rfl (lv_at hl 0 rfl) ?_
      refine hr_gtI X hI (rfl : jC.1[4]? = some (RX4, TX4, 6)) in_X4 0 (Nat.le_of_ble_eq_true rfl) hf q587 (fun _ h => h) dX4_what_18 (fun x11 hf => ?_)
      refine lv_goto (tgt := 64) hx hb dX4_what_21 (by decide) ?_
      exact hret hf hI dX4_what_64 (Nat.le_refl _) (Nat.le_refl _)
  · have hf := hf.1 c2
    refine lv_iconst (v := -1) hx hb dX4_what_9 (by decide) ?_
    refine lv_goto (tgt := 64) hx hb dX4_what_10 (by decide) ?_
    exact hret hf hI dX4_what_64 (Nat.le_refl _) (Nat.le_refl _)
/-! MergeJudge.least(II)I -/
def hX0_least (j : JX) (Λ : JLam) (a0 : Nat) (p1 : Int32) (p2 : Int32) (mc ms : Nat) (G : HG) (post : Int32 → HG → Prop) : Prop :=
  isO G a0 0 (hX0_isDeep j Λ a0 p1 G fun x2 G1 => (x2 = 0 → (post ((-2) : Int32) G1)) ∧ (¬ x2 = 0 → (hX0_in j Λ p2.toInt64 (0 : Int64) (4 : Int64) G1 fun x5 G4 => (x5 = 0 → (post ((-2) : Int32) G4)) ∧ (¬ x5 = 0 → (gtQ G4 a0 0 17 fun q7 => nnq q7 fun a8 => isO G4 a8 4 (∃ m9 m10 : Nat, m9 ≤ mc ∧ m10 ≤ ms ∧ hX4_of j Λ a8 p1 m9 m10 G4 fun q12 G11 => nnq q12 fun a13 => isO G11 a13 4 (hX4_what j Λ a13 p2 G11 fun x15 G14 => post x15 G14)))))))
abbrev rhX0_least (fr lo mc ms : Nat) : Room := { frames := fr + 7, cells := mc, slots := ms, locals := lo + 3221 }
theorem mhX0_least (l : Launch) (Z : (Nat → Prop) → State → Heap → Prop) (D : va_G) (j : JX) (Λ : JLam) (fr lo : Nat) (E : JE l Z D j Λ fr lo) (a0 : Nat) (p1 : Int32) (p2 : Int32) (mc ms : Nat) (G : HG) (post : Int32 → HG → Prop) (hf : hX0_least j Λ a0 p1 p2 mc ms G post) : HMi l yX0_least (ws_ yX0_least cX0_least 3 (some .int)) (rhX0_least fr lo mc ms) D jC (jty j.1) Z G [.ref a0, .int p1, .int p2] post mc ms := by
  obtain ⟨MC, eMC⟩ : ∃ MC, MC = mc := ⟨_, rfl⟩
  obtain ⟨MS, eMS⟩ : ∃ MS, MS = ms := ⟨_, rfl⟩
  suffices goal : HMi l yX0_least (ws_ yX0_least cX0_least 3 (some .int)) (rhX0_least fr lo MC MS) D jC (jty j.1) Z G [.ref a0, .int p1, .int p2] post MC MS by rw [eMC, eMS] at goal; exact goal
  have hm0_ : 0 + mc ≤ MC ∧ 0 + ms ≤ MS := by omega
  clear eMC eMS
  refine h_openi E.1 (by decide) (by exact Nat.le_of_ble_eq_true rfl) (fun p e s m args below meth c ls A0 Q X hI hnd hnm hl hret => ?_)
  have X : XC p s m args meth c cX0_least 3 RX0 D jC (jty j.1) A0 Z := X
  have hx := X.1
  have hb := X.2.1
  have hown := X.2.2.2.1
  have hts := X.2.2.2.2.1
  have hl : lv_has ls 3 [(0, .ref a0), (1, .int p1), (2, .int p2)] := by exact hl
  unfold hX0_least at hf
  obtain ⟨H, eH⟩ : ∃ H, H = s.heap := ⟨_, rfl⟩
  obtain ⟨locs, eL⟩ : ∃ locs : List Loc, locs = [] := ⟨_, rfl⟩
  have hI : HI D jC G A0 s.heap H locs := by rw [eH, eL]; exact hI
  rw [← eL]
  obtain ⟨cells, eC⟩ : ∃ n : Nat, n = 0 := ⟨_, rfl⟩
  obtain ⟨slots, eS⟩ : ∃ n : Nat, n = 0 := ⟨_, rfl⟩
  have hm : cells + mc ≤ MC ∧ slots + ms ≤ MS := by rw [eC, eS]; exact hm0_
  suffices h : W p l e (rhX0_least fr lo MC MS) s m args below meth c H locs cells slots Q (F0 m 0 ls []) by rw [eH, eC, eS] at h; exact h
  clear eH eL eC eS
  refine lv_aload_n hx hb dX0_least_0 rfl (lv_at hl 0 rfl) ?_
  refine lv_iload_n hx hb dX0_least_1 rfl (lv_at hl 1 rfl) ?_
  obtain ⟨_, _, hO, hf⟩ := hf
  refine h_ki X hI (h_runV (As := [.int p1]) X hI (h_recv X hI hO (show jC.1[0]? = some (RX0, TX0, 20) from rfl)) (mhX0_isDeep l Z D j Λ fr lo E a0 p1 G _ hf H.size) (cwV 1 hts (lw_V q1976 q1978 qs44 q167 q1979) rfl rfl rfl (by decide +kernel) (by show fr + 2 + 1 ≤ fr + 7 ∧ 8 + (2 + 11) + (lo + 65) ≤ lo + 3221; omega)) rfl hl.1 (Nat.le_of_ble_eq_true rfl) dX0_least_2 ⟨hm0 hm.1, hm0 hm.2⟩ rfl) (fun x2 G1 H locs hf hI => ?_)
  clear hO
  refine lv_if_eq (tgt := 35) hx hb dX0_least_5 (by decide) (fun c3 => ?_) (fun c3 => ?_)
  · have hf := hf.1 c3
    refine lv_bipush (v := -2) hx hb dX0_least_35 (by decide) ?_
    exact hret hf hI dX0_least_37 (hmC hm.1) (hmC hm.2)
  · have hf := hf.2 c3
    refine lv_iload_n hx hb dX0_least_8 rfl (lv_at hl 2 rfl) ?_
    refine lv_i2l hx hb dX0_least_9 rfl ?_
    refine lv_lconst (v := 0) hx hb dX0_least_10 (by decide) ?_
    refine lv_ldc2 (v := 4) hx hb hown (hts _ q2108) dX0_least_11 ?_
    refine h_ki X hI (h_runS (As := [.long p2.toInt64, .long 0, .long 4]) X hI (mhX0_in l Z D j Λ fr lo E p2.toInt64 (0 : Int64) (4 : Int64) G1 _ hf H.size) (va_cwS 3 hts (lw_S q226 q227 q167 q228) rfl rfl rfl (by decide +kernel) (by show fr + 1 + 1 ≤ fr + 7 ∧ 8 + (6 + 11) + (lo + 40) ≤ lo + 3221; omega)) rfl hl.1 (Nat.le_of_ble_eq_true rfl) dX0_least_14 ⟨hm0 hm.1, hm0 hm.2⟩ rfl) (fun x5 G4 H locs hf hI => ?_)
    refine lv_if_eq (tgt := 35) hx hb dX0_least_17 (by decide) (fun c6 => ?_) (fun c6 => ?_)
    · have hf := hf.1 c6
      refine lv_bipush (v := -2) hx hb dX0_least_35 (by decide) ?_
      exact hret hf hI dX0_least_37 (hmC hm.1) (hmC hm.2)
    · have hf := hf.2 c6
      refine lv_aload_n hx hb dX0_least_20 rfl (lv_at hl 0 rfl) ?_
      refine hr_gtQ X hI (rfl : jC.1[0]? = some (RX0, TX0, 20)) in_X0 17 (Nat.le_of_ble_eq_true rfl) hf q672 (fun _ h => h) dX0_least_21 (fun q7 hf => ?_)
      refine lv_iload_n hx hb dX0_least_24 rfl (lv_at hl 1 rfl) ?_
      obtain ⟨a8, ea8, hf⟩ := hf
      revert hl hf
      subst ea8
      intro hl hf
      have hl : lv_has ls 3 [(0, .ref a0), (1, .int p1), (2, .int p2)] := hl
      obtain ⟨_, _, hO, hf⟩ := hf
      obtain ⟨m9, m10, hb1, hb2, hf⟩ := hf
      refine h_kq X hI (h_runV (As := [.int p1]) X hI (h_recv X hI hO (show jC.1[4]? = some (RX4, TX4, 6) from rfl)) (mhX4_of l Z D j Λ fr lo E a8 p1 m9 m10 G4 _ hf H.size) (cwV 1 hts (lw_V q2282 q2283 q2284 q175 q2285) rfl rfl rfl (by decide +kernel) (by show fr + 6 + 1 ≤ fr + 7 ∧ 8 + (2 + 11) + (lo + 3200) ≤ lo + 3221; omega)) rfl hl.1 (Nat.le_of_ble_eq_true rfl) dX0_least_25 ⟨hmA hm.1 hb1, hmA hm.2 hb2⟩ rfl) (fun q12 G11 H locs hf hI => ?_)
      have hm := And.intro (hmB hm.1 hb1) (hmB hm.2 hb2)
      clear hb1 hb2
      clear hO
      refine lv_iload_n hx hb dX0_least_28 rfl (lv_at hl 2 rfl) ?_
      obtain ⟨a13, ea13, hf⟩ := hf
      revert hl hf
      subst ea13
      intro hl hf
      have hl : lv_has ls 3 [(0, .ref a0), (1, .int p1), (2, .int p2)] := hl
      obtain ⟨_, _, hO, hf⟩ := hf
      refine h_ki X hI (h_runV (As := [.int p2]) X hI (h_recv X hI hO (show jC.1[4]? = some (RX4, TX4, 6) from rfl)) (mhX4_what l Z D j Λ fr lo E a13 p2 G11 _ hf H.size) (cwV 1 hts (lw_V q2291 q2292 q2293 q175 q2294) rfl rfl rfl (by decide +kernel) (by show fr + 1 + 1 ≤ fr + 7 ∧ 8 + (2 + 11) + (lo + 40) ≤ lo + 3221; omega)) rfl hl.1 (Nat.le_of_ble_eq_true rfl) dX0_least_29 ⟨hm0 hm.1, hm0 hm.2⟩ rfl) (fun x15 G14 H locs hf hI => ?_)
      clear hO
      refine lv_goto (tgt := 37) hx hb dX0_least_32 (by decide) ?_
      exact hret hf hI dX0_least_37 (hmC hm.1) (hmC hm.2)
/-! MergeJudge.culprit(I)I -/
def hX0_culprit (j : JX) (Λ : JLam) (a0 : Nat) (p1 : Int32) (mc ms : Nat) (G : HG) (post : Int32 → HG → Prop) : Prop :=
  isO G a0 0 (hX0_isDeep j Λ a0 p1 G fun x2 G1 => (x2 = 0 → (post ((-2) : Int32) G1)) ∧ (¬ x2 = 0 → (gtQ G1 a0 0 17 fun q4 => nnq q4 fun a5 => isO G1 a5 4 (∃ m6 m7 : Nat, m6 ≤ mc ∧ m7 ≤ ms ∧ hX4_of j Λ a5 p1 m6 m7 G1 fun q9 G8 => nnq q9 fun a10 => isO G8 a10 4 (hX4_what j Λ a10 (0 : Int32) G8 fun x12 G11 => (x12 = ((-1) : Int32) → (post ((-1) : Int32) G11)) ∧ (¬ x12 = ((-1) : Int32) → (gtQ G11 a0 0 17 fun q14 => nnq q14 fun a15 => gtI G11 a15 4 3 fun x16 => isO G11 a0 0 (hX0_breaksIn j Λ a0 x16 G11 fun x18 G17 => post x18 G17))))))))
abbrev rhX0_culprit (fr lo mc ms : Nat) : Room := { frames := fr + 7, cells := mc, slots := ms, locals := lo + 3221 }
theorem mhX0_culprit (l : Launch) (Z : (Nat → Prop) → State → Heap → Prop) (D : va_G) (j : JX) (Λ : JLam) (fr lo : Nat) (E : JE l Z D j Λ fr lo) (a0 : Nat) (p1 : Int32) (mc ms : Nat) (G : HG) (post : Int32 → HG → Prop) (hf : hX0_culprit j Λ a0 p1 mc ms G post) : HMi l yX0_culprit (ws_ yX0_culprit cX0_culprit 2 (some .int)) (rhX0_culprit fr lo mc ms) D jC (jty j.1) Z G [.ref a0, .int p1] post mc ms := by
  obtain ⟨MC, eMC⟩ : ∃ MC, MC = mc := ⟨_, rfl⟩
  obtain ⟨MS, eMS⟩ : ∃ MS, MS = ms := ⟨_, rfl⟩
  suffices goal : HMi l yX0_culprit (ws_ yX0_culprit cX0_culprit 2 (some .int)) (rhX0_culprit fr lo MC MS) D jC (jty j.1) Z G [.ref a0, .int p1] post MC MS by rw [eMC, eMS] at goal; exact goal
  have hm0_ : 0 + mc ≤ MC ∧ 0 + ms ≤ MS := by omega
  clear eMC eMS
  refine h_openi E.1 (by decide) (by exact Nat.le_of_ble_eq_true rfl) (fun p e s m args below meth c ls A0 Q X hI hnd hnm hl hret => ?_)
  have X : XC p s m args meth c cX0_culprit 2 RX0 D jC (jty j.1) A0 Z := X
  have hx := X.1
  have hb := X.2.1
  have hown := X.2.2.2.1
  have hts := X.2.2.2.2.1
  have hl : lv_has ls 2 [(0, .ref a0), (1, .int p1)] := by exact hl
  unfold hX0_culprit at hf
  obtain ⟨H, eH⟩ : ∃ H, H = s.heap := ⟨_, rfl⟩
  obtain ⟨locs, eL⟩ : ∃ locs : List Loc, locs = [] := ⟨_, rfl⟩
  have hI : HI D jC G A0 s.heap H locs := by rw [eH, eL]; exact hI
  rw [← eL]
  obtain ⟨cells, eC⟩ : ∃ n : Nat, n = 0 := ⟨_, rfl⟩
  obtain ⟨slots, eS⟩ : ∃ n : Nat, n = 0 := ⟨_, rfl⟩
  have hm : cells + mc ≤ MC ∧ slots + ms ≤ MS := by rw [eC, eS]; exact hm0_
  suffices h : W p l e (rhX0_culprit fr lo MC MS) s m args below meth c H locs cells slots Q (F0 m 0 ls []) by rw [eH, eC, eS] at h; exact h
  clear eH eL eC eS
  refine lv_aload_n hx hb dX0_culprit_0 rfl (lv_at hl 0 rfl) ?_
  refine lv_iload_n hx hb dX0_culprit_1 rfl (lv_at hl 1 rfl) ?_
  obtain ⟨_, _, hO, hf⟩ := hf
  refine h_ki X hI (h_runV (As := [.int p1]) X hI (h_recv X hI hO (show jC.1[0]? = some (RX0, TX0, 20) from rfl)) (mhX0_isDeep l Z D j Λ fr lo E a0 p1 G _ hf H.size) (cwV 1 hts (lw_V q1976 q1978 qs44 q167 q1979) rfl rfl rfl (by decide +kernel) (by show fr + 2 + 1 ≤ fr + 7 ∧ 8 + (2 + 11) + (lo + 65) ≤ lo + 3221; omega)) rfl hl.1 (Nat.le_of_ble_eq_true rfl) dX0_culprit_2 ⟨hm0 hm.1, hm0 hm.2⟩ rfl) (fun x2 G1 H locs hf hI => ?_)
  clear hO
  refine lv_if_ne (tgt := 11) hx hb dX0_culprit_5 (by decide) (fun c3 => ?_) (fun c3 => ?_)
  · have hf := hf.2 c3
    refine lv_aload_n hx hb dX0_culprit_11 rfl (lv_at hl 0 rfl) ?_
    refine hr_gtQ X hI (rfl : jC.1[0]? = some (RX0, TX0, 20)) in_X0 17 (Nat.le_of_ble_eq_true rfl) hf q672 (fun _ h => h) dX0_culprit_12 (fun q4 hf => ?_)
    refine lv_iload_n hx hb dX0_culprit_15 rfl (lv_at hl 1 rfl) ?_
    obtain ⟨a5, ea5, hf⟩ := hf
    revert hl hf
    subst ea5
    intro hl hf
    have hl : lv_has ls 2 [(0, .ref a0), (1, .int p1)] := hl
    obtain ⟨_, _, hO, hf⟩ := hf
    obtain ⟨m6, m7, hb1, hb2, hf⟩ := hf
    refine h_kq X hI (h_runV (As := [.int p1]) X hI (h_recv X hI hO (show jC.1[4]? = some (RX4, TX4, 6) from rfl)) (mhX4_of l Z D j Λ fr lo E a5 p1 m6 m7 G1 _ hf H.size) (cwV 1 hts (lw_V q2282 q2283 q2284 q175 q2285) rfl rfl rfl (by decide +kernel) (by show fr + 6 + 1 ≤ fr + 7 ∧ 8 + (2 + 11) + (lo + 3200) ≤ lo + 3221; omega)) rfl hl.1 (Nat.le_of_ble_eq_true rfl) dX0_culprit_16 ⟨hmA hm.1 hb1, hmA hm.2 hb2⟩ rfl) (fun q9 G8 H locs hf hI => ?_)
    have hm := And.intro (hmB hm.1 hb1) (hmB hm.2 hb2)
    clear hb1 hb2
    clear hO
    refine lv_iconst (v := 0) hx hb dX0_culprit_19 (by decide) ?_
    obtain ⟨a10, ea10, hf⟩ := hf
    revert hl hf
    subst ea10
    intro hl hf
    have hl : lv_has ls 2 [(0, .ref a0), (1, .int p1)] := hl
    obtain ⟨_, _, hO, hf⟩ := hf
    refine h_ki X hI (h_runV (As := [.int 0]) X hI (h_recv X hI hO (show jC.1[4]? = some (RX4, TX4, 6) from rfl)) (mhX4_what l Z D j Λ fr lo E a10 (0 : Int32) G8 _ hf H.size) (cwV 1 hts (lw_V q2291 q2292 q2293 q175 q2294) rfl rfl rfl (by decide +kernel) (by show fr + 1 + 1 ≤ fr + 7 ∧ 8 + (2 + 11) + (lo + 40) ≤ lo + 3221; omega)) rfl hl.1 (Nat.le_of_ble_eq_true rfl) dX0_culprit_20 ⟨hm0 hm.1, hm0 hm.2⟩ rfl) (fun x12 G11 H locs hf hI => ?_)
    clear hO
    refine lv_iconst (v := -1) hx hb dX0_culprit_23 (by decide) ?_
    refine lv_icmp_ne (tgt := 31) hx hb dX0_culprit_24 (by decide) (fun c13 => ?_) (fun c13 => ?_)
    · have hf := hf.2 c13
      refine lv_aload_n hx hb dX0_culprit_31 rfl (lv_at hl 0 rfl) ?_
      refine lv_aload_n hx hb dX0_culprit_32 rfl (lv_at hl 0 rfl) ?_
      refine hr_gtQ X hI (rfl : jC.1[0]? = some (RX0, TX0, 20)) in_X0 17 (Nat.le_of_ble_eq_true rfl) hf q672 (fun _ h => h) dX0_culprit_33 (fun q14 hf => ?_)
      obtain ⟨a15, ea15, hf⟩ := hf
      revert hl hf
      subst ea15
      intro hl hf
      have hl : lv_has ls 2 [(0, .ref a0), (1, .int p1)] := hl
      refine hr_gtIN X hI (rfl : jC.1[4]? = some (RX4, TX4, 6)) in_X4 3 (Nat.le_of_ble_eq_true rfl) hf (E.nw X q591 rfl) (fun _ h => h) dX0_culprit_36 (fun x16 hf => ?_)
      obtain ⟨_, _, hO, hf⟩ := hf
      refine h_ki X hI (h_runV (As := [.int x16]) X hI (h_recv X hI hO (show jC.1[0]? = some (RX0, TX0, 20) from rfl)) (mhX0_breaksIn l Z D j Λ fr lo E a0 x16 G11 _ hf H.size) (cwV 1 hts (lw_V q1949 q1951 qs42 q167 q1952) rfl rfl rfl (by decide +kernel) (by show fr + 2 + 1 ≤ fr + 7 ∧ 8 + (3 + 11) + (lo + 61) ≤ lo + 3221; omega)) rfl hl.1 (Nat.le_of_ble_eq_true rfl) dX0_culprit_39 ⟨hm0 hm.1, hm0 hm.2⟩ rfl) (fun x18 G17 H locs hf hI => ?_)
      clear hO
      exact hret hf hI dX0_culprit_42 (hmC hm.1) (hmC hm.2)
    · have hf := hf.1 c13
      refine lv_iconst (v := -1) hx hb dX0_culprit_27 (by decide) ?_
      refine lv_goto (tgt := 42) hx hb dX0_culprit_28 (by decide) ?_
      exact hret hf hI dX0_culprit_42 (hmC hm.1) (hmC hm.2)
  · have hf := hf.1 c3
    refine lv_bipush (v := -2) hx hb dX0_culprit_8 (by decide) ?_
    exact hret hf hI dX0_culprit_10 (hmC hm.1) (hmC hm.2)
/-! MergeJudge.laysHits(I)V -/
def hX0_laysHits (j : JX) (Λ : JLam) (a0 : Nat) (p1 : Int32) (mc ms : Nat) (G : HG) (post : HG → Prop) : Prop :=
  gtQ G a0 0 18 fun q1 => hJ26_fill_2 j Λ q1 (0 : Int32) G fun G2 => 1 ≤ mc ∧ 1 ≤ ms ∧ mkO G2 (.inr (47, .ref a0 :: ([] : List Int32).map .int)) fun a3 G4 => isO G4 a0 0 (∃ m5 m6 : Nat, m5 ≤ mc - 1 ∧ m6 ≤ ms - 1 ∧ hX0_through j Λ a0 p1 a3 m5 m6 G4 fun x8 G7 => post G7)
abbrev rhX0_laysHits (fr lo mc ms : Nat) : Room := { frames := fr + 6, cells := mc, slots := ms, locals := lo + 3200 }
theorem mhX0_laysHits (l : Launch) (Z : (Nat → Prop) → State → Heap → Prop) (D : va_G) (j : JX) (Λ : JLam) (fr lo : Nat) (E : JE l Z D j Λ fr lo) (a0 : Nat) (p1 : Int32) (mc ms : Nat) (G : HG) (post : HG → Prop) (hf : hX0_laysHits j Λ a0 p1 mc ms G post) : HMv l yX0_laysHits (ws_ yX0_laysHits cX0_laysHits 2 none) (rhX0_laysHits fr lo mc ms) D jC (jty j.1) Z G [.ref a0, .int p1] post mc ms := by
  obtain ⟨MC, eMC⟩ : ∃ MC, MC = mc := ⟨_, rfl⟩
  obtain ⟨MS, eMS⟩ : ∃ MS, MS = ms := ⟨_, rfl⟩
  suffices goal : HMv l yX0_laysHits (ws_ yX0_laysHits cX0_laysHits 2 none) (rhX0_laysHits fr lo MC MS) D jC (jty j.1) Z G [.ref a0, .int p1] post MC MS by rw [eMC, eMS] at goal; exact goal
  have hm0_ : 0 + mc ≤ MC ∧ 0 + ms ≤ MS := by omega
  clear eMC eMS
  refine h_openv E.1 (by decide) (by exact Nat.le_of_ble_eq_true rfl) (fun p e s m args below meth c ls A0 Q X hI hnd hnm hl hret => ?_)
  have X : XC p s m args meth c cX0_laysHits 2 RX0 D jC (jty j.1) A0 Z := X
  have hx := X.1
  have hb := X.2.1
  have hown := X.2.2.2.1
  have hts := X.2.2.2.2.1
  have hl : lv_has ls 2 [(0, .ref a0), (1, .int p1)] := by exact hl
  unfold hX0_laysHits at hf
  obtain ⟨H, eH⟩ : ∃ H, H = s.heap := ⟨_, rfl⟩
  obtain ⟨locs, eL⟩ : ∃ locs : List Loc, locs = [] := ⟨_, rfl⟩
  have hI : HI D jC G A0 s.heap H locs := by rw [eH, eL]; exact hI
  rw [← eL]
  obtain ⟨cells, eC⟩ : ∃ n : Nat, n = 0 := ⟨_, rfl⟩
  obtain ⟨slots, eS⟩ : ∃ n : Nat, n = 0 := ⟨_, rfl⟩
  have hm : cells + mc ≤ MC ∧ slots + ms ≤ MS := by rw [eC, eS]; exact hm0_
  suffices h : W p l e (rhX0_laysHits fr lo MC MS) s m args below meth c H locs cells slots Q (F0 m 0 ls []) by rw [eH, eC, eS] at h; exact h
  clear eH eL eC eS
  refine lv_aload_n hx hb dX0_laysHits_0 rfl (lv_at hl 0 rfl) ?_
  refine hr_gtQ X hI (rfl : jC.1[0]? = some (RX0, TX0, 20)) in_X0 18 (Nat.le_of_ble_eq_true rfl) hf q673 (fun _ h => h) dX0_laysHits_1 (fun q1 hf => ?_)
  refine lv_iconst (v := 0) hx hb dX0_laysHits_4 (by decide) ?_
  refine h_kv X hI (h_runS (As := [va_rf q1, .int 0]) X hI (mhJ26_fill_2 l Z D j Λ fr lo E q1 (0 : Int32) G _ hf H.size) (va_cwS 2 hts (lw_S q2307 q2000 q204 q2001) rfl rfl rfl (by decide +kernel) (by show fr + 1 + 1 ≤ fr + 6 ∧ 8 + (4 + 11) + (lo + 40) ≤ lo + 3200; omega)) rfl hl.1 (Nat.le_of_ble_eq_true rfl) dX0_laysHits_5 ⟨hm0 hm.1, hm0 hm.2⟩ rfl) (fun G2 H locs hf hI => ?_)
  refine lv_aload_n hx hb dX0_laysHits_8 rfl (lv_at hl 0 rfl) ?_
  refine lv_iload_n hx hb dX0_laysHits_9 rfl (lv_at hl 1 rfl) ?_
  refine lv_aload_n hx hb dX0_laysHits_10 rfl (lv_at hl 0 rfl) ?_
  obtain ⟨hb1, hb2, hf⟩ := hf
  refine E.2.2.2.1 24 yX0_laysHits 11 420 a0 [] rfl (rest := [.int p1, .ref a0]) X hI hnd hl.1 (Nat.le_of_ble_eq_true rfl) dX0_laysHits_11 (by show 3200 ≤ lo + 3200; omega) (hmA hm.1 hb1) (hmA hm.2 hb2) hf (fun a3 G4 H hf hI => ?_)
  have hm := And.intro (hmB hm.1 hb1) (hmB hm.2 hb2)
  clear hb1 hb2
  obtain ⟨_, _, hO, hf⟩ := hf
  obtain ⟨m5, m6, hb1, hb2, hf⟩ := hf
  refine h_ki X hI (h_runV (As := [.int p1, .ref a3]) X hI (h_recv X hI hO (show jC.1[0]? = some (RX0, TX0, 20) from rfl)) (mhX0_through l Z D j Λ fr lo E a0 p1 a3 m5 m6 G4 _ hf H.size) (cwV 2 hts (lw_V q2208 q2210 qs62 q167 q2211) rfl rfl rfl (by decide +kernel) (by show fr + 5 + 1 ≤ fr + 6 ∧ 8 + (5 + 11) + (lo + 137) ≤ lo + 3200; omega)) rfl hl.1 (Nat.le_of_ble_eq_true rfl) dX0_laysHits_16 ⟨hmA hm.1 hb1, hmA hm.2 hb2⟩ rfl) (fun x8 G7 H locs hf hI => ?_)
  have hm := And.intro (hmB hm.1 hb1) (hmB hm.2 hb2)
  clear hb1 hb2
  clear hO
  refine lv_pop hx hb dX0_laysHits_19 rfl ?_
  exact hret hf hI dX0_laysHits_20 (hmC hm.1) (hmC hm.2)
/-! MergeJudge.hits(II)I -/
def hX0_hits (j : JX) (Λ : JLam) (a0 : Nat) (p1 : Int32) (p2 : Int32) (mc ms : Nat) (G : HG) (post : Int32 → HG → Prop) : Prop :=
  isO G a0 0 (hX0_isRule j Λ a0 p1 G fun x2 G1 => (x2 = 0 → (post ((-2) : Int32) G1)) ∧ (¬ x2 = 0 → (isO G1 a0 0 (hX0_isDeep j Λ a0 p2 G1 fun x5 G4 => (x5 = 0 → (post ((-2) : Int32) G4)) ∧ (¬ x5 = 0 → (isO G4 a0 0 (∃ m7 m8 : Nat, m7 ≤ mc ∧ m8 ≤ ms ∧ hX0_laysHits j Λ a0 p2 m7 m8 G4 fun G9 => gtQ G9 a0 0 18 fun q10 => nnq q10 fun a11 => ldI G9 a11 (j.1 0) p1 fun x12 => post x12 G9)))))))
abbrev rhX0_hits (fr lo mc ms : Nat) : Room := { frames := fr + 7, cells := mc, slots := ms, locals := lo + 3221 }
theorem mhX0_hits (l : Launch) (Z : (Nat → Prop) → State → Heap → Prop) (D : va_G) (j : JX) (Λ : JLam) (fr lo : Nat) (E : JE l Z D j Λ fr lo) (a0 : Nat) (p1 : Int32) (p2 : Int32) (mc ms : Nat) (G : HG) (post : Int32 → HG → Prop) (hf : hX0_hits j Λ a0 p1 p2 mc ms G post) : HMi l yX0_hits (ws_ yX0_hits cX0_hits 3 (some .int)) (rhX0_hits fr lo mc ms) D jC (jty j.1) Z G [.ref a0, .int p1, .int p2] post mc ms := by
  obtain ⟨MC, eMC⟩ : ∃ MC, MC = mc := ⟨_, rfl⟩
  obtain ⟨MS, eMS⟩ : ∃ MS, MS = ms := ⟨_, rfl⟩
  suffices goal : HMi l yX0_hits (ws_ yX0_hits cX0_hits 3 (some .int)) (rhX0_hits fr lo MC MS) D jC (jty j.1) Z G [.ref a0, .int p1, .int p2] post MC MS by rw [eMC, eMS] at goal; exact goal
  have hm0_ : 0 + mc ≤ MC ∧ 0 + ms ≤ MS := by omega
  clear eMC eMS
  refine h_openi E.1 (by decide) (by exact Nat.le_of_ble_eq_true rfl) (fun p e s m args below meth c ls A0 Q X hI hnd hnm hl hret => ?_)
  have X : XC p s m args meth c cX0_hits 3 RX0 D jC (jty j.1) A0 Z := X
  have hx := X.1
  have hb := X.2.1
  have hown := X.2.2.2.1
  have hts := X.2.2.2.2.1
  have hl : lv_has ls 3 [(0, .ref a0), (1, .int p1), (2, .int p2)] := by exact hl
  unfold hX0_hits at hf
  obtain ⟨H, eH⟩ : ∃ H, H = s.heap := ⟨_, rfl⟩
  obtain ⟨locs, eL⟩ : ∃ locs : List Loc, locs = [] := ⟨_, rfl⟩
  have hI : HI D jC G A0 s.heap H locs := by rw [eH, eL]; exact hI
  rw [← eL]
  obtain ⟨cells, eC⟩ : ∃ n : Nat, n = 0 := ⟨_, rfl⟩
  obtain ⟨slots, eS⟩ : ∃ n : Nat, n = 0 := ⟨_, rfl⟩
  have hm : cells + mc ≤ MC ∧ slots + ms ≤ MS := by rw [eC, eS]; exact hm0_
  suffices h : W p l e (rhX0_hits fr lo MC MS) s m args below meth c H locs cells slots Q (F0 m 0 ls []) by rw [eH, eC, eS] at h; exact h
  clear eH eL eC eS
  refine lv_aload_n hx hb dX0_hits_0 rfl (lv_at hl 0 rfl) ?_
  refine lv_iload_n hx hb dX0_hits_1 rfl (lv_at hl 1 rfl) ?_
  obtain ⟨_, _, hO, hf⟩ := hf
  refine h_ki X hI (h_runV (As := [.int p1]) X hI (h_recv X hI hO (show jC.1[0]? = some (RX0, TX0, 20) from rfl)) (mhX0_isRule l Z D j Λ fr lo E a0 p1 G _ hf H.size) (cwV 1 hts (lw_V q2068 q2070 qs53 q167 q2071) rfl rfl rfl (by decide +kernel) (by show fr + 2 + 1 ≤ fr + 7 ∧ 8 + (2 + 11) + (lo + 65) ≤ lo + 3221; omega)) rfl hl.1 (Nat.le_of_ble_eq_true rfl) dX0_hits_2 ⟨hm0 hm.1, hm0 hm.2⟩ rfl) (fun x2 G1 H locs hf hI => ?_)
  clear hO
  refine lv_if_eq (tgt := 16) hx hb dX0_hits_5 (by decide) (fun c3 => ?_) (fun c3 => ?_)
  · have hf := hf.1 c3
    refine lv_bipush (v := -2) hx hb dX0_hits_16 (by decide) ?_
    exact hret hf hI dX0_hits_18 (hmC hm.1) (hmC hm.2)
  · have hf := hf.2 c3
    refine lv_aload_n hx hb dX0_hits_8 rfl (lv_at hl 0 rfl) ?_
    refine lv_iload_n hx hb dX0_hits_9 rfl (lv_at hl 2 rfl) ?_
    obtain ⟨_, _, hO, hf⟩ := hf
    refine h_ki X hI (h_runV (As := [.int p2]) X hI (h_recv X hI hO (show jC.1[0]? = some (RX0, TX0, 20) from rfl)) (mhX0_isDeep l Z D j Λ fr lo E a0 p2 G1 _ hf H.size) (cwV 1 hts (lw_V q1976 q1978 qs44 q167 q1979) rfl rfl rfl (by decide +kernel) (by show fr + 2 + 1 ≤ fr + 7 ∧ 8 + (2 + 11) + (lo + 65) ≤ lo + 3221; omega)) rfl hl.1 (Nat.le_of_ble_eq_true rfl) dX0_hits_10 ⟨hm0 hm.1, hm0 hm.2⟩ rfl) (fun x5 G4 H locs hf hI => ?_)
    clear hO
    refine lv_if_ne (tgt := 19) hx hb dX0_hits_13 (by decide) (fun c6 => ?_) (fun c6 => ?_)
    · have hf := hf.2 c6
      refine lv_aload_n hx hb dX0_hits_19 rfl (lv_at hl 0 rfl) ?_
      refine lv_iload_n hx hb dX0_hits_20 rfl (lv_at hl 2 rfl) ?_
      obtain ⟨_, _, hO, hf⟩ := hf
      obtain ⟨m7, m8, hb1, hb2, hf⟩ := hf
      refine h_kv X hI (h_runV (As := [.int p2]) X hI (h_recv X hI hO (show jC.1[0]? = some (RX0, TX0, 20) from rfl)) (mhX0_laysHits l Z D j Λ fr lo E a0 p2 m7 m8 G4 _ hf H.size) (cwV 1 hts (lw_V q2303 q2305 qs66 q167 q2306) rfl rfl rfl (by decide +kernel) (by show fr + 6 + 1 ≤ fr + 7 ∧ 8 + (2 + 11) + (lo + 3200) ≤ lo + 3221; omega)) rfl hl.1 (Nat.le_of_ble_eq_true rfl) dX0_hits_21 ⟨hmA hm.1 hb1, hmA hm.2 hb2⟩ rfl) (fun G9 H locs hf hI => ?_)
      have hm := And.intro (hmB hm.1 hb1) (hmB hm.2 hb2)
      clear hb1 hb2
      clear hO
      refine lv_aload_n hx hb dX0_hits_24 rfl (lv_at hl 0 rfl) ?_
      refine hr_gtQ X hI (rfl : jC.1[0]? = some (RX0, TX0, 20)) in_X0 18 (Nat.le_of_ble_eq_true rfl) hf q673 (fun _ h => h) dX0_hits_25 (fun q10 hf => ?_)
      refine lv_iload_n hx hb dX0_hits_28 rfl (lv_at hl 1 rfl) ?_
      obtain ⟨a11, ea11, hf⟩ := hf
      revert hl hf
      subst ea11
      intro hl hf
      have hl : lv_has ls 3 [(0, .ref a0), (1, .int p1), (2, .int p2)] := hl
      refine hr_ild X hI 0 rfl hf dX0_hits_29 (fun x12 hf => ?_)
      exact hret hf hI dX0_hits_30 (hmC hm.1) (hmC hm.2)
    · have hf := hf.1 c6
      refine lv_bipush (v := -2) hx hb dX0_hits_16 (by decide) ?_
      exact hret hf hI dX0_hits_18 (hmC hm.1) (hmC hm.2)
/-! MergeJudge.tallies(IIII)V -/
def hX0_tallies_b65 (j : JX) (Λ : JLam) (a0 : Nat) (p1 : Int32) (p2 : Int32) (p3 : Int32) (p4 : Int32) (post : HG → Prop) (K3 : Int32 → HG → Prop) (lx5 : Int32) (z0 : Nat) (z1 : Int32) (z2 : Int32) (z3 : Int32) (G : HG) : Prop :=
  stI G z0 (j.1 0) z1 (z2 + z3) fun G24 => K3 (lx5 + 1) G24
def hX0_tallies_b64 (j : JX) (Λ : JLam) (a0 : Nat) (p1 : Int32) (p2 : Int32) (p3 : Int32) (p4 : Int32) (post : HG → Prop) (K3 : Int32 → HG → Prop) (lx5 : Int32) (z0 : Nat) (z1 : Int32) (z2 : Int32) (G : HG) : Prop :=
  hX0_tallies_b65 j Λ a0 p1 p2 p3 p4 post K3 lx5 z0 z1 z2 (0 : Int32) G
def hX0_tallies_b3 (j : JX) (Λ : JLam) (a0 : Nat) (p1 : Int32) (p2 : Int32) (p3 : Int32) (p4 : Int32) (post : HG → Prop) (K3 : Int32 → HG → Prop) (lx5 : Int32) (G : HG) : Prop :=
  gtQ G a0 0 1 fun q1 => nnq q1 fun a2 => gtQ G a2 2 0 fun q3 => nnq q3 fun a4 => isO G a4 15 (hJ2_size j Λ a4 G fun x6 G5 => (x6 ≤ lx5 → (post G5)) ∧ (¬ x6 ≤ lx5 → (gtQ G5 a0 0 18 fun q8 => nnq q8 fun a9 => ldI G5 a9 (j.1 0) lx5 fun x10 => gtI G5 a0 0 12 fun x11 => hX0_isOn j Λ x11 lx5 G5 fun x13 G12 => (x13 = 0 → (gtQ G12 a0 0 9 fun q15 => nnq q15 fun a16 => ldQ (jty j.1) G12 a16 lx5 fun q17 => nnq q17 fun a18 => gtQ G12 a18 11 0 fun q19 => nnq q19 fun a20 => Λ.2.1 a20 p4 G12 fun x22 G21 => (x22 = 0 → (hX0_tallies_b65 j Λ a0 p1 p2 p3 p4 post K3 lx5 a9 lx5 x10 (1 : Int32) G21)) ∧ (¬ x22 = 0 → (hX0_tallies_b64 j Λ a0 p1 p2 p3 p4 post K3 lx5 a9 lx5 x10 G21)))) ∧ (¬ x13 = 0 → (hX0_tallies_b64 j Λ a0 p1 p2 p3 p4 post K3 lx5 a9 lx5 x10 G12)))))
def hX0_tallies_l3 (j : JX) (Λ : JLam) (a0 : Nat) (p1 : Int32) (p2 : Int32) (p3 : Int32) (p4 : Int32) (post : HG → Prop) : Nat → Int32 → HG → Prop
  | 0 => fun _ _ => False
  | n + 1 => fun lx5 G => hX0_tallies_b3 j Λ a0 p1 p2 p3 p4 post (hX0_tallies_l3 j Λ a0 p1 p2 p3 p4 post n) lx5 G
def hX0_tallies (j : JX) (Λ : JLam) (a0 : Nat) (p1 : Int32) (p2 : Int32) (p3 : Int32) (p4 : Int32) (G : HG) (post : HG → Prop) : Prop :=
  ∃ n, hX0_tallies_l3 j Λ a0 p1 p2 p3 p4 post n (0 : Int32) G
abbrev rhX0_tallies (fr lo : Nat) : Room := { frames := fr + 2, cells := 0, slots := 0, locals := lo + 61 }
theorem mhX0_tallies (l : Launch) (Z : (Nat → Prop) → State → Heap → Prop) (D : va_G) (j : JX) (Λ : JLam) (fr lo : Nat) (E : JE l Z D j Λ fr lo) (a0 : Nat) (p1 : Int32) (p2 : Int32) (p3 : Int32) (p4 : Int32) (G : HG) (post : HG → Prop) (hf : hX0_tallies j Λ a0 p1 p2 p3 p4 G post) : HMv l yX0_tallies (ws_ yX0_tallies cX0_tallies 6 none) (rhX0_tallies fr lo) D jC (jty j.1) Z G [.ref a0, .int p1, .int p2, .int p3, .int p4] post 0 0 := by
  refine h_openv E.1 (by decide) (by exact Nat.le_of_ble_eq_true rfl) (fun p e s m args below meth c ls A0 Q X hI hnd hnm hl hret => ?_)
  have X : XC p s m args meth c cX0_tallies 6 RX0 D jC (jty j.1) A0 Z := X
  have hx := X.1
  have hb := X.2.1
  have hown := X.2.2.2.1
  have hts := X.2.2.2.2.1
  have L3 : ∀ (n : Nat) (lx5 : Int32) (G : HG), hX0_tallies_l3 j Λ a0 p1 p2 p3 p4 post n lx5 G → ∀ (H : Heap) (locs : List Loc), HI D jC G A0 s.heap H locs → ∀ (ls : Array Slot), lv_has ls 6 [(0, .ref a0), (4, .int p4), (5, .int lx5)] → W p l e (rhX0_tallies fr lo) s m args below meth c H locs 0 0 Q (F0 m 3 ls []) := by
    intro n3
    induction n3 with
    | zero => intro lx5 G hf; exact hf.elim
    | succ n3 ih3 =>
      have J65 : ∀ (lx5 : Int32) (z0 : Nat) (z1 : Int32) (z2 : Int32) (z3 : Int32) (G : HG), hX0_tallies_b65 j Λ a0 p1 p2 p3 p4 post (hX0_tallies_l3 j Λ a0 p1 p2 p3 p4 post n3) lx5 z0 z1 z2 z3 G → ∀ (H : Heap) (locs : List Loc), HI D jC G A0 s.heap H locs → ∀ (ls : Array Slot), lv_has ls 6 [(0, .ref a0), (4, .int p4), (5, .int lx5)] → W p l e (rhX0_tallies fr lo) s m args below meth c H locs 0 0 Q (F0 m 65 ls [.int z3, .int z2, .int z1, .ref z0]) := by
        intro lx5 z0 z1 z2 z3 G hf H locs hI ls hl
        unfold hX0_tallies_b65 at hf
        refine lv_iadd hx hb dX0_tallies_65 ?_
        refine hr_ist X hI 0 rfl hf dX0_tallies_66 (fun G24 H locs hf hI => ?_)
        refine lv_iinc (v := lx5 + 1) (lv' := [(5, .int (lx5 + 1)), (0, .ref a0), (4, .int p4)]) hx hb dX0_tallies_67 hl (k := 2) rfl rfl (by decide) rfl (fun ls hl => ?_)
        refine lv_goto (tgt := 3) hx hb dX0_tallies_70 (by decide) ?_
        exact ih3 (lx5 + 1) G24 hf H locs hI ls (lv_sub hl [1, 2, 0] rfl)
      have J64 : ∀ (lx5 : Int32) (z0 : Nat) (z1 : Int32) (z2 : Int32) (G : HG), hX0_tallies_b64 j Λ a0 p1 p2 p3 p4 post (hX0_tallies_l3 j Λ a0 p1 p2 p3 p4 post n3) lx5 z0 z1 z2 G → ∀ (H : Heap) (locs : List Loc), HI D jC G A0 s.heap H locs → ∀ (ls : Array Slot), lv_has ls 6 [(0, .ref a0), (4, .int p4), (5, .int lx5)] → W p l e (rhX0_tallies fr lo) s m args below meth c H locs 0 0 Q (F0 m 64 ls [.int z2, .int z1, .ref z0]) := by
        intro lx5 z0 z1 z2 G hf H locs hI ls hl
        unfold hX0_tallies_b64 at hf
        refine lv_iconst (v := 0) hx hb dX0_tallies_64 (by decide) ?_
        exact J65 lx5 z0 z1 z2 (0 : Int32) G hf H locs hI ls (lv_sub hl [0, 1, 2] rfl)
      intro lx5 G hf H locs hI ls hl
      have hf : hX0_tallies_b3 j Λ a0 p1 p2 p3 p4 post (hX0_tallies_l3 j Λ a0 p1 p2 p3 p4 post n3) lx5 G := hf
      unfold hX0_tallies_b3 at hf
      refine lv_iload hx hb dX0_tallies_3 (lv_at hl 2 rfl) ?_
      refine lv_aload_n hx hb dX0_tallies_5 rfl (lv_at hl 0 rfl) ?_
      refine hr_gtQ X hI (rfl : jC.1[0]? = some (RX0, TX0, 20)) in_X0 1 (Nat.le_of_ble_eq_true rfl) hf q653 (fun _ h => h) dX0_tallies_6 (fun q1 hf => ?_)
      obtain ⟨a2, ea2, hf⟩ := hf
      revert hl hf
      subst ea2
      intro hl hf
      have hl : lv_has ls 6 [(0, .ref a0), (4, .int p4), (5, .int lx5)] := hl
      refine hr_gtQN X hI (rfl : jC.1[2]? = some (RX2, TX2, 11)) in_X2 0 (Nat.le_of_ble_eq_true rfl) hf (E.nw X q478 rfl) (fun _ h => h) dX0_tallies_9 (fun q3 hf => ?_)
      obtain ⟨a4, ea4, hf⟩ := hf
      revert hl hf
      subst ea4
      intro hl hf
      have hl : lv_has ls 6 [(0, .ref a0), (4, .int p4), (5, .int lx5)] := hl
      obtain ⟨_, _, hO, hf⟩ := hf
      refine h_Fki X hI (h_runF (As := []) X hI (X.2.2.2.2.2.1.1 15 _ (show jC.1[15]? = some (RJ2, TJ2, 3) from rfl)).2 (h_recv X hI hO (show jC.1[15]? = some (RJ2, TJ2, 3) from rfl)) (mhJ2_size l Z D j Λ fr lo E a4 G _ hf H.size) (cwF 0 hts q1848 q1771 q1773 q172 q1775 ((E.w X).2.2.1 _ (List.mem_of_getElem? (show jFw[0]? = _ from rfl))) rfl rfl (by decide +kernel) (by show fr + 1 + 1 ≤ fr + 2 ∧ 8 + (1 + 11) + (lo + 40) ≤ lo + 61; omega)) rfl hl.1 (Nat.le_of_ble_eq_true rfl) dX0_tallies_12 ⟨Nat.le_refl _, Nat.le_refl _⟩ rfl) (fun x6 G5 H locs hf hI => ?_)
      clear hO
      refine lv_icmp_ge (tgt := 73) hx hb dX0_tallies_17 (by decide) (fun c7 => ?_) (fun c7 => ?_)
      · have hf := hf.1 c7
        exact hret hf hI dX0_tallies_73 (Nat.le_refl _) (Nat.le_refl _)
      · have hf := hf.2 c7
        refine lv_aload_n hx hb dX0_tallies_20 rfl (lv_at hl 0 rfl) ?_
        refine hr_gtQ X hI (rfl : jC.1[0]? = some (RX0, TX0, 20)) in_X0 18 (Nat.le_of_ble_eq_true rfl) hf q673 (fun _ h => h) dX0_tallies_21 (fun q8 hf => ?_)
        refine lv_iload hx hb dX0_tallies_24 (lv_at hl 2 rfl) ?_
        refine lv_dup2_11 hx hb dX0_tallies_26 rfl (h_catq _) ?_
        obtain ⟨a9, ea9, hf⟩ := hf
        revert hl hf
        subst ea9
        intro hl hf
        have hl : lv_has ls 6 [(0, .ref a0), (4, .int p4), (5, .int lx5)] := hl
        refine hr_ild X hI 0 rfl hf dX0_tallies_27 (fun x10 hf => ?_)
        refine lv_aload_n hx hb dX0_tallies_28 rfl (lv_at hl 0 rfl) ?_
        refine hr_gtI X hI (rfl : jC.1[0]? = some (RX0, TX0, 20)) in_X0 12 (Nat.le_of_ble_eq_true rfl) hf q665 (fun _ h => h) dX0_tallies_29 (fun x11 hf => ?_)
        refine lv_iload hx hb dX0_tallies_32 (lv_at hl 2 rfl) ?_
        refine h_ki X hI (h_runS (As := [.int x11, .int lx5]) X hI (mhX0_isOn l Z D j Λ fr lo E x11 lx5 G5 _ hf H.size) (va_cwS 2 hts (lw_S q1953 q1954 q167 q1955) rfl rfl rfl (by decide +kernel) (by show fr + 1 + 1 ≤ fr + 2 ∧ 8 + (2 + 11) + (lo + 40) ≤ lo + 61; omega)) rfl hl.1 (Nat.le_of_ble_eq_true rfl) dX0_tallies_34 ⟨Nat.le_refl _, Nat.le_refl _⟩ rfl) (fun x13 G12 H locs hf hI => ?_)
        refine lv_if_ne (tgt := 64) hx hb dX0_tallies_37 (by decide) (fun c14 => ?_) (fun c14 => ?_)
        · have hf := hf.2 c14
          exact J64 lx5 a9 lx5 x10 G12 hf H locs hI ls (lv_sub hl [0, 1, 2] rfl)
        · have hf := hf.1 c14
          refine lv_aload_n hx hb dX0_tallies_40 rfl (lv_at hl 0 rfl) ?_
          refine hr_gtQ X hI (rfl : jC.1[0]? = some (RX0, TX0, 20)) in_X0 9 (Nat.le_of_ble_eq_true rfl) hf q661 (fun _ h => h) dX0_tallies_41 (fun q15 hf => ?_)
          refine lv_iload hx hb dX0_tallies_44 (lv_at hl 2 rfl) ?_
          obtain ⟨a16, ea16, hf⟩ := hf
          revert hl hf
          subst ea16
          intro hl hf
          have hl : lv_has ls 6 [(0, .ref a0), (4, .int p4), (5, .int lx5)] := hl
          refine hr_qld X hI hf dX0_tallies_46 (fun q17 hf => ?_)
          obtain ⟨a18, ea18, hf⟩ := hf
          revert hl hf
          subst ea18
          intro hl hf
          have hl : lv_has ls 6 [(0, .ref a0), (4, .int p4), (5, .int lx5)] := hl
          refine hr_gtQN X hI (rfl : jC.1[11]? = some (RX11, TX11, 1)) in_X11 0 (Nat.le_of_ble_eq_true rfl) hf (E.nw X q1907 rfl) (fun _ h => h) dX0_tallies_47 (fun q19 hf => ?_)
          refine lv_iload hx hb dX0_tallies_50 (lv_at hl 1 rfl) ?_
          obtain ⟨a20, ea20, hf⟩ := hf
          revert hl hf
          subst ea20
          intro hl hf
          have hl : lv_has ls 6 [(0, .ref a0), (4, .int p4), (5, .int lx5)] := hl
          refine hr_rule E X hI hf q1957 hl.1 (Nat.le_of_ble_eq_true rfl) ⟨Nat.le_add_right _ _, Nat.le_add_right _ _⟩ ⟨Nat.le_refl _, Nat.le_refl _⟩ dX0_tallies_52 (fun x22 G21 H locs hf hI => ?_)
          refine lv_if_ne (tgt := 64) hx hb dX0_tallies_57 (by decide) (fun c23 => ?_) (fun c23 => ?_)
          · have hf := hf.2 c23
            exact J64 lx5 a9 lx5 x10 G21 hf H locs hI ls (lv_sub hl [0, 1, 2] rfl)
          · have hf := hf.1 c23
            refine lv_iconst (v := 1) hx hb dX0_tallies_60 (by decide) ?_
            refine lv_goto (tgt := 65) hx hb dX0_tallies_61 (by decide) ?_
            exact J65 lx5 a9 lx5 x10 (1 : Int32) G21 hf H locs hI ls (lv_sub hl [0, 1, 2] rfl)
  have hl : lv_has ls 6 [(0, .ref a0), (1, .int p1), (2, .int p2), (3, .int p3), (4, .int p4)] := by exact hl
  unfold hX0_tallies at hf
  obtain ⟨H, eH⟩ : ∃ H, H = s.heap := ⟨_, rfl⟩
  obtain ⟨locs, eL⟩ : ∃ locs : List Loc, locs = [] := ⟨_, rfl⟩
  have hI : HI D jC G A0 s.heap H locs := by rw [eH, eL]; exact hI
  rw [← eL]
  suffices h : W p l e (rhX0_tallies fr lo) s m args below meth c H locs 0 0 Q (F0 m 0 ls []) by rw [eH] at h; exact h
  clear eH eL
  refine lv_iconst (v := 0) hx hb dX0_tallies_0 (by decide) ?_
  refine lv_istore (lv' := [(5, .int 0), (0, .ref a0), (1, .int p1), (2, .int p2), (3, .int p3), (4, .int p4)]) hx hb dX0_tallies_1 hl (by decide) rfl (fun ls hl => ?_)
  obtain ⟨n, hf⟩ := hf
  exact L3 n (0 : Int32) G hf H locs hI ls (lv_sub hl [1, 5, 0] rfl)
/-! MergeJudge.worst(I)I -/
def hX0_worst_b62 (j : JX) (Λ : JLam) (a0 : Nat) (p1 : Int32) (post : Int32 → HG → Prop) (K20 : Int32 → Int32 → Nat → Nat → HG → Prop) (lx2 : Int32) (lx3 : Int32) (mc ms : Nat) (G : HG) : Prop :=
  K20 lx2 (lx3 + 1) mc ms G
def hX0_worst_b57 (j : JX) (Λ : JLam) (a0 : Nat) (p1 : Int32) (post : Int32 → HG → Prop) (K20 : Int32 → Int32 → Nat → Nat → HG → Prop) (lx2 : Int32) (lx3 : Int32) (z0 : Int32) (z1 : Int32) (mc ms : Nat) (G : HG) : Prop :=
  (z0 ≤ z1 → (hX0_worst_b62 j Λ a0 p1 post K20 lx2 lx3 mc ms G)) ∧ (¬ z0 ≤ z1 → (hX0_worst_b62 j Λ a0 p1 post K20 lx3 lx3 mc ms G))
def hX0_worst_b20 (j : JX) (Λ : JLam) (a0 : Nat) (p1 : Int32) (post : Int32 → HG → Prop) (K20 : Int32 → Int32 → Nat → Nat → HG → Prop) (lx2 : Int32) (lx3 : Int32) (mc ms : Nat) (G : HG) : Prop :=
  gtQ G a0 0 1 fun q7 => nnq q7 fun a8 => gtQ G a8 2 0 fun q9 => nnq q9 fun a10 => isO G a10 15 (hJ2_size j Λ a10 G fun x12 G11 => (x12 ≤ lx3 → (post lx2 G11)) ∧ (¬ x12 ≤ lx3 → (gtQ G11 a0 0 18 fun q14 => nnq q14 fun a15 => ldI G11 a15 (j.1 0) lx3 fun x16 => (lx2 = ((-1) : Int32) → (hX0_worst_b57 j Λ a0 p1 post K20 lx2 lx3 x16 (0 : Int32) mc ms G11)) ∧ (¬ lx2 = ((-1) : Int32) → (gtQ G11 a0 0 18 fun q18 => nnq q18 fun a19 => ldI G11 a19 (j.1 0) lx2 fun x20 => hX0_worst_b57 j Λ a0 p1 post K20 lx2 lx3 x16 x20 mc ms G11)))))
def hX0_worst_l20 (j : JX) (Λ : JLam) (a0 : Nat) (p1 : Int32) (post : Int32 → HG → Prop) : Nat → Int32 → Int32 → Nat → Nat → HG → Prop
  | 0 => fun _ _ _ _ _ => False
  | n + 1 => fun lx2 lx3 mc ms G => hX0_worst_b20 j Λ a0 p1 post (hX0_worst_l20 j Λ a0 p1 post n) lx2 lx3 mc ms G
def hX0_worst (j : JX) (Λ : JLam) (a0 : Nat) (p1 : Int32) (mc ms : Nat) (G : HG) (post : Int32 → HG → Prop) : Prop :=
  isO G a0 0 (hX0_isDeep j Λ a0 p1 G fun x2 G1 => (x2 = 0 → (post ((-2) : Int32) G1)) ∧ (¬ x2 = 0 → (isO G1 a0 0 (∃ m4 m5 : Nat, m4 ≤ mc ∧ m5 ≤ ms ∧ hX0_laysHits j Λ a0 p1 m4 m5 G1 fun G6 => ∃ n, hX0_worst_l20 j Λ a0 p1 post n ((-1) : Int32) (0 : Int32) (mc - m4) (ms - m5) G6))))
abbrev rhX0_worst (fr lo mc ms : Nat) : Room := { frames := fr + 7, cells := mc, slots := ms, locals := lo + 3221 }
theorem mhX0_worst (l : Launch) (Z : (Nat → Prop) → State → Heap → Prop) (D : va_G) (j : JX) (Λ : JLam) (fr lo : Nat) (E : JE l Z D j Λ fr lo) (a0 : Nat) (p1 : Int32) (mc ms : Nat) (G : HG) (post : Int32 → HG → Prop) (hf : hX0_worst j Λ a0 p1 mc ms G post) : HMi l yX0_worst (ws_ yX0_worst cX0_worst 4 (some .int)) (rhX0_worst fr lo mc ms) D jC (jty j.1) Z G [.ref a0, .int p1] post mc ms := by
  obtain ⟨MC, eMC⟩ : ∃ MC, MC = mc := ⟨_, rfl⟩
  obtain ⟨MS, eMS⟩ : ∃ MS, MS = ms := ⟨_, rfl⟩
  suffices goal : HMi l yX0_worst (ws_ yX0_worst cX0_worst 4 (some .int)) (rhX0_worst fr lo MC MS) D jC (jty j.1) Z G [.ref a0, .int p1] post MC MS by rw [eMC, eMS] at goal; exact goal
  have hm0_ : 0 + mc ≤ MC ∧ 0 + ms ≤ MS := by omega
  clear eMC eMS
  refine h_openi E.1 (by decide) (by exact Nat.le_of_ble_eq_true rfl) (fun p e s m args below meth c ls A0 Q X hI hnd hnm hl hret => ?_)
  have X : XC p s m args meth c cX0_worst 4 RX0 D jC (jty j.1) A0 Z := X
  have hx := X.1
  have hb := X.2.1
  have hown := X.2.2.2.1
  have hts := X.2.2.2.2.1
  have L20 : ∀ (n : Nat) (lx2 : Int32) (lx3 : Int32) (mc ms : Nat) (G : HG), hX0_worst_l20 j Λ a0 p1 post n lx2 lx3 mc ms G → ∀ (cells slots : Nat), cells + mc ≤ MC ∧ slots + ms ≤ MS → ∀ (H : Heap) (locs : List Loc), HI D jC G A0 s.heap H locs → ∀ (ls : Array Slot), lv_has ls 4 [(0, .ref a0), (2, .int lx2), (3, .int lx3)] → W p l e (rhX0_worst fr lo MC MS) s m args below meth c H locs cells slots Q (F0 m 20 ls []) := by
    intro n20
    induction n20 with
    | zero => intro lx2 lx3 mc ms G hf; exact hf.elim
    | succ n20 ih20 =>
      have J62 : ∀ (lx2 : Int32) (lx3 : Int32) (mc ms : Nat) (G : HG), hX0_worst_b62 j Λ a0 p1 post (hX0_worst_l20 j Λ a0 p1 post n20) lx2 lx3 mc ms G → ∀ (cells slots : Nat), cells + mc ≤ MC ∧ slots + ms ≤ MS → ∀ (H : Heap) (locs : List Loc), HI D jC G A0 s.heap H locs → ∀ (ls : Array Slot), lv_has ls 4 [(0, .ref a0), (2, .int lx2), (3, .int lx3)] → W p l e (rhX0_worst fr lo MC MS) s m args below meth c H locs cells slots Q (F0 m 62 ls []) := by
        intro lx2 lx3 mc ms G hf cells slots hm H locs hI ls hl
        unfold hX0_worst_b62 at hf
        refine lv_iinc (v := lx3 + 1) (lv' := [(3, .int (lx3 + 1)), (0, .ref a0), (2, .int lx2)]) hx hb dX0_worst_62 hl (k := 2) rfl rfl (by decide) rfl (fun ls hl => ?_)
        refine lv_goto (tgt := 20) hx hb dX0_worst_65 (by decide) ?_
        exact ih20 lx2 (lx3 + 1) mc ms G hf _ _ hm H locs hI ls (lv_sub hl [1, 2, 0] rfl)
      have J57 : ∀ (lx2 : Int32) (lx3 : Int32) (z0 : Int32) (z1 : Int32) (mc ms : Nat) (G : HG), hX0_worst_b57 j Λ a0 p1 post (hX0_worst_l20 j Λ a0 p1 post n20) lx2 lx3 z0 z1 mc ms G → ∀ (cells slots : Nat), cells + mc ≤ MC ∧ slots + ms ≤ MS → ∀ (H : Heap) (locs : List Loc), HI D jC G A0 s.heap H locs → ∀ (ls : Array Slot), lv_has ls 4 [(0, .ref a0), (2, .int lx2), (3, .int lx3)] → W p l e (rhX0_worst fr lo MC MS) s m args below meth c H locs cells slots Q (F0 m 57 ls [.int z1, .int z0]) := by
        intro lx2 lx3 z0 z1 mc ms G hf cells slots hm H locs hI ls hl
        unfold hX0_worst_b57 at hf
        refine lv_icmp_le (tgt := 62) hx hb dX0_worst_57 (by decide) (fun c21 => ?_) (fun c21 => ?_)
        · have hf := hf.1 c21
          exact J62 lx2 lx3 mc ms G hf _ _ hm H locs hI ls (lv_sub hl [0, 1, 2] rfl)
        · have hf := hf.2 c21
          refine lv_iload_n hx hb dX0_worst_60 rfl (lv_at hl 2 rfl) ?_
          refine lv_istore_n (lv' := [(2, .int lx3), (0, .ref a0), (3, .int lx3)]) hx hb dX0_worst_61 rfl hl (by decide) rfl (fun ls hl => ?_)
          exact J62 lx3 lx3 mc ms G hf _ _ hm H locs hI ls (lv_sub hl [1, 0, 2] rfl)
      intro lx2 lx3 mc ms G hf cells slots hm H locs hI ls hl
      have hf : hX0_worst_b20 j Λ a0 p1 post (hX0_worst_l20 j Λ a0 p1 post n20) lx2 lx3 mc ms G := hf
      unfold hX0_worst_b20 at hf
      refine lv_iload_n hx hb dX0_worst_20 rfl (lv_at hl 2 rfl) ?_
      refine lv_aload_n hx hb dX0_worst_21 rfl (lv_at hl 0 rfl) ?_
      refine hr_gtQ X hI (rfl : jC.1[0]? = some (RX0, TX0, 20)) in_X0 1 (Nat.le_of_ble_eq_true rfl) hf q653 (fun _ h => h) dX0_worst_22 (fun q7 hf => ?_)
      obtain ⟨a8, ea8, hf⟩ := hf
      revert hl hf
      subst ea8
      intro hl hf
      have hl : lv_has ls 4 [(0, .ref a0), (2, .int lx2), (3, .int lx3)] := hl
      refine hr_gtQN X hI (rfl : jC.1[2]? = some (RX2, TX2, 11)) in_X2 0 (Nat.le_of_ble_eq_true rfl) hf (E.nw X q478 rfl) (fun _ h => h) dX0_worst_25 (fun q9 hf => ?_)
      obtain ⟨a10, ea10, hf⟩ := hf
      revert hl hf
      subst ea10
      intro hl hf
      have hl : lv_has ls 4 [(0, .ref a0), (2, .int lx2), (3, .int lx3)] := hl
      obtain ⟨_, _, hO, hf⟩ := hf
      refine h_Fki X hI (h_runF (As := []) X hI (X.2.2.2.2.2.1.1 15 _ (show jC.1[15]? = some (RJ2, TJ2, 3) from rfl)).2 (h_recv X hI hO (show jC.1[15]? = some (RJ2, TJ2, 3) from rfl)) (mhJ2_size l Z D j Λ fr lo E a10 G _ hf H.size) (cwF 0 hts q1848 q1771 q1773 q172 q1775 ((E.w X).2.2.1 _ (List.mem_of_getElem? (show jFw[0]? = _ from rfl))) rfl rfl (by decide +kernel) (by show fr + 1 + 1 ≤ fr + 7 ∧ 8 + (1 + 11) + (lo + 40) ≤ lo + 3221; omega)) rfl hl.1 (Nat.le_of_ble_eq_true rfl) dX0_worst_28 ⟨hm0 hm.1, hm0 hm.2⟩ rfl) (fun x12 G11 H locs hf hI => ?_)
      clear hO
      refine lv_icmp_ge (tgt := 68) hx hb dX0_worst_33 (by decide) (fun c13 => ?_) (fun c13 => ?_)
      · have hf := hf.1 c13
        refine lv_iload_n hx hb dX0_worst_68 rfl (lv_at hl 1 rfl) ?_
        exact hret hf hI dX0_worst_69 (hmC hm.1) (hmC hm.2)
      · have hf := hf.2 c13
        refine lv_aload_n hx hb dX0_worst_36 rfl (lv_at hl 0 rfl) ?_
        refine hr_gtQ X hI (rfl : jC.1[0]? = some (RX0, TX0, 20)) in_X0 18 (Nat.le_of_ble_eq_true rfl) hf q673 (fun _ h => h) dX0_worst_37 (fun q14 hf => ?_)
        refine lv_iload_n hx hb dX0_worst_40 rfl (lv_at hl 2 rfl) ?_
        obtain ⟨a15, ea15, hf⟩ := hf
        revert hl hf
        subst ea15
        intro hl hf
        have hl : lv_has ls 4 [(0, .ref a0), (2, .int lx2), (3, .int lx3)] := hl
        refine hr_ild X hI 0 rfl hf dX0_worst_41 (fun x16 hf => ?_)
        refine lv_iload_n hx hb dX0_worst_42 rfl (lv_at hl 1 rfl) ?_
        refine lv_iconst (v := -1) hx hb dX0_worst_43 (by decide) ?_
        refine lv_icmp_ne (tgt := 51) hx hb dX0_worst_44 (by decide) (fun c17 => ?_) (fun c17 => ?_)
        · have hf := hf.2 c17
          refine lv_aload_n hx hb dX0_worst_51 rfl (lv_at hl 0 rfl) ?_
          refine hr_gtQ X hI (rfl : jC.1[0]? = some (RX0, TX0, 20)) in_X0 18 (Nat.le_of_ble_eq_true rfl) hf q673 (fun _ h => h) dX0_worst_52 (fun q18 hf => ?_)
          refine lv_iload_n hx hb dX0_worst_55 rfl (lv_at hl 1 rfl) ?_
          obtain ⟨a19, ea19, hf⟩ := hf
          revert hl hf
          subst ea19
          intro hl hf
          have hl : lv_has ls 4 [(0, .ref a0), (2, .int lx2), (3, .int lx3)] := hl
          refine hr_ild X hI 0 rfl hf dX0_worst_56 (fun x20 hf => ?_)
          exact J57 lx2 lx3 x16 x20 mc ms G11 hf _ _ hm H locs hI ls (lv_sub hl [0, 1, 2] rfl)
        · have hf := hf.1 c17
          refine lv_iconst (v := 0) hx hb dX0_worst_47 (by decide) ?_
          refine lv_goto (tgt := 57) hx hb dX0_worst_48 (by decide) ?_
          exact J57 lx2 lx3 x16 (0 : Int32) mc ms G11 hf _ _ hm H locs hI ls (lv_sub hl [0, 1, 2] rfl)
  have hl : lv_has ls 4 [(0, .ref a0), (1, .int p1)] := by exact hl
  unfold hX0_worst at hf
  obtain ⟨H, eH⟩ : ∃ H, H = s.heap := ⟨_, rfl⟩
  obtain ⟨locs, eL⟩ : ∃ locs : List Loc, locs = [] := ⟨_, rfl⟩
  have hI : HI D jC G A0 s.heap H locs := by rw [eH, eL]; exact hI
  rw [← eL]
  obtain ⟨cells, eC⟩ : ∃ n : Nat, n = 0 := ⟨_, rfl⟩
  obtain ⟨slots, eS⟩ : ∃ n : Nat, n = 0 := ⟨_, rfl⟩
  have hm : cells + mc ≤ MC ∧ slots + ms ≤ MS := by rw [eC, eS]; exact hm0_
  suffices h : W p l e (rhX0_worst fr lo MC MS) s m args below meth c H locs cells slots Q (F0 m 0 ls []) by rw [eH, eC, eS] at h; exact h
  clear eH eL eC eS
  refine lv_aload_n hx hb dX0_worst_0 rfl (lv_at hl 0 rfl) ?_
  refine lv_iload_n hx hb dX0_worst_1 rfl (lv_at hl 1 rfl) ?_
  obtain ⟨_, _, hO, hf⟩ := hf
  refine h_ki X hI (h_runV (As := [.int p1]) X hI (h_recv X hI hO (show jC.1[0]? = some (RX0, TX0, 20) from rfl)) (mhX0_isDeep l Z D j Λ fr lo E a0 p1 G _ hf H.size) (cwV 1 hts (lw_V q1976 q1978 qs44 q167 q1979) rfl rfl rfl (by decide +kernel) (by show fr + 2 + 1 ≤ fr + 7 ∧ 8 + (2 + 11) + (lo + 65) ≤ lo + 3221; omega)) rfl hl.1 (Nat.le_of_ble_eq_true rfl) dX0_worst_2 ⟨hm0 hm.1, hm0 hm.2⟩ rfl) (fun x2 G1 H locs hf hI => ?_)
  clear hO
  refine lv_if_ne (tgt := 11) hx hb dX0_worst_5 (by decide) (fun c3 => ?_) (fun c3 => ?_)
  · have hf := hf.2 c3
    refine lv_aload_n hx hb dX0_worst_11 rfl (lv_at hl 0 rfl) ?_
    refine lv_iload_n hx hb dX0_worst_12 rfl (lv_at hl 1 rfl) ?_
    obtain ⟨_, _, hO, hf⟩ := hf
    obtain ⟨m4, m5, hb1, hb2, hf⟩ := hf
    refine h_kv X hI (h_runV (As := [.int p1]) X hI (h_recv X hI hO (show jC.1[0]? = some (RX0, TX0, 20) from rfl)) (mhX0_laysHits l Z D j Λ fr lo E a0 p1 m4 m5 G1 _ hf H.size) (cwV 1 hts (lw_V q2303 q2305 qs66 q167 q2306) rfl rfl rfl (by decide +kernel) (by show fr + 6 + 1 ≤ fr + 7 ∧ 8 + (2 + 11) + (lo + 3200) ≤ lo + 3221; omega)) rfl hl.1 (Nat.le_of_ble_eq_true rfl) dX0_worst_13 ⟨hmA hm.1 hb1, hmA hm.2 hb2⟩ rfl) (fun G6 H locs hf hI => ?_)
    have hm := And.intro (hmB hm.1 hb1) (hmB hm.2 hb2)
    clear hb1 hb2
    clear hO
    refine lv_iconst (v := -1) hx hb dX0_worst_16 (by decide) ?_
    refine lv_istore_n (lv' := [(2, .int (-1)), (0, .ref a0), (1, .int p1)]) hx hb dX0_worst_17 rfl hl (by decide) rfl (fun ls hl => ?_)
    refine lv_iconst (v := 0) hx hb dX0_worst_18 (by decide) ?_
    refine lv_istore_n (lv' := [(3, .int 0), (2, .int (-1)), (0, .ref a0), (1, .int p1)]) hx hb dX0_worst_19 rfl hl (by decide) rfl (fun ls hl => ?_)
    obtain ⟨n, hf⟩ := hf
    exact L20 n ((-1) : Int32) (0 : Int32) (mc - m4) (ms - m5) G6 hf _ _ hm H locs hI ls (lv_sub hl [2, 1, 0] rfl)
  · have hf := hf.1 c3
    refine lv_bipush (v := -2) hx hb dX0_worst_8 (by decide) ?_
    exact hret hf hI dX0_worst_10 (hmC hm.1) (hmC hm.2)
/-! MergeJudge.isKnown(LMergeJudge$Told;)Z -/
def hX0_isKnown (j : JX) (Λ : JLam) (a0 : Nat) (p1 : Nat) (G : HG) (post : Int32 → HG → Prop) : Prop :=
  gtI G p1 10 0 fun x1 => ((2 : Int32) ≤ x1 → (post (0 : Int32) G)) ∧ (¬ (2 : Int32) ≤ x1 → (gtQ G a0 0 1 fun q3 => nnq q3 fun a4 => gtQ G a4 2 3 fun q5 => isO G p1 10 (hX10_number j Λ p1 (0 : Int32) G fun x7 G6 => nnq q5 fun a8 => ldI G6 a8 (j.1 0) x7 fun x9 => (x9 = (2 : Int32) → (post (0 : Int32) G6)) ∧ (¬ x9 = (2 : Int32) → (post (1 : Int32) G6)))))
abbrev rhX0_isKnown (fr lo : Nat) : Room := { frames := fr + 2, cells := 0, slots := 0, locals := lo + 61 }
theorem mhX0_isKnown (l : Launch) (Z : (Nat → Prop) → State → Heap → Prop) (D : va_G) (j : JX) (Λ : JLam) (fr lo : Nat) (E : JE l Z D j Λ fr lo) (a0 : Nat) (p1 : Nat) (G : HG) (post : Int32 → HG → Prop) (hf : hX0_isKnown j Λ a0 p1 G post) : HMi l yX0_isKnown (ws_ yX0_isKnown cX0_isKnown 2 (some .boolean)) (rhX0_isKnown fr lo) D jC (jty j.1) Z G [.ref a0, .ref p1] post 0 0 := by
  refine h_openz E.1 (by decide) (by exact Nat.le_of_ble_eq_true rfl) (fun p e s m args below meth c ls A0 Q X hI hnd hnm hl hret => ?_)
  have X : XC p s m args meth c cX0_isKnown 2 RX0 D jC (jty j.1) A0 Z := X
  have hx := X.1
  have hb := X.2.1
  have hown := X.2.2.2.1
  have hts := X.2.2.2.2.1
  have hl : lv_has ls 2 [(0, .ref a0), (1, .ref p1)] := by exact hl
  unfold hX0_isKnown at hf
  obtain ⟨H, eH⟩ : ∃ H, H = s.heap := ⟨_, rfl⟩
  obtain ⟨locs, eL⟩ : ∃ locs : List Loc, locs = [] := ⟨_, rfl⟩
  have hI : HI D jC G A0 s.heap H locs := by rw [eH, eL]; exact hI
  rw [← eL]
  suffices h : W p l e (rhX0_isKnown fr lo) s m args below meth c H locs 0 0 Q (F0 m 0 ls []) by rw [eH] at h; exact h
  clear eH eL
  refine lv_aload_n hx hb dX0_isKnown_0 rfl (lv_at hl 1 rfl) ?_
  refine hr_gtIN X hI (rfl : jC.1[10]? = some (RX10, TX10, 2)) in_X10 0 (Nat.le_of_ble_eq_true rfl) hf (E.nw X q1791 rfl) (fun _ h => h) dX0_isKnown_1 (fun x1 hf => ?_)
  refine lv_iconst (v := 2) hx hb dX0_isKnown_4 (by decide) ?_
  refine lv_icmp_ge (tgt := 29) hx hb dX0_isKnown_5 (by decide) (fun c2 => ?_) (fun c2 => ?_)
  · have hf := hf.1 c2
    refine lv_iconst (v := 0) hx hb dX0_isKnown_29 (by decide) ?_
    exact hret rfl hf hI dX0_isKnown_30 (Nat.le_refl _) (Nat.le_refl _)
  · have hf := hf.2 c2
    refine lv_aload_n hx hb dX0_isKnown_8 rfl (lv_at hl 0 rfl) ?_
    refine hr_gtQ X hI (rfl : jC.1[0]? = some (RX0, TX0, 20)) in_X0 1 (Nat.le_of_ble_eq_true rfl) hf q653 (fun _ h => h) dX0_isKnown_9 (fun q3 hf => ?_)
    obtain ⟨a4, ea4, hf⟩ := hf
    revert hl hf
    subst ea4
    intro hl hf
    have hl : lv_has ls 2 [(0, .ref a0), (1, .ref p1)] := hl
    refine hr_gtQN X hI (rfl : jC.1[2]? = some (RX2, TX2, 11)) in_X2 3 (Nat.le_of_ble_eq_true rfl) hf (E.nw X q488 rfl) (fun _ h => h) dX0_isKnown_12 (fun q5 hf => ?_)
    refine lv_aload_n hx hb dX0_isKnown_15 rfl (lv_at hl 1 rfl) ?_
    refine lv_iconst (v := 0) hx hb dX0_isKnown_16 (by decide) ?_
    obtain ⟨_, _, hO, hf⟩ := hf
    refine h_ki X hI (h_runV (As := [.int 0]) X hI (h_recv X hI hO (show jC.1[10]? = some (RX10, TX10, 2) from rfl)) (mhX10_number l Z D j Λ fr lo E p1 (0 : Int32) G _ hf H.size) (cwV 1 hts (lw_V q1872 q1873 q1874 q208 q1875) rfl rfl rfl (by decide +kernel) (by show fr + 1 + 1 ≤ fr + 2 ∧ 8 + (2 + 11) + (lo + 40) ≤ lo + 61; omega)) rfl hl.1 (by cases q5 <;> exact Nat.le_of_ble_eq_true rfl) dX0_isKnown_17 ⟨Nat.le_refl _, Nat.le_refl _⟩ rfl) (fun x7 G6 H locs hf hI => ?_)
    clear hO
    obtain ⟨a8, ea8, hf⟩ := hf
    revert hl hf
    subst ea8
    intro hl hf
    have hl : lv_has ls 2 [(0, .ref a0), (1, .ref p1)] := hl
    refine hr_ild X hI 0 rfl hf dX0_isKnown_20 (fun x9 hf => ?_)
    refine lv_iconst (v := 2) hx hb dX0_isKnown_21 (by decide) ?_
    refine lv_icmp_eq (tgt := 29) hx hb dX0_isKnown_22 (by decide) (fun c10 => ?_) (fun c10 => ?_)
    · have hf := hf.1 c10
      refine lv_iconst (v := 0) hx hb dX0_isKnown_29 (by decide) ?_
      exact hret rfl hf hI dX0_isKnown_30 (Nat.le_refl _) (Nat.le_refl _)
    · have hf := hf.2 c10
      refine lv_iconst (v := 1) hx hb dX0_isKnown_25 (by decide) ?_
      refine lv_goto (tgt := 30) hx hb dX0_isKnown_26 (by decide) ?_
      exact hret rfl hf hI dX0_isKnown_30 (Nat.le_refl _) (Nat.le_refl _)
/-! MergeJudge.aloneIn(II)I -/
def hX0_aloneIn_b27 (j : JX) (Λ : JLam) (a0 : Nat) (p1 : Int32) (p2 : Int32) (post : Int32 → HG → Prop) (z0 : Int32) (mc ms : Nat) (G : HG) : Prop :=
  gtQ G a0 0 1 fun q9 => nnq q9 fun a10 => gtI G a10 2 8 fun x11 => isO G a0 0 (hX0_counts j Λ a0 x11 G fun G12 => post z0 G12)
def hX0_aloneIn (j : JX) (Λ : JLam) (a0 : Nat) (p1 : Int32) (p2 : Int32) (mc ms : Nat) (G : HG) (post : Int32 → HG → Prop) : Prop :=
  isO G a0 0 (hX0_every j Λ a0 G fun x2 G1 => isO G1 a0 0 (hX0_counts j Λ a0 (x2 &&& (((1 : Int32) <<< (p1 &&& 31)) ^^^ (-1))) G1 fun G3 => isO G3 a0 0 (∃ m4 m5 : Nat, m4 ≤ mc ∧ m5 ≤ ms ∧ hX0_isSafe j Λ a0 p2 m4 m5 G3 fun x7 G6 => (x7 = 0 → (hX0_aloneIn_b27 j Λ a0 p1 p2 post (0 : Int32) (mc - m4) (ms - m5) G6)) ∧ (¬ x7 = 0 → (hX0_aloneIn_b27 j Λ a0 p1 p2 post (1 : Int32) (mc - m4) (ms - m5) G6)))))
abbrev rhX0_aloneIn (fr lo mc ms : Nat) : Room := { frames := fr + 6, cells := mc, slots := ms, locals := lo + 3222 }
theorem mhX0_aloneIn (l : Launch) (Z : (Nat → Prop) → State → Heap → Prop) (D : va_G) (j : JX) (Λ : JLam) (fr lo : Nat) (E : JE l Z D j Λ fr lo) (a0 : Nat) (p1 : Int32) (p2 : Int32) (mc ms : Nat) (G : HG) (post : Int32 → HG → Prop) (hf : hX0_aloneIn j Λ a0 p1 p2 mc ms G post) : HMi l yX0_aloneIn (ws_ yX0_aloneIn cX0_aloneIn 4 (some .int)) (rhX0_aloneIn fr lo mc ms) D jC (jty j.1) Z G [.ref a0, .int p1, .int p2] post mc ms := by
  obtain ⟨MC, eMC⟩ : ∃ MC, MC = mc := ⟨_, rfl⟩
  obtain ⟨MS, eMS⟩ : ∃ MS, MS = ms := ⟨_, rfl⟩
  suffices goal : HMi l yX0_aloneIn (ws_ yX0_aloneIn cX0_aloneIn 4 (some .int)) (rhX0_aloneIn fr lo MC MS) D jC (jty j.1) Z G [.ref a0, .int p1, .int p2] post MC MS by rw [eMC, eMS] at goal; exact goal
  have hm0_ : 0 + mc ≤ MC ∧ 0 + ms ≤ MS := by omega
  clear eMC eMS
  refine h_openi E.1 (by decide) (by exact Nat.le_of_ble_eq_true rfl) (fun p e s m args below meth c ls A0 Q X hI hnd hnm hl hret => ?_)
  have X : XC p s m args meth c cX0_aloneIn 4 RX0 D jC (jty j.1) A0 Z := X
  have hx := X.1
  have hb := X.2.1
  have hown := X.2.2.2.1
  have hts := X.2.2.2.2.1
  have J27 : ∀ (z0 : Int32) (mc ms : Nat) (G : HG), hX0_aloneIn_b27 j Λ a0 p1 p2 post z0 mc ms G → ∀ (cells slots : Nat), cells + mc ≤ MC ∧ slots + ms ≤ MS → ∀ (H : Heap) (locs : List Loc), HI D jC G A0 s.heap H locs → ∀ (ls : Array Slot), lv_has ls 4 [(0, .ref a0)] → W p l e (rhX0_aloneIn fr lo MC MS) s m args below meth c H locs cells slots Q (F0 m 27 ls [.int z0]) := by
    intro z0 mc ms G hf cells slots hm H locs hI ls hl
    unfold hX0_aloneIn_b27 at hf
    refine lv_istore_n (lv' := [(3, .int z0), (0, .ref a0)]) hx hb dX0_aloneIn_27 rfl hl (by decide) rfl (fun ls hl => ?_)
    refine lv_aload_n hx hb dX0_aloneIn_28 rfl (lv_at hl 1 rfl) ?_
    refine lv_aload_n hx hb dX0_aloneIn_29 rfl (lv_at hl 1 rfl) ?_
    refine hr_gtQ X hI (rfl : jC.1[0]? = some (RX0, TX0, 20)) in_X0 1 (Nat.le_of_ble_eq_true rfl) hf q653 (fun _ h => h) dX0_aloneIn_30 (fun q9 hf => ?_)
    obtain ⟨a10, ea10, hf⟩ := hf
    revert hl hf
    subst ea10
    intro hl hf
    have hl : lv_has ls 4 [(3, .int z0), (0, .ref a0)] := hl
    refine hr_gtIN X hI (rfl : jC.1[2]? = some (RX2, TX2, 11)) in_X2 8 (Nat.le_of_ble_eq_true rfl) hf (E.nw X q502 rfl) (fun _ h => h) dX0_aloneIn_33 (fun x11 hf => ?_)
    obtain ⟨_, _, hO, hf⟩ := hf
    refine h_kv X hI (h_runV (As := [.int x11]) X hI (h_recv X hI hO (show jC.1[0]? = some (RX0, TX0, 20) from rfl)) (mhX0_counts l Z D j Λ fr lo E a0 x11 G _ hf H.size) (cwV 1 hts (lw_V q1941 q1943 qs40 q167 q1944) rfl rfl rfl (by decide +kernel) (by show fr + 3 + 1 ≤ fr + 6 ∧ 8 + (3 + 11) + (lo + 83) ≤ lo + 3222; omega)) rfl hl.1 (Nat.le_of_ble_eq_true rfl) dX0_aloneIn_36 ⟨hm0 hm.1, hm0 hm.2⟩ rfl) (fun G12 H locs hf hI => ?_)
    clear hO
    refine lv_iload_n hx hb dX0_aloneIn_39 rfl (lv_at hl 0 rfl) ?_
    exact hret hf hI dX0_aloneIn_40 (hmC hm.1) (hmC hm.2)
  have hl : lv_has ls 4 [(0, .ref a0), (1, .int p1), (2, .int p2)] := by exact hl
  unfold hX0_aloneIn at hf
  obtain ⟨H, eH⟩ : ∃ H, H = s.heap := ⟨_, rfl⟩
  obtain ⟨locs, eL⟩ : ∃ locs : List Loc, locs = [] := ⟨_, rfl⟩
  have hI : HI D jC G A0 s.heap H locs := by rw [eH, eL]; exact hI
  rw [← eL]
  obtain ⟨cells, eC⟩ : ∃ n : Nat, n = 0 := ⟨_, rfl⟩
  obtain ⟨slots, eS⟩ : ∃ n : Nat, n = 0 := ⟨_, rfl⟩
  have hm : cells + mc ≤ MC ∧ slots + ms ≤ MS := by rw [eC, eS]; exact hm0_
  suffices h : W p l e (rhX0_aloneIn fr lo MC MS) s m args below meth c H locs cells slots Q (F0 m 0 ls []) by rw [eH, eC, eS] at h; exact h
  clear eH eL eC eS
  refine lv_aload_n hx hb dX0_aloneIn_0 rfl (lv_at hl 0 rfl) ?_
  refine lv_aload_n hx hb dX0_aloneIn_1 rfl (lv_at hl 0 rfl) ?_
  obtain ⟨_, _, hO, hf⟩ := hf
  refine h_ki X hI (h_runV (As := []) X hI (h_recv X hI hO (show jC.1[0]? = some (RX0, TX0, 20) from rfl)) (mhX0_every l Z D j Λ fr lo E a0 G _ hf H.size) (cwV 0 hts (lw_V q2072 q2074 qs54 q167 q2075) rfl rfl rfl (by decide +kernel) (by show fr + 2 + 1 ≤ fr + 6 ∧ 8 + (1 + 11) + (lo + 60) ≤ lo + 3222; omega)) rfl hl.1 (Nat.le_of_ble_eq_true rfl) dX0_aloneIn_2 ⟨hm0 hm.1, hm0 hm.2⟩ rfl) (fun x2 G1 H locs hf hI => ?_)
  clear hO
  refine lv_iconst (v := 1) hx hb dX0_aloneIn_5 (by decide) ?_
  refine lv_iload_n hx hb dX0_aloneIn_6 rfl (lv_at hl 1 rfl) ?_
  refine lv_ishl hx hb dX0_aloneIn_7 ?_
  refine lv_iconst (v := -1) hx hb dX0_aloneIn_8 (by decide) ?_
  refine lv_ixor hx hb dX0_aloneIn_9 ?_
  refine lv_iand hx hb dX0_aloneIn_10 ?_
  obtain ⟨_, _, hO, hf⟩ := hf
  refine h_kv X hI (h_runV (As := [.int (x2 &&& (((1 : Int32) <<< (p1 &&& 31)) ^^^ (-1)))]) X hI (h_recv X hI hO (show jC.1[0]? = some (RX0, TX0, 20) from rfl)) (mhX0_counts l Z D j Λ fr lo E a0 (x2 &&& (((1 : Int32) <<< (p1 &&& 31)) ^^^ (-1))) G1 _ hf H.size) (cwV 1 hts (lw_V q1941 q1943 qs40 q167 q1944) rfl rfl rfl (by decide +kernel) (by show fr + 3 + 1 ≤ fr + 6 ∧ 8 + (3 + 11) + (lo + 83) ≤ lo + 3222; omega)) rfl hl.1 (Nat.le_of_ble_eq_true rfl) dX0_aloneIn_11 ⟨hm0 hm.1, hm0 hm.2⟩ rfl) (fun G3 H locs hf hI => ?_)
  clear hO
  refine lv_aload_n hx hb dX0_aloneIn_14 rfl (lv_at hl 0 rfl) ?_
  refine lv_iload_n hx hb dX0_aloneIn_15 rfl (lv_at hl 2 rfl) ?_
  obtain ⟨_, _, hO, hf⟩ := hf
  obtain ⟨m4, m5, hb1, hb2, hf⟩ := hf
  refine h_ki X hI (h_runV (As := [.int p2]) X hI (h_recv X hI hO (show jC.1[0]? = some (RX0, TX0, 20) from rfl)) (mhX0_isSafe l Z D j Λ fr lo E a0 p2 m4 m5 G3 _ hf H.size) (cwV 1 hts (lw_V q2267 q2269 qs63 q167 q2270) rfl rfl rfl (by decide +kernel) (by show fr + 5 + 1 ≤ fr + 6 ∧ 8 + (3 + 11) + (lo + 3200) ≤ lo + 3222; omega)) rfl hl.1 (Nat.le_of_ble_eq_true rfl) dX0_aloneIn_16 ⟨hmA hm.1 hb1, hmA hm.2 hb2⟩ rfl) (fun x7 G6 H locs hf hI => ?_)
  have hm := And.intro (hmB hm.1 hb1) (hmB hm.2 hb2)
  clear hb1 hb2
  clear hO
  refine lv_if_eq (tgt := 26) hx hb dX0_aloneIn_19 (by decide) (fun c8 => ?_) (fun c8 => ?_)
  · have hf := hf.1 c8
    refine lv_iconst (v := 0) hx hb dX0_aloneIn_26 (by decide) ?_
    exact J27 (0 : Int32) (mc - m4) (ms - m5) G6 hf _ _ hm H locs hI ls (lv_sub hl [0] rfl)
  · have hf := hf.2 c8
    refine lv_iconst (v := 1) hx hb dX0_aloneIn_22 (by decide) ?_
    refine lv_goto (tgt := 27) hx hb dX0_aloneIn_23 (by decide) ?_
    exact J27 (1 : Int32) (mc - m4) (ms - m5) G6 hf _ _ hm H locs hI ls (lv_sub hl [0] rfl)
/-! MergeJudge.alone(II)I -/
def hX0_alone (j : JX) (Λ : JLam) (a0 : Nat) (p1 : Int32) (p2 : Int32) (mc ms : Nat) (G : HG) (post : Int32 → HG → Prop) : Prop :=
  isO G a0 0 (hX0_isRule j Λ a0 p1 G fun x2 G1 => (x2 = 0 → (post ((-2) : Int32) G1)) ∧ (¬ x2 = 0 → (isO G1 a0 0 (hX0_isDeep j Λ a0 p2 G1 fun x5 G4 => (x5 = 0 → (post ((-2) : Int32) G4)) ∧ (¬ x5 = 0 → (isO G4 a0 0 (∃ m7 m8 : Nat, m7 ≤ mc ∧ m8 ≤ ms ∧ hX0_aloneIn j Λ a0 p1 p2 m7 m8 G4 fun x10 G9 => post x10 G9)))))))
abbrev rhX0_alone (fr lo mc ms : Nat) : Room := { frames := fr + 7, cells := mc, slots := ms, locals := lo + 3245 }
theorem mhX0_alone (l : Launch) (Z : (Nat → Prop) → State → Heap → Prop) (D : va_G) (j : JX) (Λ : JLam) (fr lo : Nat) (E : JE l Z D j Λ fr lo) (a0 : Nat) (p1 : Int32) (p2 : Int32) (mc ms : Nat) (G : HG) (post : Int32 → HG → Prop) (hf : hX0_alone j Λ a0 p1 p2 mc ms G post) : HMi l yX0_alone (ws_ yX0_alone cX0_alone 3 (some .int)) (rhX0_alone fr lo mc ms) D jC (jty j.1) Z G [.ref a0, .int p1, .int p2] post mc ms := by
  obtain ⟨MC, eMC⟩ : ∃ MC, MC = mc := ⟨_, rfl⟩
  obtain ⟨MS, eMS⟩ : ∃ MS, MS = ms := ⟨_, rfl⟩
  suffices goal : HMi l yX0_alone (ws_ yX0_alone cX0_alone 3 (some .int)) (rhX0_alone fr lo MC MS) D jC (jty j.1) Z G [.ref a0, .int p1, .int p2] post MC MS by rw [eMC, eMS] at goal; exact goal
  have hm0_ : 0 + mc ≤ MC ∧ 0 + ms ≤ MS := by omega
  clear eMC eMS
  refine h_openi E.1 (by decide) (by exact Nat.le_of_ble_eq_true rfl) (fun p e s m args below meth c ls A0 Q X hI hnd hnm hl hret => ?_)
  have X : XC p s m args meth c cX0_alone 3 RX0 D jC (jty j.1) A0 Z := X
  have hx := X.1
  have hb := X.2.1
  have hown := X.2.2.2.1
  have hts := X.2.2.2.2.1
  have hl : lv_has ls 3 [(0, .ref a0), (1, .int p1), (2, .int p2)] := by exact hl
  unfold hX0_alone at hf
  obtain ⟨H, eH⟩ : ∃ H, H = s.heap := ⟨_, rfl⟩
  obtain ⟨locs, eL⟩ : ∃ locs : List Loc, locs = [] := ⟨_, rfl⟩
  have hI : HI D jC G A0 s.heap H locs := by rw [eH, eL]; exact hI
  rw [← eL]
  obtain ⟨cells, eC⟩ : ∃ n : Nat, n = 0 := ⟨_, rfl⟩
  obtain ⟨slots, eS⟩ : ∃ n : Nat, n = 0 := ⟨_, rfl⟩
  have hm : cells + mc ≤ MC ∧ slots + ms ≤ MS := by rw [eC, eS]; exact hm0_
  suffices h : W p l e (rhX0_alone fr lo MC MS) s m args below meth c H locs cells slots Q (F0 m 0 ls []) by rw [eH, eC, eS] at h; exact h
  clear eH eL eC eS
  refine lv_aload_n hx hb dX0_alone_0 rfl (lv_at hl 0 rfl) ?_
  refine lv_iload_n hx hb dX0_alone_1 rfl (lv_at hl 1 rfl) ?_
  obtain ⟨_, _, hO, hf⟩ := hf
  refine h_ki X hI (h_runV (As := [.int p1]) X hI (h_recv X hI hO (show jC.1[0]? = some (RX0, TX0, 20) from rfl)) (mhX0_isRule l Z D j Λ fr lo E a0 p1 G _ hf H.size) (cwV 1 hts (lw_V q2068 q2070 qs53 q167 q2071) rfl rfl rfl (by decide +kernel) (by show fr + 2 + 1 ≤ fr + 7 ∧ 8 + (2 + 11) + (lo + 65) ≤ lo + 3245; omega)) rfl hl.1 (Nat.le_of_ble_eq_true rfl) dX0_alone_2 ⟨hm0 hm.1, hm0 hm.2⟩ rfl) (fun x2 G1 H locs hf hI => ?_)
  clear hO
  refine lv_if_eq (tgt := 25) hx hb dX0_alone_5 (by decide) (fun c3 => ?_) (fun c3 => ?_)
  · have hf := hf.1 c3
    refine lv_bipush (v := -2) hx hb dX0_alone_25 (by decide) ?_
    exact hret hf hI dX0_alone_27 (hmC hm.1) (hmC hm.2)
  · have hf := hf.2 c3
    refine lv_aload_n hx hb dX0_alone_8 rfl (lv_at hl 0 rfl) ?_
    refine lv_iload_n hx hb dX0_alone_9 rfl (lv_at hl 2 rfl) ?_
    obtain ⟨_, _, hO, hf⟩ := hf
    refine h_ki X hI (h_runV (As := [.int p2]) X hI (h_recv X hI hO (show jC.1[0]? = some (RX0, TX0, 20) from rfl)) (mhX0_isDeep l Z D j Λ fr lo E a0 p2 G1 _ hf H.size) (cwV 1 hts (lw_V q1976 q1978 qs44 q167 q1979) rfl rfl rfl (by decide +kernel) (by show fr + 2 + 1 ≤ fr + 7 ∧ 8 + (2 + 11) + (lo + 65) ≤ lo + 3245; omega)) rfl hl.1 (Nat.le_of_ble_eq_true rfl) dX0_alone_10 ⟨hm0 hm.1, hm0 hm.2⟩ rfl) (fun x5 G4 H locs hf hI => ?_)
    clear hO
    refine lv_if_eq (tgt := 25) hx hb dX0_alone_13 (by decide) (fun c6 => ?_) (fun c6 => ?_)
    · have hf := hf.1 c6
      refine lv_bipush (v := -2) hx hb dX0_alone_25 (by decide) ?_
      exact hret hf hI dX0_alone_27 (hmC hm.1) (hmC hm.2)
    · have hf := hf.2 c6
      refine lv_aload_n hx hb dX0_alone_16 rfl (lv_at hl 0 rfl) ?_
      refine lv_iload_n hx hb dX0_alone_17 rfl (lv_at hl 1 rfl) ?_
      refine lv_iload_n hx hb dX0_alone_18 rfl (lv_at hl 2 rfl) ?_
      obtain ⟨_, _, hO, hf⟩ := hf
      obtain ⟨m7, m8, hb1, hb2, hf⟩ := hf
      refine h_ki X hI (h_runV (As := [.int p1, .int p2]) X hI (h_recv X hI hO (show jC.1[0]? = some (RX0, TX0, 20) from rfl)) (mhX0_aloneIn l Z D j Λ fr lo E a0 p1 p2 m7 m8 G4 _ hf H.size) (cwV 2 hts (lw_V q2327 q2329 qs69 q167 q2330) rfl rfl rfl (by decide +kernel) (by show fr + 6 + 1 ≤ fr + 7 ∧ 8 + (4 + 11) + (lo + 3222) ≤ lo + 3245; omega)) rfl hl.1 (Nat.le_of_ble_eq_true rfl) dX0_alone_19 ⟨hmA hm.1 hb1, hmA hm.2 hb2⟩ rfl) (fun x10 G9 H locs hf hI => ?_)
      have hm := And.intro (hmB hm.1 hb1) (hmB hm.2 hb2)
      clear hb1 hb2
      clear hO
      refine lv_goto (tgt := 27) hx hb dX0_alone_22 (by decide) ?_
      exact hret hf hI dX0_alone_27 (hmC hm.1) (hmC hm.2)
/-! MergeJudge.fine(I)I -/
def hX0_fine_b15 (j : JX) (Λ : JLam) (a0 : Nat) (p1 : Int32) (post : Int32 → HG → Prop) (K15 : Int32 → Int32 → Nat → Nat → HG → Prop) (lx2 : Int32) (lx3 : Int32) (mc ms : Nat) (G : HG) : Prop :=
  gtQ G a0 0 1 fun q4 => nnq q4 fun a5 => gtQ G a5 2 0 fun q6 => nnq q6 fun a7 => isO G a7 15 (hJ2_size j Λ a7 G fun x9 G8 => (x9 ≤ lx3 → (post lx2 G8)) ∧ (¬ x9 ≤ lx3 → (isO G8 a0 0 (∃ m11 m12 : Nat, m11 ≤ mc ∧ m12 ≤ ms ∧ hX0_aloneIn j Λ a0 lx3 p1 m11 m12 G8 fun x14 G13 => ∀ v15 : Int32, v15 = (lx2 ||| (x14 <<< (lx3 &&& 31))) → K15 v15 (lx3 + 1) (mc - m11) (ms - m12) G13))))
def hX0_fine_l15 (j : JX) (Λ : JLam) (a0 : Nat) (p1 : Int32) (post : Int32 → HG → Prop) : Nat → Int32 → Int32 → Nat → Nat → HG → Prop
  | 0 => fun _ _ _ _ _ => False
  | n + 1 => fun lx2 lx3 mc ms G => hX0_fine_b15 j Λ a0 p1 post (hX0_fine_l15 j Λ a0 p1 post n) lx2 lx3 mc ms G
def hX0_fine (j : JX) (Λ : JLam) (a0 : Nat) (p1 : Int32) (mc ms : Nat) (G : HG) (post : Int32 → HG → Prop) : Prop :=
  isO G a0 0 (hX0_isDeep j Λ a0 p1 G fun x2 G1 => (x2 = 0 → (post ((-2) : Int32) G1)) ∧ (¬ x2 = 0 → (∃ n, hX0_fine_l15 j Λ a0 p1 post n (0 : Int32) (0 : Int32) mc ms G1)))
abbrev rhX0_fine (fr lo mc ms : Nat) : Room := { frames := fr + 7, cells := mc, slots := ms, locals := lo + 3245 }
theorem mhX0_fine (l : Launch) (Z : (Nat → Prop) → State → Heap → Prop) (D : va_G) (j : JX) (Λ : JLam) (fr lo : Nat) (E : JE l Z D j Λ fr lo) (a0 : Nat) (p1 : Int32) (mc ms : Nat) (G : HG) (post : Int32 → HG → Prop) (hf : hX0_fine j Λ a0 p1 mc ms G post) : HMi l yX0_fine (ws_ yX0_fine cX0_fine 4 (some .int)) (rhX0_fine fr lo mc ms) D jC (jty j.1) Z G [.ref a0, .int p1] post mc ms := by
  obtain ⟨MC, eMC⟩ : ∃ MC, MC = mc := ⟨_, rfl⟩
  obtain ⟨MS, eMS⟩ : ∃ MS, MS = ms := ⟨_, rfl⟩
  suffices goal : HMi l yX0_fine (ws_ yX0_fine cX0_fine 4 (some .int)) (rhX0_fine fr lo MC MS) D jC (jty j.1) Z G [.ref a0, .int p1] post MC MS by rw [eMC, eMS] at goal; exact goal
  have hm0_ : 0 + mc ≤ MC ∧ 0 + ms ≤ MS := by omega
  clear eMC eMS
  refine h_openi E.1 (by decide) (by exact Nat.le_of_ble_eq_true rfl) (fun p e s m args below meth c ls A0 Q X hI hnd hnm hl hret => ?_)
  have X : XC p s m args meth c cX0_fine 4 RX0 D jC (jty j.1) A0 Z := X
  have hx := X.1
  have hb := X.2.1
  have hown := X.2.2.2.1
  have hts := X.2.2.2.2.1
  have L15 : ∀ (n : Nat) (lx2 : Int32) (lx3 : Int32) (mc ms : Nat) (G : HG), hX0_fine_l15 j Λ a0 p1 post n lx2 lx3 mc ms G → ∀ (cells slots : Nat), cells + mc ≤ MC ∧ slots + ms ≤ MS → ∀ (H : Heap) (locs : List Loc), HI D jC G A0 s.heap H locs → ∀ (ls : Array Slot), lv_has ls 4 [(0, .ref a0), (1, .int p1), (2, .int lx2), (3, .int lx3)] → W p l e (rhX0_fine fr lo MC MS) s m args below meth c H locs cells slots Q (F0 m 15 ls []) := by
    intro n15
    induction n15 with
    | zero => intro lx2 lx3 mc ms G hf; exact hf.elim
    | succ n15 ih15 =>
      intro lx2 lx3 mc ms G hf cells slots hm H locs hI ls hl
      have hf : hX0_fine_b15 j Λ a0 p1 post (hX0_fine_l15 j Λ a0 p1 post n15) lx2 lx3 mc ms G := hf
      unfold hX0_fine_b15 at hf
      refine lv_iload_n hx hb dX0_fine_15 rfl (lv_at hl 3 rfl) ?_
      refine lv_aload_n hx hb dX0_fine_16 rfl (lv_at hl 0 rfl) ?_
      refine hr_gtQ X hI (rfl : jC.1[0]? = some (RX0, TX0, 20)) in_X0 1 (Nat.le_of_ble_eq_true rfl) hf q653 (fun _ h => h) dX0_fine_17 (fun q4 hf => ?_)
      obtain ⟨a5, ea5, hf⟩ := hf
      revert hl hf
      subst ea5
      intro hl hf
      have hl : lv_has ls 4 [(0, .ref a0), (1, .int p1), (2, .int lx2), (3, .int lx3)] := hl
      refine hr_gtQN X hI (rfl : jC.1[2]? = some (RX2, TX2, 11)) in_X2 0 (Nat.le_of_ble_eq_true rfl) hf (E.nw X q478 rfl) (fun _ h => h) dX0_fine_20 (fun q6 hf => ?_)
      obtain ⟨a7, ea7, hf⟩ := hf
      revert hl hf
      subst ea7
      intro hl hf
      have hl : lv_has ls 4 [(0, .ref a0), (1, .int p1), (2, .int lx2), (3, .int lx3)] := hl
      obtain ⟨_, _, hO, hf⟩ := hf
      refine h_Fki X hI (h_runF (As := []) X hI (X.2.2.2.2.2.1.1 15 _ (show jC.1[15]? = some (RJ2, TJ2, 3) from rfl)).2 (h_recv X hI hO (show jC.1[15]? = some (RJ2, TJ2, 3) from rfl)) (mhJ2_size l Z D j Λ fr lo E a7 G _ hf H.size) (cwF 0 hts q1848 q1771 q1773 q172 q1775 ((E.w X).2.2.1 _ (List.mem_of_getElem? (show jFw[0]? = _ from rfl))) rfl rfl (by decide +kernel) (by show fr + 1 + 1 ≤ fr + 7 ∧ 8 + (1 + 11) + (lo + 40) ≤ lo + 3245; omega)) rfl hl.1 (Nat.le_of_ble_eq_true rfl) dX0_fine_23 ⟨hm0 hm.1, hm0 hm.2⟩ rfl) (fun x9 G8 H locs hf hI => ?_)
      clear hO
      refine lv_icmp_ge (tgt := 48) hx hb dX0_fine_28 (by decide) (fun c10 => ?_) (fun c10 => ?_)
      · have hf := hf.1 c10
        refine lv_iload_n hx hb dX0_fine_48 rfl (lv_at hl 2 rfl) ?_
        exact hret hf hI dX0_fine_49 (hmC hm.1) (hmC hm.2)
      · have hf := hf.2 c10
        refine lv_iload_n hx hb dX0_fine_31 rfl (lv_at hl 2 rfl) ?_
        refine lv_aload_n hx hb dX0_fine_32 rfl (lv_at hl 0 rfl) ?_
        refine lv_iload_n hx hb dX0_fine_33 rfl (lv_at hl 3 rfl) ?_
        refine lv_iload_n hx hb dX0_fine_34 rfl (lv_at hl 1 rfl) ?_
        obtain ⟨_, _, hO, hf⟩ := hf
        obtain ⟨m11, m12, hb1, hb2, hf⟩ := hf
        refine h_ki X hI (h_runV (As := [.int lx3, .int p1]) X hI (h_recv X hI hO (show jC.1[0]? = some (RX0, TX0, 20) from rfl)) (mhX0_aloneIn l Z D j Λ fr lo E a0 lx3 p1 m11 m12 G8 _ hf H.size) (cwV 2 hts (lw_V q2327 q2329 qs69 q167 q2330) rfl rfl rfl (by decide +kernel) (by show fr + 6 + 1 ≤ fr + 7 ∧ 8 + (4 + 11) + (lo + 3222) ≤ lo + 3245; omega)) rfl hl.1 (Nat.le_of_ble_eq_true rfl) dX0_fine_35 ⟨hmA hm.1 hb1, hmA hm.2 hb2⟩ rfl) (fun x14 G13 H locs hf hI => ?_)
        have hm := And.intro (hmB hm.1 hb1) (hmB hm.2 hb2)
        clear hb1 hb2
        clear hO
        refine lv_iload_n hx hb dX0_fine_38 rfl (lv_at hl 3 rfl) ?_
        refine lv_ishl hx hb dX0_fine_39 ?_
        refine lv_ior hx hb dX0_fine_40 ?_
        obtain ⟨v15, ev15⟩ : ∃ v15, v15 = (lx2 ||| (x14 <<< (lx3 &&& 31))) := ⟨_, rfl⟩
        have hf := hf v15 ev15
        rw [← ev15]
        clear ev15
        refine lv_istore_n (lv' := [(2, .int v15), (0, .ref a0), (1, .int p1), (3, .int lx3)]) hx hb dX0_fine_41 rfl hl (by decide) rfl (fun ls hl => ?_)
        refine lv_iinc (v := lx3 + 1) (lv' := [(3, .int (lx3 + 1)), (2, .int v15), (0, .ref a0), (1, .int p1)]) hx hb dX0_fine_42 hl (k := 3) rfl rfl (by decide) rfl (fun ls hl => ?_)
        refine lv_goto (tgt := 15) hx hb dX0_fine_45 (by decide) ?_
        exact ih15 v15 (lx3 + 1) (mc - m11) (ms - m12) G13 hf _ _ hm H locs hI ls (lv_sub hl [2, 3, 1, 0] rfl)
  have hl : lv_has ls 4 [(0, .ref a0), (1, .int p1)] := by exact hl
  unfold hX0_fine at hf
  obtain ⟨H, eH⟩ : ∃ H, H = s.heap := ⟨_, rfl⟩
  obtain ⟨locs, eL⟩ : ∃ locs : List Loc, locs = [] := ⟨_, rfl⟩
  have hI : HI D jC G A0 s.heap H locs := by rw [eH, eL]; exact hI
  rw [← eL]
  obtain ⟨cells, eC⟩ : ∃ n : Nat, n = 0 := ⟨_, rfl⟩
  obtain ⟨slots, eS⟩ : ∃ n : Nat, n = 0 := ⟨_, rfl⟩
  have hm : cells + mc ≤ MC ∧ slots + ms ≤ MS := by rw [eC, eS]; exact hm0_
  suffices h : W p l e (rhX0_fine fr lo MC MS) s m args below meth c H locs cells slots Q (F0 m 0 ls []) by rw [eH, eC, eS] at h; exact h
  clear eH eL eC eS
  refine lv_aload_n hx hb dX0_fine_0 rfl (lv_at hl 0 rfl) ?_
  refine lv_iload_n hx hb dX0_fine_1 rfl (lv_at hl 1 rfl) ?_
  obtain ⟨_, _, hO, hf⟩ := hf
  refine h_ki X hI (h_runV (As := [.int p1]) X hI (h_recv X hI hO (show jC.1[0]? = some (RX0, TX0, 20) from rfl)) (mhX0_isDeep l Z D j Λ fr lo E a0 p1 G _ hf H.size) (cwV 1 hts (lw_V q1976 q1978 qs44 q167 q1979) rfl rfl rfl (by decide +kernel) (by show fr + 2 + 1 ≤ fr + 7 ∧ 8 + (2 + 11) + (lo + 65) ≤ lo + 3245; omega)) rfl hl.1 (Nat.le_of_ble_eq_true rfl) dX0_fine_2 ⟨hm0 hm.1, hm0 hm.2⟩ rfl) (fun x2 G1 H locs hf hI => ?_)
  clear hO
  refine lv_if_ne (tgt := 11) hx hb dX0_fine_5 (by decide) (fun c3 => ?_) (fun c3 => ?_)
  · have hf := hf.2 c3
    refine lv_iconst (v := 0) hx hb dX0_fine_11 (by decide) ?_
    refine lv_istore_n (lv' := [(2, .int 0), (0, .ref a0), (1, .int p1)]) hx hb dX0_fine_12 rfl hl (by decide) rfl (fun ls hl => ?_)
    refine lv_iconst (v := 0) hx hb dX0_fine_13 (by decide) ?_
    refine lv_istore_n (lv' := [(3, .int 0), (2, .int 0), (0, .ref a0), (1, .int p1)]) hx hb dX0_fine_14 rfl hl (by decide) rfl (fun ls hl => ?_)
    obtain ⟨n, hf⟩ := hf
    exact L15 n (0 : Int32) (0 : Int32) mc ms G1 hf _ _ hm H locs hI ls (lv_sub hl [2, 3, 1, 0] rfl)
  · have hf := hf.1 c3
    refine lv_bipush (v := -2) hx hb dX0_fine_8 (by decide) ?_
    exact hret hf hI dX0_fine_10 (hmC hm.1) (hmC hm.2)
/-! MergeJudge.size(I)I -/
def hX0_size (j : JX) (Λ : JLam) (p0 : Int32) (G : HG) (post : Int32 → HG → Prop) : Prop :=
  hJ15_bitCount j Λ p0 G fun x2 G1 => post x2 G1
abbrev rhX0_size (fr lo : Nat) : Room := { frames := fr + 2, cells := 0, slots := 0, locals := lo + 60 }
theorem mhX0_size (l : Launch) (Z : (Nat → Prop) → State → Heap → Prop) (D : va_G) (j : JX) (Λ : JLam) (fr lo : Nat) (E : JE l Z D j Λ fr lo) (p0 : Int32) (G : HG) (post : Int32 → HG → Prop) (hf : hX0_size j Λ p0 G post) : HMi l yX0_size (ws_ yX0_size cX0_size 1 (some .int)) (rhX0_size fr lo) D jC (jty j.1) Z G [.int p0] post 0 0 := by
  refine h_openi E.1 (by decide) (by exact Nat.le_of_ble_eq_true rfl) (fun p e s m args below meth c ls A0 Q X hI hnd hnm hl hret => ?_)
  have X : XC p s m args meth c cX0_size 1 RX0 D jC (jty j.1) A0 Z := X
  have hx := X.1
  have hb := X.2.1
  have hown := X.2.2.2.1
  have hts := X.2.2.2.2.1
  have hl : lv_has ls 1 [(0, .int p0)] := by exact hl
  unfold hX0_size at hf
  obtain ⟨H, eH⟩ : ∃ H, H = s.heap := ⟨_, rfl⟩
  obtain ⟨locs, eL⟩ : ∃ locs : List Loc, locs = [] := ⟨_, rfl⟩
  have hI : HI D jC G A0 s.heap H locs := by rw [eH, eL]; exact hI
  rw [← eL]
  suffices h : W p l e (rhX0_size fr lo) s m args below meth c H locs 0 0 Q (F0 m 0 ls []) by rw [eH] at h; exact h
  clear eH eL
  refine lv_iload_n hx hb dX0_size_0 rfl (lv_at hl 0 rfl) ?_
  refine h_ki X hI (h_runS (As := [.int p0]) X hI (mhJ15_bitCount l Z D j Λ fr lo E p0 G _ hf H.size) (va_cwS 1 hts (lw_S q2349 q2350 q191 q2351) rfl rfl rfl (by decide +kernel) (by show fr + 1 + 1 ≤ fr + 2 ∧ 8 + (1 + 11) + (lo + 40) ≤ lo + 60; omega)) rfl hl.1 (Nat.le_of_ble_eq_true rfl) dX0_size_1 ⟨Nat.le_refl _, Nat.le_refl _⟩ rfl) (fun x2 G1 H locs hf hI => ?_)
  exact hret hf hI dX0_size_4 (Nat.le_refl _) (Nat.le_refl _)
/-! MergeJudge$Locks.of(I)LMergeJudge$Locks; -/
def hX5_of_b96 (j : JX) (Λ : JLam) (a0 : Nat) (p1 : Int32) (post : Option Nat → HG → Prop) (K32 : Int32 → Int32 → Nat → Nat → HG → Prop) (lx2 : Int32) (lx3 : Int32) (mc ms : Nat) (G : HG) : Prop :=
  K32 lx2 (lx3 + 1) mc ms G
def hX5_of_b91 (j : JX) (Λ : JLam) (a0 : Nat) (p1 : Int32) (post : Option Nat → HG → Prop) (K32 : Int32 → Int32 → Nat → Nat → HG → Prop) (lx2 : Int32) (lx3 : Int32) (mc ms : Nat) (G : HG) : Prop :=
  ptV G a0 5 0 (.int lx3) fun G41 => hX5_of_b96 j Λ a0 p1 post K32 lx2 lx3 mc ms G41
def hX5_of_b32 (j : JX) (Λ : JLam) (a0 : Nat) (p1 : Int32) (post : Option Nat → HG → Prop) (K32 : Int32 → Int32 → Nat → Nat → HG → Prop) (lx2 : Int32) (lx3 : Int32) (mc ms : Nat) (G : HG) : Prop :=
  (lx2 < lx3 → (gtQ G a0 5 2 fun q13 => gtQ G a0 5 2 fun q14 => nnq q14 fun a15 => gtQ G a15 0 1 fun q16 => nnq q16 fun a17 => gtI G a17 2 9 fun x18 => nnq q13 fun a19 => ptV G a19 0 13 (.int x18) fun G20 => post (some a0) G20)) ∧ (¬ lx2 < lx3 → (gtQ G a0 5 2 fun q21 => nnq q21 fun a22 => ptV G a22 0 13 (.int lx3) fun G23 => gtQ G23 a0 5 2 fun q24 => nnq q24 fun a25 => isO G23 a25 0 (∃ m26 m27 : Nat, m26 ≤ mc ∧ m27 ≤ ms ∧ hX0_isSafe j Λ a25 p1 m26 m27 G23 fun x29 G28 => (x29 = 0 → (hX5_of_b96 j Λ a0 p1 post K32 lx2 lx3 (mc - m26) (ms - m27) G28)) ∧ (¬ x29 = 0 → (gtI G28 a0 5 1 fun x31 => ptV G28 a0 5 1 (.int (x31 &&& lx3)) fun G32 => gtI G32 a0 5 0 fun x33 => (x33 = ((-1) : Int32) → (hX5_of_b91 j Λ a0 p1 post K32 lx2 lx3 (mc - m26) (ms - m27) G32)) ∧ (¬ x33 = ((-1) : Int32) → (hX0_size j Λ lx3 G32 fun x36 G35 => gtI G35 a0 5 0 fun x37 => hX0_size j Λ x37 G35 fun x39 G38 => (x39 ≤ x36 → (hX5_of_b96 j Λ a0 p1 post K32 lx2 lx3 (mc - m26) (ms - m27) G38)) ∧ (¬ x39 ≤ x36 → (hX5_of_b91 j Λ a0 p1 post K32 lx2 lx3 (mc - m26) (ms - m27) G38)))))))))
def hX5_of_l32 (j : JX) (Λ : JLam) (a0 : Nat) (p1 : Int32) (post : Option Nat → HG → Prop) : Nat → Int32 → Int32 → Nat → Nat → HG → Prop
  | 0 => fun _ _ _ _ _ => False
  | n + 1 => fun lx2 lx3 mc ms G => hX5_of_b32 j Λ a0 p1 post (hX5_of_l32 j Λ a0 p1 post n) lx2 lx3 mc ms G
def hX5_of (j : JX) (Λ : JLam) (a0 : Nat) (p1 : Int32) (mc ms : Nat) (G : HG) (post : Option Nat → HG → Prop) : Prop :=
  gtQ G a0 5 2 fun q1 => nnq q1 fun a2 => gtQ G a2 0 1 fun q3 => nnq q3 fun a4 => gtQ G a4 2 1 fun q5 => nnq q5 fun a6 => isO G a6 15 (hJ2_size j Λ a6 G fun x8 G7 => ∀ v9 : Int32, v9 = (((1 : Int32) <<< (x8 &&& 31)) - 1) → ptV G7 a0 5 0 (.int (-1)) fun G10 => ptV G10 a0 5 1 (.int v9) fun G11 => ∃ n, hX5_of_l32 j Λ a0 p1 post n v9 (0 : Int32) mc ms G11)
abbrev rhX5_of (fr lo mc ms : Nat) : Room := { frames := fr + 6, cells := mc, slots := ms, locals := lo + 3222 }
theorem mhX5_of (l : Launch) (Z : (Nat → Prop) → State → Heap → Prop) (D : va_G) (j : JX) (Λ : JLam) (fr lo : Nat) (E : JE l Z D j Λ fr lo) (a0 : Nat) (p1 : Int32) (mc ms : Nat) (G : HG) (post : Option Nat → HG → Prop) (hf : hX5_of j Λ a0 p1 mc ms G post) : HMq l yX5_of (ws_ yX5_of cX5_of 4 (some (.object "MergeJudge$Locks"))) (rhX5_of fr lo mc ms) D jC (jty j.1) Z G [.ref a0, .int p1] post mc ms := by
  obtain ⟨MC, eMC⟩ : ∃ MC, MC = mc := ⟨_, rfl⟩
  obtain ⟨MS, eMS⟩ : ∃ MS, MS = ms := ⟨_, rfl⟩
  suffices goal : HMq l yX5_of (ws_ yX5_of cX5_of 4 (some (.object "MergeJudge$Locks"))) (rhX5_of fr lo MC MS) D jC (jty j.1) Z G [.ref a0, .int p1] post MC MS by rw [eMC, eMS] at goal; exact goal
  have hm0_ : 0 + mc ≤ MC ∧ 0 + ms ≤ MS := by omega
  clear eMC eMS
  refine h_openq (Or.inl ⟨_, rfl⟩) E.1 (by decide) (by exact Nat.le_of_ble_eq_true rfl) (fun p e s m args below meth c ls A0 Q X hI hnd hnm hl hret => ?_)
  have X : XC p s m args meth c cX5_of 4 RX5 D jC (jty j.1) A0 Z := X
  have hx := X.1
  have hb := X.2.1
  have hown := X.2.2.2.1
  have hts := X.2.2.2.2.1
  have L32 : ∀ (n : Nat) (lx2 : Int32) (lx3 : Int32) (mc ms : Nat) (G : HG), hX5_of_l32 j Λ a0 p1 post n lx2 lx3 mc ms G → ∀ (cells slots : Nat), cells + mc ≤ MC ∧ slots + ms ≤ MS → ∀ (H : Heap) (locs : List Loc), HI D jC G A0 s.heap H locs → ∀ (ls : Array Slot), lv_has ls 4 [(0, .ref a0), (1, .int p1), (2, .int lx2), (3, .int lx3)] → W p l e (rhX5_of fr lo MC MS) s m args below meth c H locs cells slots Q (F0 m 32 ls []) := by
    intro n32
    induction n32 with
    | zero => intro lx2 lx3 mc ms G hf; exact hf.elim
    | succ n32 ih32 =>
      have J96 : ∀ (lx2 : Int32) (lx3 : Int32) (mc ms : Nat) (G : HG), hX5_of_b96 j Λ a0 p1 post (hX5_of_l32 j Λ a0 p1 post n32) lx2 lx3 mc ms G → ∀ (cells slots : Nat), cells + mc ≤ MC ∧ slots + ms ≤ MS → ∀ (H : Heap) (locs : List Loc), HI D jC G A0 s.heap H locs → ∀ (ls : Array Slot), lv_has ls 4 [(0, .ref a0), (1, .int p1), (2, .int lx2), (3, .int lx3)] → W p l e (rhX5_of fr lo MC MS) s m args below meth c H locs cells slots Q (F0 m 96 ls []) := by
        intro lx2 lx3 mc ms G hf cells slots hm H locs hI ls hl
        unfold hX5_of_b96 at hf
        refine lv_iinc (v := lx3 + 1) (lv' := [(3, .int (lx3 + 1)), (0, .ref a0), (1, .int p1), (2, .int lx2)]) hx hb dX5_of_96 hl (k := 3) rfl rfl (by decide) rfl (fun ls hl => ?_)
        refine lv_goto (tgt := 32) hx hb dX5_of_99 (by decide) ?_
        exact ih32 lx2 (lx3 + 1) mc ms G hf _ _ hm H locs hI ls (lv_sub hl [1, 2, 3, 0] rfl)
      have J91 : ∀ (lx2 : Int32) (lx3 : Int32) (mc ms : Nat) (G : HG), hX5_of_b91 j Λ a0 p1 post (hX5_of_l32 j Λ a0 p1 post n32) lx2 lx3 mc ms G → ∀ (cells slots : Nat), cells + mc ≤ MC ∧ slots + ms ≤ MS → ∀ (H : Heap) (locs : List Loc), HI D jC G A0 s.heap H locs → ∀ (ls : Array Slot), lv_has ls 4 [(0, .ref a0), (1, .int p1), (2, .int lx2), (3, .int lx3)] → W p l e (rhX5_of fr lo MC MS) s m args below meth c H locs cells slots Q (F0 m 91 ls []) := by
        intro lx2 lx3 mc ms G hf cells slots hm H locs hI ls hl
        unfold hX5_of_b91 at hf
        refine lv_aload_n hx hb dX5_of_91 rfl (lv_at hl 0 rfl) ?_
        refine lv_iload_n hx hb dX5_of_92 rfl (lv_at hl 3 rfl) ?_
        refine hr_pt X hI (rfl : jC.1[5]? = some (RX5, TX5, 3)) in_X5 0 (Nat.le_of_ble_eq_true rfl) tyX5 tyX5_ok nmX5 hf q613 (fun _ h => h) rfl rfl rfl dX5_of_93 (fun G41 H locs hf hI => ?_)
        exact J96 lx2 lx3 mc ms G41 hf _ _ hm H locs hI ls (lv_sub hl [0, 1, 2, 3] rfl)
      intro lx2 lx3 mc ms G hf cells slots hm H locs hI ls hl
      have hf : hX5_of_b32 j Λ a0 p1 post (hX5_of_l32 j Λ a0 p1 post n32) lx2 lx3 mc ms G := hf
      unfold hX5_of_b32 at hf
      refine lv_iload_n hx hb dX5_of_32 rfl (lv_at hl 3 rfl) ?_
      refine lv_iload_n hx hb dX5_of_33 rfl (lv_at hl 2 rfl) ?_
      refine lv_icmp_gt (tgt := 102) hx hb dX5_of_34 (by decide) (fun c12 => ?_) (fun c12 => ?_)
      · have hf := hf.1 c12
        refine lv_aload_n hx hb dX5_of_102 rfl (lv_at hl 0 rfl) ?_
        refine hr_gtQ X hI (rfl : jC.1[5]? = some (RX5, TX5, 3)) in_X5 2 (Nat.le_of_ble_eq_true rfl) hf q617 (fun _ h => h) dX5_of_103 (fun q13 hf => ?_)
        refine lv_aload_n hx hb dX5_of_106 rfl (lv_at hl 0 rfl) ?_
        refine hr_gtQ X hI (rfl : jC.1[5]? = some (RX5, TX5, 3)) in_X5 2 (Nat.le_of_ble_eq_true rfl) hf q617 (fun _ h => h) dX5_of_107 (fun q14 hf => ?_)
        obtain ⟨a15, ea15, hf⟩ := hf
        revert hl hf
        subst ea15
        intro hl hf
        have hl : lv_has ls 4 [(0, .ref a0), (1, .int p1), (2, .int lx2), (3, .int lx3)] := hl
        refine hr_gtQN X hI (rfl : jC.1[0]? = some (RX0, TX0, 20)) in_X0 1 (Nat.le_of_ble_eq_true rfl) hf (E.nw X q651 rfl) (fun _ h => h) dX5_of_110 (fun q16 hf => ?_)
        obtain ⟨a17, ea17, hf⟩ := hf
        revert hl hf
        subst ea17
        intro hl hf
        have hl : lv_has ls 4 [(0, .ref a0), (1, .int p1), (2, .int lx2), (3, .int lx3)] := hl
        refine hr_gtIN X hI (rfl : jC.1[2]? = some (RX2, TX2, 11)) in_X2 9 (Nat.le_of_ble_eq_true rfl) hf (E.nw X q503 rfl) (fun _ h => h) dX5_of_113 (fun x18 hf => ?_)
        obtain ⟨a19, ea19, hf⟩ := hf
        revert hl hf
        subst ea19
        intro hl hf
        have hl : lv_has ls 4 [(0, .ref a0), (1, .int p1), (2, .int lx2), (3, .int lx3)] := hl
        refine hr_ptN X hI (rfl : jC.1[0]? = some (RX0, TX0, 20)) in_X0 13 (Nat.le_of_ble_eq_true rfl) tyX0 tyX0_ok nmX0 hf (E.nw X q666 rfl) (fun _ h => h) rfl rfl rfl dX5_of_116 (fun G20 H locs hf hI => ?_)
        refine lv_aload_n hx hb dX5_of_119 rfl (lv_at hl 0 rfl) ?_
        exact hret (v := (some a0)) hf hI dX5_of_120 (hmC hm.1) (hmC hm.2)
      · have hf := hf.2 c12
        refine lv_aload_n hx hb dX5_of_37 rfl (lv_at hl 0 rfl) ?_
        refine hr_gtQ X hI (rfl : jC.1[5]? = some (RX5, TX5, 3)) in_X5 2 (Nat.le_of_ble_eq_true rfl) hf q617 (fun _ h => h) dX5_of_38 (fun q21 hf => ?_)
        refine lv_iload_n hx hb dX5_of_41 rfl (lv_at hl 3 rfl) ?_
        obtain ⟨a22, ea22, hf⟩ := hf
        revert hl hf
        subst ea22
        intro hl hf
        have hl : lv_has ls 4 [(0, .ref a0), (1, .int p1), (2, .int lx2), (3, .int lx3)] := hl
        refine hr_ptN X hI (rfl : jC.1[0]? = some (RX0, TX0, 20)) in_X0 13 (Nat.le_of_ble_eq_true rfl) tyX0 tyX0_ok nmX0 hf (E.nw X q666 rfl) (fun _ h => h) rfl rfl rfl dX5_of_42 (fun G23 H locs hf hI => ?_)
        refine lv_aload_n hx hb dX5_of_45 rfl (lv_at hl 0 rfl) ?_
        refine hr_gtQ X hI (rfl : jC.1[5]? = some (RX5, TX5, 3)) in_X5 2 (Nat.le_of_ble_eq_true rfl) hf q617 (fun _ h => h) dX5_of_46 (fun q24 hf => ?_)
        refine lv_iload_n hx hb dX5_of_49 rfl (lv_at hl 1 rfl) ?_
        obtain ⟨a25, ea25, hf⟩ := hf
        revert hl hf
        subst ea25
        intro hl hf
        have hl : lv_has ls 4 [(0, .ref a0), (1, .int p1), (2, .int lx2), (3, .int lx3)] := hl
        obtain ⟨_, _, hO, hf⟩ := hf
        obtain ⟨m26, m27, hb1, hb2, hf⟩ := hf
        refine h_ki X hI (h_runVN (As := [.int p1]) X hI (h_recv X hI hO (show jC.1[0]? = some (RX0, TX0, 20) from rfl)) (mhX0_isSafe l Z D j Λ fr lo E a25 p1 m26 m27 G23 _ hf H.size) (cwVn 1 hts (E.nw X q2345 rfl) q2269 qs63 q167 q2270 rfl rfl (by decide +kernel) (by show fr + 5 + 1 ≤ fr + 6 ∧ 8 + (3 + 11) + (lo + 3200) ≤ lo + 3222; omega)) rfl hl.1 (Nat.le_of_ble_eq_true rfl) dX5_of_50 ⟨hmA hm.1 hb1, hmA hm.2 hb2⟩ rfl) (fun x29 G28 H locs hf hI => ?_)
        have hm := And.intro (hmB hm.1 hb1) (hmB hm.2 hb2)
        clear hb1 hb2
        clear hO
        refine lv_if_ne (tgt := 59) hx hb dX5_of_53 (by decide) (fun c30 => ?_) (fun c30 => ?_)
        · have hf := hf.2 c30
          refine lv_aload_n hx hb dX5_of_59 rfl (lv_at hl 0 rfl) ?_
          refine lv_dup hx hb dX5_of_60 rfl ?_
          refine hr_gtI X hI (rfl : jC.1[5]? = some (RX5, TX5, 3)) in_X5 1 (Nat.le_of_ble_eq_true rfl) hf q615 (fun _ h => h) dX5_of_61 (fun x31 hf => ?_)
          refine lv_iload_n hx hb dX5_of_64 rfl (lv_at hl 3 rfl) ?_
          refine lv_iand hx hb dX5_of_65 ?_
          refine hr_pt X hI (rfl : jC.1[5]? = some (RX5, TX5, 3)) in_X5 1 (Nat.le_of_ble_eq_true rfl) tyX5 tyX5_ok nmX5 hf q615 (fun _ h => h) rfl rfl rfl dX5_of_66 (fun G32 H locs hf hI => ?_)
          refine lv_aload_n hx hb dX5_of_69 rfl (lv_at hl 0 rfl) ?_
          refine hr_gtI X hI (rfl : jC.1[5]? = some (RX5, TX5, 3)) in_X5 0 (Nat.le_of_ble_eq_true rfl) hf q613 (fun _ h => h) dX5_of_70 (fun x33 hf => ?_)
          refine lv_iconst (v := -1) hx hb dX5_of_73 (by decide) ?_
          refine lv_icmp_eq (tgt := 91) hx hb dX5_of_74 (by decide) (fun c34 => ?_) (fun c34 => ?_)
          · have hf := hf.1 c34
            exact J91 lx2 lx3 (mc - m26) (ms - m27) G32 hf _ _ hm H locs hI ls (lv_sub hl [0, 1, 2, 3] rfl)
          · have hf := hf.2 c34
            refine lv_iload_n hx hb dX5_of_77 rfl (lv_at hl 3 rfl) ?_
            refine h_ki X hI (h_runSN (As := [.int lx3]) X hI (mhX0_size l Z D j Λ fr lo E lx3 G32 _ hf H.size) (cwSn 1 hts (E.nw X q2346 rfl) q2347 q167 q2348 rfl rfl (by decide +kernel) (by show fr + 2 + 1 ≤ fr + 6 ∧ 8 + (1 + 11) + (lo + 60) ≤ lo + 3222; omega)) rfl hl.1 (Nat.le_of_ble_eq_true rfl) dX5_of_78 ⟨hm0 hm.1, hm0 hm.2⟩ rfl) (fun x36 G35 H locs hf hI => ?_)
            refine lv_aload_n hx hb dX5_of_81 rfl (lv_at hl 0 rfl) ?_
            refine hr_gtI X hI (rfl : jC.1[5]? = some (RX5, TX5, 3)) in_X5 0 (Nat.le_of_ble_eq_true rfl) hf q613 (fun _ h => h) dX5_of_82 (fun x37 hf => ?_)
            refine h_ki X hI (h_runSN (As := [.int x37]) X hI (mhX0_size l Z D j Λ fr lo E x37 G35 _ hf H.size) (cwSn 1 hts (E.nw X q2346 rfl) q2347 q167 q2348 rfl rfl (by decide +kernel) (by show fr + 2 + 1 ≤ fr + 6 ∧ 8 + (1 + 11) + (lo + 60) ≤ lo + 3222; omega)) rfl hl.1 (Nat.le_of_ble_eq_true rfl) dX5_of_85 ⟨hm0 hm.1, hm0 hm.2⟩ rfl) (fun x39 G38 H locs hf hI => ?_)
            refine lv_icmp_ge (tgt := 96) hx hb dX5_of_88 (by decide) (fun c40 => ?_) (fun c40 => ?_)
            · have hf := hf.1 c40
              exact J96 lx2 lx3 (mc - m26) (ms - m27) G38 hf _ _ hm H locs hI ls (lv_sub hl [0, 1, 2, 3] rfl)
            · have hf := hf.2 c40
              exact J91 lx2 lx3 (mc - m26) (ms - m27) G38 hf _ _ hm H locs hI ls (lv_sub hl [0, 1, 2, 3] rfl)
        · have hf := hf.1 c30
          refine lv_goto (tgt := 96) hx hb dX5_of_56 (by decide) ?_
          exact J96 lx2 lx3 (mc - m26) (ms - m27) G28 hf _ _ hm H locs hI ls (lv_sub hl [0, 1, 2, 3] rfl)
  have hl : lv_has ls 4 [(0, .ref a0), (1, .int p1)] := by exact hl
  unfold hX5_of at hf
  obtain ⟨H, eH⟩ : ∃ H, H = s.heap := ⟨_, rfl⟩
  obtain ⟨locs, eL⟩ : ∃ locs : List Loc, locs = [] := ⟨_, rfl⟩
  have hI : HI D jC G A0 s.heap H locs := by rw [eH, eL]; exact hI
  rw [← eL]
  obtain ⟨cells, eC⟩ : ∃ n : Nat, n = 0 := ⟨_, rfl⟩
  obtain ⟨slots, eS⟩ : ∃ n : Nat, n = 0 := ⟨_, rfl⟩
  have hm : cells + mc ≤ MC ∧ slots + ms ≤ MS := by rw [eC, eS]; exact hm0_
  suffices h : W p l e (rhX5_of fr lo MC MS) s m args below meth c H locs cells slots Q (F0 m 0 ls []) by rw [eH, eC, eS] at h; exact h
  clear eH eL eC eS
  refine lv_iconst (v := 1) hx hb dX5_of_0 (by decide) ?_
  refine lv_aload_n hx hb dX5_of_1 rfl (lv_at hl 0 rfl) ?_
  refine hr_gtQ X hI (rfl : jC.1[5]? = some (RX5, TX5, 3)) in_X5 2 (Nat.le_of_ble_eq_true rfl) hf q617 (fun _ h => h) dX5_of_2 (fun q1 hf => ?_)
  obtain ⟨a2, ea2, hf⟩ := hf
  revert hl hf
  subst ea2
  intro hl hf
  have hl : lv_has ls 4 [(0, .ref a0), (1, .int p1)] := hl
  refine hr_gtQN X hI (rfl : jC.1[0]? = some (RX0, TX0, 20)) in_X0 1 (Nat.le_of_ble_eq_true rfl) hf (E.nw X q651 rfl) (fun _ h => h) dX5_of_5 (fun q3 hf => ?_)
  obtain ⟨a4, ea4, hf⟩ := hf
  revert hl hf
  subst ea4
  intro hl hf
  have hl : lv_has ls 4 [(0, .ref a0), (1, .int p1)] := hl
  refine hr_gtQN X hI (rfl : jC.1[2]? = some (RX2, TX2, 11)) in_X2 1 (Nat.le_of_ble_eq_true rfl) hf (E.nw X q480 rfl) (fun _ h => h) dX5_of_8 (fun q5 hf => ?_)
  obtain ⟨a6, ea6, hf⟩ := hf
  revert hl hf
  subst ea6
  intro hl hf
  have hl : lv_has ls 4 [(0, .ref a0), (1, .int p1)] := hl
  obtain ⟨_, _, hO, hf⟩ := hf
  refine h_Fki X hI (h_runF (As := []) X hI (X.2.2.2.2.2.1.1 15 _ (show jC.1[15]? = some (RJ2, TJ2, 3) from rfl)).2 (h_recv X hI hO (show jC.1[15]? = some (RJ2, TJ2, 3) from rfl)) (mhJ2_size l Z D j Λ fr lo E a6 G _ hf H.size) (cwF 0 hts q2344 q1771 q1773 q172 q1775 ((E.w X).2.2.1 _ (List.mem_of_getElem? (show jFw[0]? = _ from rfl))) rfl rfl (by decide +kernel) (by show fr + 1 + 1 ≤ fr + 6 ∧ 8 + (1 + 11) + (lo + 40) ≤ lo + 3222; omega)) rfl hl.1 (Nat.le_of_ble_eq_true rfl) dX5_of_11 ⟨hm0 hm.1, hm0 hm.2⟩ rfl) (fun x8 G7 H locs hf hI => ?_)
  clear hO
  refine lv_ishl hx hb dX5_of_16 ?_
  refine lv_iconst (v := 1) hx hb dX5_of_17 (by decide) ?_
  refine lv_isub hx hb dX5_of_18 ?_
  obtain ⟨v9, ev9⟩ : ∃ v9, v9 = (((1 : Int32) <<< (x8 &&& 31)) - 1) := ⟨_, rfl⟩
  have hf := hf v9 ev9
  rw [← ev9]
  clear ev9
  refine lv_istore_n (lv' := [(2, .int v9), (0, .ref a0), (1, .int p1)]) hx hb dX5_of_19 rfl hl (by decide) rfl (fun ls hl => ?_)
  refine lv_aload_n hx hb dX5_of_20 rfl (lv_at hl 1 rfl) ?_
  refine lv_iconst (v := -1) hx hb dX5_of_21 (by decide) ?_
  refine hr_pt X hI (rfl : jC.1[5]? = some (RX5, TX5, 3)) in_X5 0 (Nat.le_of_ble_eq_true rfl) tyX5 tyX5_ok nmX5 hf q613 (fun _ h => h) rfl rfl rfl dX5_of_22 (fun G10 H locs hf hI => ?_)
  refine lv_aload_n hx hb dX5_of_25 rfl (lv_at hl 1 rfl) ?_
  refine lv_iload_n hx hb dX5_of_26 rfl (lv_at hl 0 rfl) ?_
  refine hr_pt X hI (rfl : jC.1[5]? = some (RX5, TX5, 3)) in_X5 1 (Nat.le_of_ble_eq_true rfl) tyX5 tyX5_ok nmX5 hf q615 (fun _ h => h) rfl rfl rfl dX5_of_27 (fun G11 H locs hf hI => ?_)
  refine lv_iconst (v := 0) hx hb dX5_of_30 (by decide) ?_
  refine lv_istore_n (lv' := [(3, .int 0), (2, .int v9), (0, .ref a0), (1, .int p1)]) hx hb dX5_of_31 rfl hl (by decide) rfl (fun ls hl => ?_)
  obtain ⟨n, hf⟩ := hf
  exact L32 n v9 (0 : Int32) mc ms G11 hf _ _ hm H locs hI ls (lv_sub hl [2, 3, 1, 0] rfl)
/-! MergeJudge.fewest(I)I -/
def hX0_fewest (j : JX) (Λ : JLam) (a0 : Nat) (p1 : Int32) (mc ms : Nat) (G : HG) (post : Int32 → HG → Prop) : Prop :=
  isO G a0 0 (hX0_isDeep j Λ a0 p1 G fun x2 G1 => (x2 = 0 → (post ((-2) : Int32) G1)) ∧ (¬ x2 = 0 → (gtQ G1 a0 0 19 fun q4 => nnq q4 fun a5 => isO G1 a5 5 (∃ m6 m7 : Nat, m6 ≤ mc ∧ m7 ≤ ms ∧ hX5_of j Λ a5 p1 m6 m7 G1 fun q9 G8 => nnq q9 fun a10 => gtI G8 a10 5 0 fun x11 => (x11 = ((-1) : Int32) → (post ((-1) : Int32) G8)) ∧ (¬ x11 = ((-1) : Int32) → (hX0_size j Λ x11 G8 fun x14 G13 => post x14 G13))))))
abbrev rhX0_fewest (fr lo mc ms : Nat) : Room := { frames := fr + 7, cells := mc, slots := ms, locals := lo + 3245 }
theorem mhX0_fewest (l : Launch) (Z : (Nat → Prop) → State → Heap → Prop) (D : va_G) (j : JX) (Λ : JLam) (fr lo : Nat) (E : JE l Z D j Λ fr lo) (a0 : Nat) (p1 : Int32) (mc ms : Nat) (G : HG) (post : Int32 → HG → Prop) (hf : hX0_fewest j Λ a0 p1 mc ms G post) : HMi l yX0_fewest (ws_ yX0_fewest cX0_fewest 3 (some .int)) (rhX0_fewest fr lo mc ms) D jC (jty j.1) Z G [.ref a0, .int p1] post mc ms := by
  obtain ⟨MC, eMC⟩ : ∃ MC, MC = mc := ⟨_, rfl⟩
  obtain ⟨MS, eMS⟩ : ∃ MS, MS = ms := ⟨_, rfl⟩
  suffices goal : HMi l yX0_fewest (ws_ yX0_fewest cX0_fewest 3 (some .int)) (rhX0_fewest fr lo MC MS) D jC (jty j.1) Z G [.ref a0, .int p1] post MC MS by rw [eMC, eMS] at goal; exact goal
  have hm0_ : 0 + mc ≤ MC ∧ 0 + ms ≤ MS := by omega
  clear eMC eMS
  refine h_openi E.1 (by decide) (by exact Nat.le_of_ble_eq_true rfl) (fun p e s m args below meth c ls A0 Q X hI hnd hnm hl hret => ?_)
  have X : XC p s m args meth c cX0_fewest 3 RX0 D jC (jty j.1) A0 Z := X
  have hx := X.1
  have hb := X.2.1
  have hown := X.2.2.2.1
  have hts := X.2.2.2.2.1
  have hl : lv_has ls 3 [(0, .ref a0), (1, .int p1)] := by exact hl
  unfold hX0_fewest at hf
  obtain ⟨H, eH⟩ : ∃ H, H = s.heap := ⟨_, rfl⟩
  obtain ⟨locs, eL⟩ : ∃ locs : List Loc, locs = [] := ⟨_, rfl⟩
  have hI : HI D jC G A0 s.heap H locs := by rw [eH, eL]; exact hI
  rw [← eL]
  obtain ⟨cells, eC⟩ : ∃ n : Nat, n = 0 := ⟨_, rfl⟩
  obtain ⟨slots, eS⟩ : ∃ n : Nat, n = 0 := ⟨_, rfl⟩
  have hm : cells + mc ≤ MC ∧ slots + ms ≤ MS := by rw [eC, eS]; exact hm0_
  suffices h : W p l e (rhX0_fewest fr lo MC MS) s m args below meth c H locs cells slots Q (F0 m 0 ls []) by rw [eH, eC, eS] at h; exact h
  clear eH eL eC eS
  refine lv_aload_n hx hb dX0_fewest_0 rfl (lv_at hl 0 rfl) ?_
  refine lv_iload_n hx hb dX0_fewest_1 rfl (lv_at hl 1 rfl) ?_
  obtain ⟨_, _, hO, hf⟩ := hf
  refine h_ki X hI (h_runV (As := [.int p1]) X hI (h_recv X hI hO (show jC.1[0]? = some (RX0, TX0, 20) from rfl)) (mhX0_isDeep l Z D j Λ fr lo E a0 p1 G _ hf H.size) (cwV 1 hts (lw_V q1976 q1978 qs44 q167 q1979) rfl rfl rfl (by decide +kernel) (by show fr + 2 + 1 ≤ fr + 7 ∧ 8 + (2 + 11) + (lo + 65) ≤ lo + 3245; omega)) rfl hl.1 (Nat.le_of_ble_eq_true rfl) dX0_fewest_2 ⟨hm0 hm.1, hm0 hm.2⟩ rfl) (fun x2 G1 H locs hf hI => ?_)
  clear hO
  refine lv_if_ne (tgt := 11) hx hb dX0_fewest_5 (by decide) (fun c3 => ?_) (fun c3 => ?_)
  · have hf := hf.2 c3
    refine lv_aload_n hx hb dX0_fewest_11 rfl (lv_at hl 0 rfl) ?_
    refine hr_gtQ X hI (rfl : jC.1[0]? = some (RX0, TX0, 20)) in_X0 19 (Nat.le_of_ble_eq_true rfl) hf q674 (fun _ h => h) dX0_fewest_12 (fun q4 hf => ?_)
    refine lv_iload_n hx hb dX0_fewest_15 rfl (lv_at hl 1 rfl) ?_
    obtain ⟨a5, ea5, hf⟩ := hf
    revert hl hf
    subst ea5
    intro hl hf
    have hl : lv_has ls 3 [(0, .ref a0), (1, .int p1)] := hl
    obtain ⟨_, _, hO, hf⟩ := hf
    obtain ⟨m6, m7, hb1, hb2, hf⟩ := hf
    refine h_kq X hI (h_runV (As := [.int p1]) X hI (h_recv X hI hO (show jC.1[5]? = some (RX5, TX5, 3) from rfl)) (mhX5_of l Z D j Λ fr lo E a5 p1 m6 m7 G1 _ hf H.size) (cwV 1 hts (lw_V q2339 q2340 q2341 q176 q2342) rfl rfl rfl (by decide +kernel) (by show fr + 6 + 1 ≤ fr + 7 ∧ 8 + (4 + 11) + (lo + 3222) ≤ lo + 3245; omega)) rfl hl.1 (Nat.le_of_ble_eq_true rfl) dX0_fewest_16 ⟨hmA hm.1 hb1, hmA hm.2 hb2⟩ rfl) (fun q9 G8 H locs hf hI => ?_)
    have hm := And.intro (hmB hm.1 hb1) (hmB hm.2 hb2)
    clear hb1 hb2
    clear hO
    obtain ⟨a10, ea10, hf⟩ := hf
    revert hl hf
    subst ea10
    intro hl hf
    have hl : lv_has ls 3 [(0, .ref a0), (1, .int p1)] := hl
    refine hr_gtIN X hI (rfl : jC.1[5]? = some (RX5, TX5, 3)) in_X5 0 (Nat.le_of_ble_eq_true rfl) hf (E.nw X q614 rfl) (fun _ h => h) dX0_fewest_19 (fun x11 hf => ?_)
    refine lv_istore_n (lv' := [(2, .int x11), (0, .ref a0), (1, .int p1)]) hx hb dX0_fewest_22 rfl hl (by decide) rfl (fun ls hl => ?_)
    refine lv_iload_n hx hb dX0_fewest_23 rfl (lv_at hl 0 rfl) ?_
    refine lv_iconst (v := -1) hx hb dX0_fewest_24 (by decide) ?_
    refine lv_icmp_ne (tgt := 32) hx hb dX0_fewest_25 (by decide) (fun c12 => ?_) (fun c12 => ?_)
    · have hf := hf.2 c12
      refine lv_iload_n hx hb dX0_fewest_32 rfl (lv_at hl 0 rfl) ?_
      refine h_ki X hI (h_runS (As := [.int x11]) X hI (mhX0_size l Z D j Λ fr lo E x11 G8 _ hf H.size) (va_cwS 1 hts (lw_S q2355 q2347 q167 q2348) rfl rfl rfl (by decide +kernel) (by show fr + 2 + 1 ≤ fr + 7 ∧ 8 + (1 + 11) + (lo + 60) ≤ lo + 3245; omega)) rfl hl.1 (Nat.le_of_ble_eq_true rfl) dX0_fewest_33 ⟨hm0 hm.1, hm0 hm.2⟩ rfl) (fun x14 G13 H locs hf hI => ?_)
      exact hret hf hI dX0_fewest_36 (hmC hm.1) (hmC hm.2)
    · have hf := hf.1 c12
      refine lv_iconst (v := -1) hx hb dX0_fewest_28 (by decide) ?_
      refine lv_goto (tgt := 36) hx hb dX0_fewest_29 (by decide) ?_
      exact hret hf hI dX0_fewest_36 (hmC hm.1) (hmC hm.2)
  · have hf := hf.1 c3
    refine lv_bipush (v := -2) hx hb dX0_fewest_8 (by decide) ?_
    exact hret hf hI dX0_fewest_10 (hmC hm.1) (hmC hm.2)
/-! MergeJudge.locks(I)I -/
def hX0_locks (j : JX) (Λ : JLam) (a0 : Nat) (p1 : Int32) (mc ms : Nat) (G : HG) (post : Int32 → HG → Prop) : Prop :=
  isO G a0 0 (hX0_isDeep j Λ a0 p1 G fun x2 G1 => (x2 = 0 → (post ((-2) : Int32) G1)) ∧ (¬ x2 = 0 → (gtQ G1 a0 0 19 fun q4 => nnq q4 fun a5 => isO G1 a5 5 (∃ m6 m7 : Nat, m6 ≤ mc ∧ m7 ≤ ms ∧ hX5_of j Λ a5 p1 m6 m7 G1 fun q9 G8 => nnq q9 fun a10 => gtI G8 a10 5 0 fun x11 => post x11 G8))))
abbrev rhX0_locks (fr lo mc ms : Nat) : Room := { frames := fr + 7, cells := mc, slots := ms, locals := lo + 3245 }
theorem mhX0_locks (l : Launch) (Z : (Nat → Prop) → State → Heap → Prop) (D : va_G) (j : JX) (Λ : JLam) (fr lo : Nat) (E : JE l Z D j Λ fr lo) (a0 : Nat) (p1 : Int32) (mc ms : Nat) (G : HG) (post : Int32 → HG → Prop) (hf : hX0_locks j Λ a0 p1 mc ms G post) : HMi l yX0_locks (ws_ yX0_locks cX0_locks 2 (some .int)) (rhX0_locks fr lo mc ms) D jC (jty j.1) Z G [.ref a0, .int p1] post mc ms := by
  obtain ⟨MC, eMC⟩ : ∃ MC, MC = mc := ⟨_, rfl⟩
  obtain ⟨MS, eMS⟩ : ∃ MS, MS = ms := ⟨_, rfl⟩
  suffices goal : HMi l yX0_locks (ws_ yX0_locks cX0_locks 2 (some .int)) (rhX0_locks fr lo MC MS) D jC (jty j.1) Z G [.ref a0, .int p1] post MC MS by rw [eMC, eMS] at goal; exact goal
  have hm0_ : 0 + mc ≤ MC ∧ 0 + ms ≤ MS := by omega
  clear eMC eMS
  refine h_openi E.1 (by decide) (by exact Nat.le_of_ble_eq_true rfl) (fun p e s m args below meth c ls A0 Q X hI hnd hnm hl hret => ?_)
  have X : XC p s m args meth c cX0_locks 2 RX0 D jC (jty j.1) A0 Z := X
  have hx := X.1
  have hb := X.2.1
  have hown := X.2.2.2.1
  have hts := X.2.2.2.2.1
  have hl : lv_has ls 2 [(0, .ref a0), (1, .int p1)] := by exact hl
  unfold hX0_locks at hf
  obtain ⟨H, eH⟩ : ∃ H, H = s.heap := ⟨_, rfl⟩
  obtain ⟨locs, eL⟩ : ∃ locs : List Loc, locs = [] := ⟨_, rfl⟩
  have hI : HI D jC G A0 s.heap H locs := by rw [eH, eL]; exact hI
  rw [← eL]
  obtain ⟨cells, eC⟩ : ∃ n : Nat, n = 0 := ⟨_, rfl⟩
  obtain ⟨slots, eS⟩ : ∃ n : Nat, n = 0 := ⟨_, rfl⟩
  have hm : cells + mc ≤ MC ∧ slots + ms ≤ MS := by rw [eC, eS]; exact hm0_
  suffices h : W p l e (rhX0_locks fr lo MC MS) s m args below meth c H locs cells slots Q (F0 m 0 ls []) by rw [eH, eC, eS] at h; exact h
  clear eH eL eC eS
  refine lv_aload_n hx hb dX0_locks_0 rfl (lv_at hl 0 rfl) ?_
  refine lv_iload_n hx hb dX0_locks_1 rfl (lv_at hl 1 rfl) ?_
  obtain ⟨_, _, hO, hf⟩ := hf
  refine h_ki X hI (h_runV (As := [.int p1]) X hI (h_recv X hI hO (show jC.1[0]? = some (RX0, TX0, 20) from rfl)) (mhX0_isDeep l Z D j Λ fr lo E a0 p1 G _ hf H.size) (cwV 1 hts (lw_V q1976 q1978 qs44 q167 q1979) rfl rfl rfl (by decide +kernel) (by show fr + 2 + 1 ≤ fr + 7 ∧ 8 + (2 + 11) + (lo + 65) ≤ lo + 3245; omega)) rfl hl.1 (Nat.le_of_ble_eq_true rfl) dX0_locks_2 ⟨hm0 hm.1, hm0 hm.2⟩ rfl) (fun x2 G1 H locs hf hI => ?_)
  clear hO
  refine lv_if_eq (tgt := 22) hx hb dX0_locks_5 (by decide) (fun c3 => ?_) (fun c3 => ?_)
  · have hf := hf.1 c3
    refine lv_bipush (v := -2) hx hb dX0_locks_22 (by decide) ?_
    exact hret hf hI dX0_locks_24 (hmC hm.1) (hmC hm.2)
  · have hf := hf.2 c3
    refine lv_aload_n hx hb dX0_locks_8 rfl (lv_at hl 0 rfl) ?_
    refine hr_gtQ X hI (rfl : jC.1[0]? = some (RX0, TX0, 20)) in_X0 19 (Nat.le_of_ble_eq_true rfl) hf q674 (fun _ h => h) dX0_locks_9 (fun q4 hf => ?_)
    refine lv_iload_n hx hb dX0_locks_12 rfl (lv_at hl 1 rfl) ?_
    obtain ⟨a5, ea5, hf⟩ := hf
    revert hl hf
    subst ea5
    intro hl hf
    have hl : lv_has ls 2 [(0, .ref a0), (1, .int p1)] := hl
    obtain ⟨_, _, hO, hf⟩ := hf
    obtain ⟨m6, m7, hb1, hb2, hf⟩ := hf
    refine h_kq X hI (h_runV (As := [.int p1]) X hI (h_recv X hI hO (show jC.1[5]? = some (RX5, TX5, 3) from rfl)) (mhX5_of l Z D j Λ fr lo E a5 p1 m6 m7 G1 _ hf H.size) (cwV 1 hts (lw_V q2339 q2340 q2341 q176 q2342) rfl rfl rfl (by decide +kernel) (by show fr + 6 + 1 ≤ fr + 7 ∧ 8 + (4 + 11) + (lo + 3222) ≤ lo + 3245; omega)) rfl hl.1 (Nat.le_of_ble_eq_true rfl) dX0_locks_13 ⟨hmA hm.1 hb1, hmA hm.2 hb2⟩ rfl) (fun q9 G8 H locs hf hI => ?_)
    have hm := And.intro (hmB hm.1 hb1) (hmB hm.2 hb2)
    clear hb1 hb2
    clear hO
    obtain ⟨a10, ea10, hf⟩ := hf
    revert hl hf
    subst ea10
    intro hl hf
    have hl : lv_has ls 2 [(0, .ref a0), (1, .int p1)] := hl
    refine hr_gtIN X hI (rfl : jC.1[5]? = some (RX5, TX5, 3)) in_X5 0 (Nat.le_of_ble_eq_true rfl) hf (E.nw X q614 rfl) (fun _ h => h) dX0_locks_16 (fun x11 hf => ?_)
    refine lv_goto (tgt := 24) hx hb dX0_locks_19 (by decide) ?_
    exact hret hf hI dX0_locks_24 (hmC hm.1) (hmC hm.2)
/-! MergeJudge.needed(I)I -/
def hX0_needed (j : JX) (Λ : JLam) (a0 : Nat) (p1 : Int32) (mc ms : Nat) (G : HG) (post : Int32 → HG → Prop) : Prop :=
  isO G a0 0 (hX0_isDeep j Λ a0 p1 G fun x2 G1 => (x2 = 0 → (post ((-2) : Int32) G1)) ∧ (¬ x2 = 0 → (gtQ G1 a0 0 19 fun q4 => nnq q4 fun a5 => isO G1 a5 5 (∃ m6 m7 : Nat, m6 ≤ mc ∧ m7 ≤ ms ∧ hX5_of j Λ a5 p1 m6 m7 G1 fun q9 G8 => nnq q9 fun a10 => gtI G8 a10 5 1 fun x11 => post x11 G8))))
abbrev rhX0_needed (fr lo mc ms : Nat) : Room := { frames := fr + 7, cells := mc, slots := ms, locals := lo + 3245 }
theorem mhX0_needed (l : Launch) (Z : (Nat → Prop) → State → Heap → Prop) (D : va_G) (j : JX) (Λ : JLam) (fr lo : Nat) (E : JE l Z D j Λ fr lo) (a0 : Nat) (p1 : Int32) (mc ms : Nat) (G : HG) (post : Int32 → HG → Prop) (hf : hX0_needed j Λ a0 p1 mc ms G post) : HMi l yX0_needed (ws_ yX0_needed cX0_needed 2 (some .int)) (rhX0_needed fr lo mc ms) D jC (jty j.1) Z G [.ref a0, .int p1] post mc ms := by
  obtain ⟨MC, eMC⟩ : ∃ MC, MC = mc := ⟨_, rfl⟩
  obtain ⟨MS, eMS⟩ : ∃ MS, MS = ms := ⟨_, rfl⟩
  suffices goal : HMi l yX0_needed (ws_ yX0_needed cX0_needed 2 (some .int)) (rhX0_needed fr lo MC MS) D jC (jty j.1) Z G [.ref a0, .int p1] post MC MS by rw [eMC, eMS] at goal; exact goal
  have hm0_ : 0 + mc ≤ MC ∧ 0 + ms ≤ MS := by omega
  clear eMC eMS
  refine h_openi E.1 (by decide) (by exact Nat.le_of_ble_eq_true rfl) (fun p e s m args below meth c ls A0 Q X hI hnd hnm hl hret => ?_)
  have X : XC p s m args meth c cX0_needed 2 RX0 D jC (jty j.1) A0 Z := X
  have hx := X.1
  have hb := X.2.1
  have hown := X.2.2.2.1
  have hts := X.2.2.2.2.1
  have hl : lv_has ls 2 [(0, .ref a0), (1, .int p1)] := by exact hl
  unfold hX0_needed at hf
  obtain ⟨H, eH⟩ : ∃ H, H = s.heap := ⟨_, rfl⟩
  obtain ⟨locs, eL⟩ : ∃ locs : List Loc, locs = [] := ⟨_, rfl⟩
  have hI : HI D jC G A0 s.heap H locs := by rw [eH, eL]; exact hI
  rw [← eL]
  obtain ⟨cells, eC⟩ : ∃ n : Nat, n = 0 := ⟨_, rfl⟩
  obtain ⟨slots, eS⟩ : ∃ n : Nat, n = 0 := ⟨_, rfl⟩
  have hm : cells + mc ≤ MC ∧ slots + ms ≤ MS := by rw [eC, eS]; exact hm0_
  suffices h : W p l e (rhX0_needed fr lo MC MS) s m args below meth c H locs cells slots Q (F0 m 0 ls []) by rw [eH, eC, eS] at h; exact h
  clear eH eL eC eS
  refine lv_aload_n hx hb dX0_needed_0 rfl (lv_at hl 0 rfl) ?_
  refine lv_iload_n hx hb dX0_needed_1 rfl (lv_at hl 1 rfl) ?_
  obtain ⟨_, _, hO, hf⟩ := hf
  refine h_ki X hI (h_runV (As := [.int p1]) X hI (h_recv X hI hO (show jC.1[0]? = some (RX0, TX0, 20) from rfl)) (mhX0_isDeep l Z D j Λ fr lo E a0 p1 G _ hf H.size) (cwV 1 hts (lw_V q1976 q1978 qs44 q167 q1979) rfl rfl rfl (by decide +kernel) (by show fr + 2 + 1 ≤ fr + 7 ∧ 8 + (2 + 11) + (lo + 65) ≤ lo + 3245; omega)) rfl hl.1 (Nat.le_of_ble_eq_true rfl) dX0_needed_2 ⟨hm0 hm.1, hm0 hm.2⟩ rfl) (fun x2 G1 H locs hf hI => ?_)
  clear hO
  refine lv_if_eq (tgt := 22) hx hb dX0_needed_5 (by decide) (fun c3 => ?_) (fun c3 => ?_)
  · have hf := hf.1 c3
    refine lv_bipush (v := -2) hx hb dX0_needed_22 (by decide) ?_
    exact hret hf hI dX0_needed_24 (hmC hm.1) (hmC hm.2)
  · have hf := hf.2 c3
    refine lv_aload_n hx hb dX0_needed_8 rfl (lv_at hl 0 rfl) ?_
    refine hr_gtQ X hI (rfl : jC.1[0]? = some (RX0, TX0, 20)) in_X0 19 (Nat.le_of_ble_eq_true rfl) hf q674 (fun _ h => h) dX0_needed_9 (fun q4 hf => ?_)
    refine lv_iload_n hx hb dX0_needed_12 rfl (lv_at hl 1 rfl) ?_
    obtain ⟨a5, ea5, hf⟩ := hf
    revert hl hf
    subst ea5
    intro hl hf
    have hl : lv_has ls 2 [(0, .ref a0), (1, .int p1)] := hl
    obtain ⟨_, _, hO, hf⟩ := hf
    obtain ⟨m6, m7, hb1, hb2, hf⟩ := hf
    refine h_kq X hI (h_runV (As := [.int p1]) X hI (h_recv X hI hO (show jC.1[5]? = some (RX5, TX5, 3) from rfl)) (mhX5_of l Z D j Λ fr lo E a5 p1 m6 m7 G1 _ hf H.size) (cwV 1 hts (lw_V q2339 q2340 q2341 q176 q2342) rfl rfl rfl (by decide +kernel) (by show fr + 6 + 1 ≤ fr + 7 ∧ 8 + (4 + 11) + (lo + 3222) ≤ lo + 3245; omega)) rfl hl.1 (Nat.le_of_ble_eq_true rfl) dX0_needed_13 ⟨hmA hm.1 hb1, hmA hm.2 hb2⟩ rfl) (fun q9 G8 H locs hf hI => ?_)
    have hm := And.intro (hmB hm.1 hb1) (hmB hm.2 hb2)
    clear hb1 hb2
    clear hO
    obtain ⟨a10, ea10, hf⟩ := hf
    revert hl hf
    subst ea10
    intro hl hf
    have hl : lv_has ls 2 [(0, .ref a0), (1, .int p1)] := hl
    refine hr_gtIN X hI (rfl : jC.1[5]? = some (RX5, TX5, 3)) in_X5 1 (Nat.le_of_ble_eq_true rfl) hf (E.nw X q616 rfl) (fun _ h => h) dX0_needed_16 (fun x11 hf => ?_)
    refine lv_goto (tgt := 24) hx hb dX0_needed_19 (by decide) ?_
    exact hret hf hI dX0_needed_24 (hmC hm.1) (hmC hm.2)
/-! MergeJudge.blame()I -/
def hX0_blame_b75 (j : JX) (Λ : JLam) (a0 : Nat) (post : Int32 → HG → Prop) (K23 : Int32 → Int32 → Int32 → Nat → Nat → HG → Prop) (lx1 : Int32) (lx2 : Int32) (lx3 : Int32) (mc ms : Nat) (G : HG) : Prop :=
  K23 lx1 lx2 (lx3 + 1) mc ms G
def hX0_blame_b23 (j : JX) (Λ : JLam) (a0 : Nat) (post : Int32 → HG → Prop) (K23 : Int32 → Int32 → Int32 → Nat → Nat → HG → Prop) (lx1 : Int32) (lx2 : Int32) (lx3 : Int32) (mc ms : Nat) (G : HG) : Prop :=
  gtQ G a0 0 1 fun q10 => nnq q10 fun a11 => gtQ G a11 2 0 fun q12 => nnq q12 fun a13 => isO G a13 15 (hJ2_size j Λ a13 G fun x15 G14 => (x15 ≤ lx3 → (post lx2 G14)) ∧ (¬ x15 ≤ lx3 → (isO G14 a0 0 (hX0_every j Λ a0 G14 fun x18 G17 => 1 ≤ mc ∧ 1 ≤ ms ∧ mkO G17 (.inr (48, .ref a0 :: ([] : List Int32).map .int)) fun a19 G20 => isO G20 a0 0 (∃ m21 m22 : Nat, m21 ≤ mc - 1 ∧ m22 ≤ ms - 1 ∧ hX0_under j Λ a0 (x18 &&& (((1 : Int32) <<< (lx3 &&& 31)) ^^^ (-1))) a19 m21 m22 G20 fun x24 G23 => (x24 < lx1 → (hX0_blame_b75 j Λ a0 post K23 x24 lx3 lx3 (mc - 1 - m21) (ms - 1 - m22) G23)) ∧ (¬ x24 < lx1 → (hX0_blame_b75 j Λ a0 post K23 lx1 lx2 lx3 (mc - 1 - m21) (ms - 1 - m22) G23)))))))
def hX0_blame_l23 (j : JX) (Λ : JLam) (a0 : Nat) (post : Int32 → HG → Prop) : Nat → Int32 → Int32 → Int32 → Nat → Nat → HG → Prop
  | 0 => fun _ _ _ _ _ _ => False
  | n + 1 => fun lx1 lx2 lx3 mc ms G => hX0_blame_b23 j Λ a0 post (hX0_blame_l23 j Λ a0 post n) lx1 lx2 lx3 mc ms G
def hX0_blame (j : JX) (Λ : JLam) (a0 : Nat) (mc ms : Nat) (G : HG) (post : Int32 → HG → Prop) : Prop :=
  gtQ G a0 0 1 fun q1 => nnq q1 fun a2 => isO G a2 2 (hX2_is j Λ a2 G fun x4 G3 => (x4 = 0 → (post ((-2) : Int32) G3)) ∧ (¬ x4 = 0 → (isO G3 a0 0 (∃ m6 m7 : Nat, m6 ≤ mc ∧ m7 ≤ ms ∧ hX0_allIn j Λ a0 (1 : Int32) m6 m7 G3 fun x9 G8 => ∃ n, hX0_blame_l23 j Λ a0 post n x9 ((-1) : Int32) (0 : Int32) (mc - m6) (ms - m7) G8))))
abbrev rhX0_blame (fr lo mc ms : Nat) : Room := { frames := fr + 7, cells := mc, slots := ms, locals := lo + 3221 }
theorem mhX0_blame (l : Launch) (Z : (Nat → Prop) → State → Heap → Prop) (D : va_G) (j : JX) (Λ : JLam) (fr lo : Nat) (E : JE l Z D j Λ fr lo) (a0 : Nat) (mc ms : Nat) (G : HG) (post : Int32 → HG → Prop) (hf : hX0_blame j Λ a0 mc ms G post) : HMi l yX0_blame (ws_ yX0_blame cX0_blame 5 (some .int)) (rhX0_blame fr lo mc ms) D jC (jty j.1) Z G [.ref a0] post mc ms := by
  obtain ⟨MC, eMC⟩ : ∃ MC, MC = mc := ⟨_, rfl⟩
  obtain ⟨MS, eMS⟩ : ∃ MS, MS = ms := ⟨_, rfl⟩
  suffices goal : HMi l yX0_blame (ws_ yX0_blame cX0_blame 5 (some .int)) (rhX0_blame fr lo MC MS) D jC (jty j.1) Z G [.ref a0] post MC MS by rw [eMC, eMS] at goal; exact goal
  have hm0_ : 0 + mc ≤ MC ∧ 0 + ms ≤ MS := by omega
  clear eMC eMS
  refine h_openi E.1 (by decide) (by exact Nat.le_of_ble_eq_true rfl) (fun p e s m args below meth c ls A0 Q X hI hnd hnm hl hret => ?_)
  have X : XC p s m args meth c cX0_blame 5 RX0 D jC (jty j.1) A0 Z := X
  have hx := X.1
  have hb := X.2.1
  have hown := X.2.2.2.1
  have hts := X.2.2.2.2.1
  have L23 : ∀ (n : Nat) (lx1 : Int32) (lx2 : Int32) (lx3 : Int32) (mc ms : Nat) (G : HG), hX0_blame_l23 j Λ a0 post n lx1 lx2 lx3 mc ms G → ∀ (cells slots : Nat), cells + mc ≤ MC ∧ slots + ms ≤ MS → ∀ (H : Heap) (locs : List Loc), HI D jC G A0 s.heap H locs → ∀ (ls : Array Slot), lv_has ls 5 [(0, .ref a0), (1, .int lx1), (2, .int lx2), (3, .int lx3)] → W p l e (rhX0_blame fr lo MC MS) s m args below meth c H locs cells slots Q (F0 m 23 ls []) := by
    intro n23
    induction n23 with
    | zero => intro lx1 lx2 lx3 mc ms G hf; exact hf.elim
    | succ n23 ih23 =>
      have J75 : ∀ (lx1 : Int32) (lx2 : Int32) (lx3 : Int32) (mc ms : Nat) (G : HG), hX0_blame_b75 j Λ a0 post (hX0_blame_l23 j Λ a0 post n23) lx1 lx2 lx3 mc ms G → ∀ (cells slots : Nat), cells + mc ≤ MC ∧ slots + ms ≤ MS → ∀ (H : Heap) (locs : List Loc), HI D jC G A0 s.heap H locs → ∀ (ls : Array Slot), lv_has ls 5 [(0, .ref a0), (1, .int lx1), (2, .int lx2), (3, .int lx3)] → W p l e (rhX0_blame fr lo MC MS) s m args below meth c H locs cells slots Q (F0 m 75 ls []) := by
        intro lx1 lx2 lx3 mc ms G hf cells slots hm H locs hI ls hl
        unfold hX0_blame_b75 at hf
        refine lv_iinc (v := lx3 + 1) (lv' := [(3, .int (lx3 + 1)), (0, .ref a0), (1, .int lx1), (2, .int lx2)]) hx hb dX0_blame_75 hl (k := 3) rfl rfl (by decide) rfl (fun ls hl => ?_)
        refine lv_goto (tgt := 23) hx hb dX0_blame_78 (by decide) ?_
        exact ih23 lx1 lx2 (lx3 + 1) mc ms G hf _ _ hm H locs hI ls (lv_sub hl [1, 2, 3, 0] rfl)
      intro lx1 lx2 lx3 mc ms G hf cells slots hm H locs hI ls hl
      have hf : hX0_blame_b23 j Λ a0 post (hX0_blame_l23 j Λ a0 post n23) lx1 lx2 lx3 mc ms G := hf
      unfold hX0_blame_b23 at hf
      refine lv_iload_n hx hb dX0_blame_23 rfl (lv_at hl 3 rfl) ?_
      refine lv_aload_n hx hb dX0_blame_24 rfl (lv_at hl 0 rfl) ?_
      refine hr_gtQ X hI (rfl : jC.1[0]? = some (RX0, TX0, 20)) in_X0 1 (Nat.le_of_ble_eq_true rfl) hf q653 (fun _ h => h) dX0_blame_25 (fun q10 hf => ?_)
      obtain ⟨a11, ea11, hf⟩ := hf
      revert hl hf
      subst ea11
      intro hl hf
      have hl : lv_has ls 5 [(0, .ref a0), (1, .int lx1), (2, .int lx2), (3, .int lx3)] := hl
      refine hr_gtQN X hI (rfl : jC.1[2]? = some (RX2, TX2, 11)) in_X2 0 (Nat.le_of_ble_eq_true rfl) hf (E.nw X q478 rfl) (fun _ h => h) dX0_blame_28 (fun q12 hf => ?_)
      obtain ⟨a13, ea13, hf⟩ := hf
      revert hl hf
      subst ea13
      intro hl hf
      have hl : lv_has ls 5 [(0, .ref a0), (1, .int lx1), (2, .int lx2), (3, .int lx3)] := hl
      obtain ⟨_, _, hO, hf⟩ := hf
      refine h_Fki X hI (h_runF (As := []) X hI (X.2.2.2.2.2.1.1 15 _ (show jC.1[15]? = some (RJ2, TJ2, 3) from rfl)).2 (h_recv X hI hO (show jC.1[15]? = some (RJ2, TJ2, 3) from rfl)) (mhJ2_size l Z D j Λ fr lo E a13 G _ hf H.size) (cwF 0 hts q1848 q1771 q1773 q172 q1775 ((E.w X).2.2.1 _ (List.mem_of_getElem? (show jFw[0]? = _ from rfl))) rfl rfl (by decide +kernel) (by show fr + 1 + 1 ≤ fr + 7 ∧ 8 + (1 + 11) + (lo + 40) ≤ lo + 3221; omega)) rfl hl.1 (Nat.le_of_ble_eq_true rfl) dX0_blame_31 ⟨hm0 hm.1, hm0 hm.2⟩ rfl) (fun x15 G14 H locs hf hI => ?_)
      clear hO
      refine lv_icmp_ge (tgt := 81) hx hb dX0_blame_36 (by decide) (fun c16 => ?_) (fun c16 => ?_)
      · have hf := hf.1 c16
        refine lv_iload_n hx hb dX0_blame_81 rfl (lv_at hl 2 rfl) ?_
        exact hret hf hI dX0_blame_82 (hmC hm.1) (hmC hm.2)
      · have hf := hf.2 c16
        refine lv_aload_n hx hb dX0_blame_39 rfl (lv_at hl 0 rfl) ?_
        refine lv_aload_n hx hb dX0_blame_40 rfl (lv_at hl 0 rfl) ?_
        obtain ⟨_, _, hO, hf⟩ := hf
        refine h_ki X hI (h_runV (As := []) X hI (h_recv X hI hO (show jC.1[0]? = some (RX0, TX0, 20) from rfl)) (mhX0_every l Z D j Λ fr lo E a0 G14 _ hf H.size) (cwV 0 hts (lw_V q2072 q2074 qs54 q167 q2075) rfl rfl rfl (by decide +kernel) (by show fr + 2 + 1 ≤ fr + 7 ∧ 8 + (1 + 11) + (lo + 60) ≤ lo + 3221; omega)) rfl hl.1 (Nat.le_of_ble_eq_true rfl) dX0_blame_41 ⟨hm0 hm.1, hm0 hm.2⟩ rfl) (fun x18 G17 H locs hf hI => ?_)
        clear hO
        refine lv_iconst (v := 1) hx hb dX0_blame_44 (by decide) ?_
        refine lv_iload_n hx hb dX0_blame_45 rfl (lv_at hl 3 rfl) ?_
        refine lv_ishl hx hb dX0_blame_46 ?_
        refine lv_iconst (v := -1) hx hb dX0_blame_47 (by decide) ?_
        refine lv_ixor hx hb dX0_blame_48 ?_
        refine lv_iand hx hb dX0_blame_49 ?_
        refine lv_aload_n hx hb dX0_blame_50 rfl (lv_at hl 0 rfl) ?_
        obtain ⟨hb1, hb2, hf⟩ := hf
        refine E.2.2.2.1 25 yX0_blame 51 446 a0 [] rfl (rest := [.int (x18 &&& (((1 : Int32) <<< (lx3 &&& 31)) ^^^ (-1))), .ref a0]) X hI hnd hl.1 (Nat.le_of_ble_eq_true rfl) dX0_blame_51 (by show 3200 ≤ lo + 3221; omega) (hmA hm.1 hb1) (hmA hm.2 hb2) hf (fun a19 G20 H hf hI => ?_)
        have hm := And.intro (hmB hm.1 hb1) (hmB hm.2 hb2)
        clear hb1 hb2
        obtain ⟨_, _, hO, hf⟩ := hf
        obtain ⟨m21, m22, hb1, hb2, hf⟩ := hf
        refine h_ki X hI (h_runV (As := [.int (x18 &&& (((1 : Int32) <<< (lx3 &&& 31)) ^^^ (-1))), .ref a19]) X hI (h_recv X hI hO (show jC.1[0]? = some (RX0, TX0, 20) from rfl)) (mhX0_under l Z D j Λ fr lo E a0 (x18 &&& (((1 : Int32) <<< (lx3 &&& 31)) ^^^ (-1))) a19 m21 m22 G20 _ hf H.size) (cwV 2 hts (lw_V q2079 q2081 qs56 q167 q2082) rfl rfl rfl (by decide +kernel) (by show fr + 4 + 1 ≤ fr + 7 ∧ 8 + (4 + 11) + (lo + 105) ≤ lo + 3221; omega)) rfl hl.1 (Nat.le_of_ble_eq_true rfl) dX0_blame_56 ⟨hmA hm.1 hb1, hmA hm.2 hb2⟩ rfl) (fun x24 G23 H locs hf hI => ?_)
        have hm := And.intro (hmB hm.1 hb1) (hmB hm.2 hb2)
        clear hb1 hb2
        clear hO
        refine lv_istore (lv' := [(4, .int x24), (0, .ref a0), (1, .int lx1), (2, .int lx2), (3, .int lx3)]) hx hb dX0_blame_59 hl (by decide) rfl (fun ls hl => ?_)
        refine lv_iload hx hb dX0_blame_61 (lv_at hl 0 rfl) ?_
        refine lv_iload_n hx hb dX0_blame_63 rfl (lv_at hl 2 rfl) ?_
        refine lv_icmp_lt (tgt := 70) hx hb dX0_blame_64 (by decide) (fun c25 => ?_) (fun c25 => ?_)
        · have hf := hf.1 c25
          refine lv_iload_n hx hb dX0_blame_70 rfl (lv_at hl 4 rfl) ?_
          refine lv_istore_n (lv' := [(2, .int lx3), (4, .int x24), (0, .ref a0), (1, .int lx1), (3, .int lx3)]) hx hb dX0_blame_71 rfl hl (by decide) rfl (fun ls hl => ?_)
          refine lv_iload hx hb dX0_blame_72 (lv_at hl 1 rfl) ?_
          refine lv_istore_n (lv' := [(1, .int x24), (2, .int lx3), (4, .int x24), (0, .ref a0), (3, .int lx3)]) hx hb dX0_blame_74 rfl hl (by decide) rfl (fun ls hl => ?_)
          exact J75 x24 lx3 lx3 (mc - 1 - m21) (ms - 1 - m22) G23 hf _ _ hm H locs hI ls (lv_sub hl [3, 0, 1, 4] rfl)
        · have hf := hf.2 c25
          refine lv_goto (tgt := 75) hx hb dX0_blame_67 (by decide) ?_
          exact J75 lx1 lx2 lx3 (mc - 1 - m21) (ms - 1 - m22) G23 hf _ _ hm H locs hI ls (lv_sub hl [1, 2, 3, 4] rfl)
  have hl : lv_has ls 5 [(0, .ref a0)] := by exact hl
  unfold hX0_blame at hf
  obtain ⟨H, eH⟩ : ∃ H, H = s.heap := ⟨_, rfl⟩
  obtain ⟨locs, eL⟩ : ∃ locs : List Loc, locs = [] := ⟨_, rfl⟩
  have hI : HI D jC G A0 s.heap H locs := by rw [eH, eL]; exact hI
  rw [← eL]
  obtain ⟨cells, eC⟩ : ∃ n : Nat, n = 0 := ⟨_, rfl⟩
  obtain ⟨slots, eS⟩ : ∃ n : Nat, n = 0 := ⟨_, rfl⟩
  have hm : cells + mc ≤ MC ∧ slots + ms ≤ MS := by rw [eC, eS]; exact hm0_
  suffices h : W p l e (rhX0_blame fr lo MC MS) s m args below meth c H locs cells slots Q (F0 m 0 ls []) by rw [eH, eC, eS] at h; exact h
  clear eH eL eC eS
  refine lv_aload_n hx hb dX0_blame_0 rfl (lv_at hl 0 rfl) ?_
  refine hr_gtQ X hI (rfl : jC.1[0]? = some (RX0, TX0, 20)) in_X0 1 (Nat.le_of_ble_eq_true rfl) hf q653 (fun _ h => h) dX0_blame_1 (fun q1 hf => ?_)
  obtain ⟨a2, ea2, hf⟩ := hf
  revert hl hf
  subst ea2
  intro hl hf
  have hl : lv_has ls 5 [(0, .ref a0)] := hl
  obtain ⟨_, _, hO, hf⟩ := hf
  refine h_ki X hI (h_runV (As := []) X hI (h_recv X hI hO (show jC.1[2]? = some (RX2, TX2, 11) from rfl)) (mhX2_is l Z D j Λ fr lo E a2 G _ hf H.size) (cwV 0 hts (lw_V q1839 q1840 q1841 q169 q1842) rfl rfl rfl (by decide +kernel) (by show fr + 1 + 1 ≤ fr + 7 ∧ 8 + (1 + 11) + (lo + 40) ≤ lo + 3221; omega)) rfl hl.1 (Nat.le_of_ble_eq_true rfl) dX0_blame_4 ⟨hm0 hm.1, hm0 hm.2⟩ rfl) (fun x4 G3 H locs hf hI => ?_)
  clear hO
  refine lv_if_ne (tgt := 13) hx hb dX0_blame_7 (by decide) (fun c5 => ?_) (fun c5 => ?_)
  · have hf := hf.2 c5
    refine lv_aload_n hx hb dX0_blame_13 rfl (lv_at hl 0 rfl) ?_
    refine lv_iconst (v := 1) hx hb dX0_blame_14 (by decide) ?_
    obtain ⟨_, _, hO, hf⟩ := hf
    obtain ⟨m6, m7, hb1, hb2, hf⟩ := hf
    refine h_ki X hI (h_runV (As := [.int 1]) X hI (h_recv X hI hO (show jC.1[0]? = some (RX0, TX0, 20) from rfl)) (mhX0_allIn l Z D j Λ fr lo E a0 (1 : Int32) m6 m7 G3 _ hf H.size) (cwV 1 hts (lw_V q2201 q2203 qs60 q167 q2204) rfl rfl rfl (by decide +kernel) (by show fr + 6 + 1 ≤ fr + 7 ∧ 8 + (2 + 11) + (lo + 3200) ≤ lo + 3221; omega)) rfl hl.1 (Nat.le_of_ble_eq_true rfl) dX0_blame_15 ⟨hmA hm.1 hb1, hmA hm.2 hb2⟩ rfl) (fun x9 G8 H locs hf hI => ?_)
    have hm := And.intro (hmB hm.1 hb1) (hmB hm.2 hb2)
    clear hb1 hb2
    clear hO
    refine lv_istore_n (lv' := [(1, .int x9), (0, .ref a0)]) hx hb dX0_blame_18 rfl hl (by decide) rfl (fun ls hl => ?_)
    refine lv_iconst (v := -1) hx hb dX0_blame_19 (by decide) ?_
    refine lv_istore_n (lv' := [(2, .int (-1)), (1, .int x9), (0, .ref a0)]) hx hb dX0_blame_20 rfl hl (by decide) rfl (fun ls hl => ?_)
    refine lv_iconst (v := 0) hx hb dX0_blame_21 (by decide) ?_
    refine lv_istore_n (lv' := [(3, .int 0), (2, .int (-1)), (1, .int x9), (0, .ref a0)]) hx hb dX0_blame_22 rfl hl (by decide) rfl (fun ls hl => ?_)
    obtain ⟨n, hf⟩ := hf
    exact L23 n x9 ((-1) : Int32) (0 : Int32) (mc - m6) (ms - m7) G8 hf _ _ hm H locs hI ls (lv_sub hl [3, 2, 1, 0] rfl)
  · have hf := hf.1 c5
    refine lv_bipush (v := -2) hx hb dX0_blame_10 (by decide) ?_
    exact hret hf hI dX0_blame_12 (hmC hm.1) (hmC hm.2)
/-! MergeJudge.lambda$blame$17()I -/
def hX0_lambda_blame_17 (j : JX) (Λ : JLam) (a0 : Nat) (mc ms : Nat) (G : HG) (post : Int32 → HG → Prop) : Prop :=
  isO G a0 0 (∃ m1 m2 : Nat, m1 ≤ mc ∧ m2 ≤ ms ∧ hX0_allIn j Λ a0 (1 : Int32) m1 m2 G fun x4 G3 => post x4 G3)
abbrev rhX0_lambda_blame_17 (fr lo mc ms : Nat) : Room := { frames := fr + 7, cells := mc, slots := ms, locals := lo + 3221 }
theorem mhX0_lambda_blame_17 (l : Launch) (Z : (Nat → Prop) → State → Heap → Prop) (D : va_G) (j : JX) (Λ : JLam) (fr lo : Nat) (E : JE l Z D j Λ fr lo) (a0 : Nat) (mc ms : Nat) (G : HG) (post : Int32 → HG → Prop) (hf : hX0_lambda_blame_17 j Λ a0 mc ms G post) : HMi l yX0_lambda_blame_17 (ws_ yX0_lambda_blame_17 cX0_lambda_blame_17 1 (some .int)) (rhX0_lambda_blame_17 fr lo mc ms) D jC (jty j.1) Z G [.ref a0] post mc ms := by
  obtain ⟨MC, eMC⟩ : ∃ MC, MC = mc := ⟨_, rfl⟩
  obtain ⟨MS, eMS⟩ : ∃ MS, MS = ms := ⟨_, rfl⟩
  suffices goal : HMi l yX0_lambda_blame_17 (ws_ yX0_lambda_blame_17 cX0_lambda_blame_17 1 (some .int)) (rhX0_lambda_blame_17 fr lo MC MS) D jC (jty j.1) Z G [.ref a0] post MC MS by rw [eMC, eMS] at goal; exact goal
  have hm0_ : 0 + mc ≤ MC ∧ 0 + ms ≤ MS := by omega
  clear eMC eMS
  refine h_openi E.1 (by decide) (by exact Nat.le_of_ble_eq_true rfl) (fun p e s m args below meth c ls A0 Q X hI hnd hnm hl hret => ?_)
  have X : XC p s m args meth c cX0_lambda_blame_17 1 RX0 D jC (jty j.1) A0 Z := X
  have hx := X.1
  have hb := X.2.1
  have hown := X.2.2.2.1
  have hts := X.2.2.2.2.1
  have hl : lv_has ls 1 [(0, .ref a0)] := by exact hl
  unfold hX0_lambda_blame_17 at hf
  obtain ⟨H, eH⟩ : ∃ H, H = s.heap := ⟨_, rfl⟩
  obtain ⟨locs, eL⟩ : ∃ locs : List Loc, locs = [] := ⟨_, rfl⟩
  have hI : HI D jC G A0 s.heap H locs := by rw [eH, eL]; exact hI
  rw [← eL]
  obtain ⟨cells, eC⟩ : ∃ n : Nat, n = 0 := ⟨_, rfl⟩
  obtain ⟨slots, eS⟩ : ∃ n : Nat, n = 0 := ⟨_, rfl⟩
  have hm : cells + mc ≤ MC ∧ slots + ms ≤ MS := by rw [eC, eS]; exact hm0_
  suffices h : W p l e (rhX0_lambda_blame_17 fr lo MC MS) s m args below meth c H locs cells slots Q (F0 m 0 ls []) by rw [eH, eC, eS] at h; exact h
  clear eH eL eC eS
  refine lv_aload_n hx hb dX0_lambda_blame_17_0 rfl (lv_at hl 0 rfl) ?_
  refine lv_iconst (v := 1) hx hb dX0_lambda_blame_17_1 (by decide) ?_
  obtain ⟨_, _, hO, hf⟩ := hf
  obtain ⟨m1, m2, hb1, hb2, hf⟩ := hf
  refine h_ki X hI (h_runV (As := [.int 1]) X hI (h_recv X hI hO (show jC.1[0]? = some (RX0, TX0, 20) from rfl)) (mhX0_allIn l Z D j Λ fr lo E a0 (1 : Int32) m1 m2 G _ hf H.size) (cwV 1 hts (lw_V q2201 q2203 qs60 q167 q2204) rfl rfl rfl (by decide +kernel) (by show fr + 6 + 1 ≤ fr + 7 ∧ 8 + (2 + 11) + (lo + 3200) ≤ lo + 3221; omega)) rfl hl.1 (Nat.le_of_ble_eq_true rfl) dX0_lambda_blame_17_2 ⟨hmA hm.1 hb1, hmA hm.2 hb2⟩ rfl) (fun x4 G3 H locs hf hI => ?_)
  have hm := And.intro (hmB hm.1 hb1) (hmB hm.2 hb2)
  clear hb1 hb2
  clear hO
  exact hret hf hI dX0_lambda_blame_17_5 (hmC hm.1) (hmC hm.2)
/-! MergeJudge.cure()I -/
def hX0_cure_b92 (j : JX) (Λ : JLam) (a0 : Nat) (post : Int32 → HG → Prop) (K23 : Int32 → Int32 → Int32 → Nat → Nat → HG → Prop) (K48 : Int32 → Int32 → Int32 → Int32 → Int32 → Nat → Nat → HG → Prop) (lx1 : Int32) (lx2 : Int32) (lx3 : Int32) (lx4 : Int32) (lx5 : Int32) (mc ms : Nat) (G : HG) : Prop :=
  K48 lx1 lx2 lx3 lx4 (lx5 + 1) mc ms G
def hX0_cure_b48 (j : JX) (Λ : JLam) (a0 : Nat) (post : Int32 → HG → Prop) (K23 : Int32 → Int32 → Int32 → Nat → Nat → HG → Prop) (K48 : Int32 → Int32 → Int32 → Int32 → Int32 → Nat → Nat → HG → Prop) (lx1 : Int32) (lx2 : Int32) (lx3 : Int32) (lx4 : Int32) (lx5 : Int32) (mc ms : Nat) (G : HG) : Prop :=
  ((4 : Int32) ≤ lx5 → (gtQ G a0 0 1 fun q20 => nnq q20 fun a21 => gtQ G a21 2 3 fun q22 => nnq q22 fun a23 => stI G a23 (j.1 0) lx3 lx4 fun G24 => K23 lx1 lx2 (lx3 + 1) mc ms G24)) ∧ (¬ (4 : Int32) ≤ lx5 → (gtQ G a0 0 1 fun q25 => nnq q25 fun a26 => gtQ G a26 2 3 fun q27 => nnq q27 fun a28 => stI G a28 (j.1 0) lx3 lx5 fun G29 => isO G29 a0 0 (∃ m30 m31 : Nat, m30 ≤ mc ∧ m31 ≤ ms ∧ hX0_allIn j Λ a0 (1 : Int32) m30 m31 G29 fun x33 G32 => (x33 < lx1 → (∀ v35 : Int32, v35 = (((10 : Int32) * lx3) + lx5) → hX0_cure_b92 j Λ a0 post K23 K48 x33 v35 lx3 lx4 lx5 (mc - m30) (ms - m31) G32)) ∧ (¬ x33 < lx1 → (hX0_cure_b92 j Λ a0 post K23 K48 lx1 lx2 lx3 lx4 lx5 (mc - m30) (ms - m31) G32)))))
def hX0_cure_l48 (j : JX) (Λ : JLam) (a0 : Nat) (post : Int32 → HG → Prop) (K23 : Int32 → Int32 → Int32 → Nat → Nat → HG → Prop) : Nat → Int32 → Int32 → Int32 → Int32 → Int32 → Nat → Nat → HG → Prop
  | 0 => fun _ _ _ _ _ _ _ _ => False
  | n + 1 => fun lx1 lx2 lx3 lx4 lx5 mc ms G => hX0_cure_b48 j Λ a0 post K23 (hX0_cure_l48 j Λ a0 post K23 n) lx1 lx2 lx3 lx4 lx5 mc ms G
def hX0_cure_b23 (j : JX) (Λ : JLam) (a0 : Nat) (post : Int32 → HG → Prop) (K23 : Int32 → Int32 → Int32 → Nat → Nat → HG → Prop) (lx1 : Int32) (lx2 : Int32) (lx3 : Int32) (mc ms : Nat) (G : HG) : Prop :=
  gtQ G a0 0 1 fun q10 => nnq q10 fun a11 => gtI G a11 2 7 fun x12 => (x12 ≤ lx3 → (post lx2 G)) ∧ (¬ x12 ≤ lx3 → (gtQ G a0 0 1 fun q14 => nnq q14 fun a15 => gtQ G a15 2 3 fun q16 => nnq q16 fun a17 => ldI G a17 (j.1 0) lx3 fun x18 => ∃ n, hX0_cure_l48 j Λ a0 post K23 n lx1 lx2 lx3 x18 (0 : Int32) mc ms G))
def hX0_cure_l23 (j : JX) (Λ : JLam) (a0 : Nat) (post : Int32 → HG → Prop) : Nat → Int32 → Int32 → Int32 → Nat → Nat → HG → Prop
  | 0 => fun _ _ _ _ _ _ => False
  | n + 1 => fun lx1 lx2 lx3 mc ms G => hX0_cure_b23 j Λ a0 post (hX0_cure_l23 j Λ a0 post n) lx1 lx2 lx3 mc ms G
def hX0_cure (j : JX) (Λ : JLam) (a0 : Nat) (mc ms : Nat) (G : HG) (post : Int32 → HG → Prop) : Prop :=
  gtQ G a0 0 1 fun q1 => nnq q1 fun a2 => isO G a2 2 (hX2_is j Λ a2 G fun x4 G3 => (x4 = 0 → (post ((-2) : Int32) G3)) ∧ (¬ x4 = 0 → (isO G3 a0 0 (∃ m6 m7 : Nat, m6 ≤ mc ∧ m7 ≤ ms ∧ hX0_allIn j Λ a0 (1 : Int32) m6 m7 G3 fun x9 G8 => ∃ n, hX0_cure_l23 j Λ a0 post n x9 ((-1) : Int32) (0 : Int32) (mc - m6) (ms - m7) G8))))
abbrev rhX0_cure (fr lo mc ms : Nat) : Room := { frames := fr + 7, cells := mc, slots := ms, locals := lo + 3221 }
theorem mhX0_cure (l : Launch) (Z : (Nat → Prop) → State → Heap → Prop) (D : va_G) (j : JX) (Λ : JLam) (fr lo : Nat) (E : JE l Z D j Λ fr lo) (a0 : Nat) (mc ms : Nat) (G : HG) (post : Int32 → HG → Prop) (hf : hX0_cure j Λ a0 mc ms G post) : HMi l yX0_cure (ws_ yX0_cure cX0_cure 7 (some .int)) (rhX0_cure fr lo mc ms) D jC (jty j.1) Z G [.ref a0] post mc ms := by
  obtain ⟨MC, eMC⟩ : ∃ MC, MC = mc := ⟨_, rfl⟩
  obtain ⟨MS, eMS⟩ : ∃ MS, MS = ms := ⟨_, rfl⟩
  suffices goal : HMi l yX0_cure (ws_ yX0_cure cX0_cure 7 (some .int)) (rhX0_cure fr lo MC MS) D jC (jty j.1) Z G [.ref a0] post MC MS by rw [eMC, eMS] at goal; exact goal
  have hm0_ : 0 + mc ≤ MC ∧ 0 + ms ≤ MS := by omega
  clear eMC eMS
  refine h_openi E.1 (by decide) (by exact Nat.le_of_ble_eq_true rfl) (fun p e s m args below meth c ls A0 Q X hI hnd hnm hl hret => ?_)
  have X : XC p s m args meth c cX0_cure 7 RX0 D jC (jty j.1) A0 Z := X
  have hx := X.1
  have hb := X.2.1
  have hown := X.2.2.2.1
  have hts := X.2.2.2.2.1
  have L23 : ∀ (n : Nat) (lx1 : Int32) (lx2 : Int32) (lx3 : Int32) (mc ms : Nat) (G : HG), hX0_cure_l23 j Λ a0 post n lx1 lx2 lx3 mc ms G → ∀ (cells slots : Nat), cells + mc ≤ MC ∧ slots + ms ≤ MS → ∀ (H : Heap) (locs : List Loc), HI D jC G A0 s.heap H locs → ∀ (ls : Array Slot), lv_has ls 7 [(0, .ref a0), (1, .int lx1), (2, .int lx2), (3, .int lx3)] → W p l e (rhX0_cure fr lo MC MS) s m args below meth c H locs cells slots Q (F0 m 23 ls []) := by
    intro n23
    induction n23 with
    | zero => intro lx1 lx2 lx3 mc ms G hf; exact hf.elim
    | succ n23 ih23 =>
      have L48 : ∀ (n : Nat) (lx1 : Int32) (lx2 : Int32) (lx3 : Int32) (lx4 : Int32) (lx5 : Int32) (mc ms : Nat) (G : HG), hX0_cure_l48 j Λ a0 post (hX0_cure_l23 j Λ a0 post n23) n lx1 lx2 lx3 lx4 lx5 mc ms G → ∀ (cells slots : Nat), cells + mc ≤ MC ∧ slots + ms ≤ MS → ∀ (H : Heap) (locs : List Loc), HI D jC G A0 s.heap H locs → ∀ (ls : Array Slot), lv_has ls 7 [(0, .ref a0), (1, .int lx1), (2, .int lx2), (3, .int lx3), (4, .int lx4), (5, .int lx5)] → W p l e (rhX0_cure fr lo MC MS) s m args below meth c H locs cells slots Q (F0 m 48 ls []) := by
        intro n48
        induction n48 with
        | zero => intro lx1 lx2 lx3 lx4 lx5 mc ms G hf; exact hf.elim
        | succ n48 ih48 =>
          have J92 : ∀ (lx1 : Int32) (lx2 : Int32) (lx3 : Int32) (lx4 : Int32) (lx5 : Int32) (mc ms : Nat) (G : HG), hX0_cure_b92 j Λ a0 post (hX0_cure_l23 j Λ a0 post n23) (hX0_cure_l48 j Λ a0 post (hX0_cure_l23 j Λ a0 post n23) n48) lx1 lx2 lx3 lx4 lx5 mc ms G → ∀ (cells slots : Nat), cells + mc ≤ MC ∧ slots + ms ≤ MS → ∀ (H : Heap) (locs : List Loc), HI D jC G A0 s.heap H locs → ∀ (ls : Array Slot), lv_has ls 7 [(0, .ref a0), (1, .int lx1), (2, .int lx2), (3, .int lx3), (4, .int lx4), (5, .int lx5)] → W p l e (rhX0_cure fr lo MC MS) s m args below meth c H locs cells slots Q (F0 m 92 ls []) := by
            intro lx1 lx2 lx3 lx4 lx5 mc ms G hf cells slots hm H locs hI ls hl
            unfold hX0_cure_b92 at hf
            refine lv_iinc (v := lx5 + 1) (lv' := [(5, .int (lx5 + 1)), (0, .ref a0), (1, .int lx1), (2, .int lx2), (3, .int lx3), (4, .int lx4)]) hx hb dX0_cure_92 hl (k := 5) rfl rfl (by decide) rfl (fun ls hl => ?_)
            refine lv_goto (tgt := 48) hx hb dX0_cure_95 (by decide) ?_
            exact ih48 lx1 lx2 lx3 lx4 (lx5 + 1) mc ms G hf _ _ hm H locs hI ls (lv_sub hl [1, 2, 3, 4, 5, 0] rfl)
          intro lx1 lx2 lx3 lx4 lx5 mc ms G hf cells slots hm H locs hI ls hl
          have hf : hX0_cure_b48 j Λ a0 post (hX0_cure_l23 j Λ a0 post n23) (hX0_cure_l48 j Λ a0 post (hX0_cure_l23 j Λ a0 post n23) n48) lx1 lx2 lx3 lx4 lx5 mc ms G := hf
          unfold hX0_cure_b48 at hf
          refine lv_iload hx hb dX0_cure_48 (lv_at hl 5 rfl) ?_
          refine lv_iconst (v := 4) hx hb dX0_cure_50 (by decide) ?_
          refine lv_icmp_ge (tgt := 98) hx hb dX0_cure_51 (by decide) (fun c19 => ?_) (fun c19 => ?_)
          · have hf := hf.1 c19
            refine lv_aload_n hx hb dX0_cure_98 rfl (lv_at hl 0 rfl) ?_
            refine hr_gtQ X hI (rfl : jC.1[0]? = some (RX0, TX0, 20)) in_X0 1 (Nat.le_of_ble_eq_true rfl) hf q653 (fun _ h => h) dX0_cure_99 (fun q20 hf => ?_)
            obtain ⟨a21, ea21, hf⟩ := hf
            revert hl hf
            subst ea21
            intro hl hf
            have hl : lv_has ls 7 [(0, .ref a0), (1, .int lx1), (2, .int lx2), (3, .int lx3), (4, .int lx4), (5, .int lx5)] := hl
            refine hr_gtQN X hI (rfl : jC.1[2]? = some (RX2, TX2, 11)) in_X2 3 (Nat.le_of_ble_eq_true rfl) hf (E.nw X q488 rfl) (fun _ h => h) dX0_cure_102 (fun q22 hf => ?_)
            refine lv_iload_n hx hb dX0_cure_105 rfl (lv_at hl 3 rfl) ?_
            refine lv_iload hx hb dX0_cure_106 (lv_at hl 4 rfl) ?_
            obtain ⟨a23, ea23, hf⟩ := hf
            revert hl hf
            subst ea23
            intro hl hf
            have hl : lv_has ls 7 [(0, .ref a0), (1, .int lx1), (2, .int lx2), (3, .int lx3), (4, .int lx4), (5, .int lx5)] := hl
            refine hr_ist X hI 0 rfl hf dX0_cure_108 (fun G24 H locs hf hI => ?_)
            refine lv_iinc (v := lx3 + 1) (lv' := [(3, .int (lx3 + 1)), (0, .ref a0), (1, .int lx1), (2, .int lx2), (4, .int lx4), (5, .int lx5)]) hx hb dX0_cure_109 hl (k := 3) rfl rfl (by decide) rfl (fun ls hl => ?_)
            refine lv_goto (tgt := 23) hx hb dX0_cure_112 (by decide) ?_
            exact ih23 lx1 lx2 (lx3 + 1) mc ms G24 hf _ _ hm H locs hI ls (lv_sub hl [1, 2, 3, 0] rfl)
          · have hf := hf.2 c19
            refine lv_aload_n hx hb dX0_cure_54 rfl (lv_at hl 0 rfl) ?_
            refine hr_gtQ X hI (rfl : jC.1[0]? = some (RX0, TX0, 20)) in_X0 1 (Nat.le_of_ble_eq_true rfl) hf q653 (fun _ h => h) dX0_cure_55 (fun q25 hf => ?_)
            obtain ⟨a26, ea26, hf⟩ := hf
            revert hl hf
            subst ea26
            intro hl hf
            have hl : lv_has ls 7 [(0, .ref a0), (1, .int lx1), (2, .int lx2), (3, .int lx3), (4, .int lx4), (5, .int lx5)] := hl
            refine hr_gtQN X hI (rfl : jC.1[2]? = some (RX2, TX2, 11)) in_X2 3 (Nat.le_of_ble_eq_true rfl) hf (E.nw X q488 rfl) (fun _ h => h) dX0_cure_58 (fun q27 hf => ?_)
            refine lv_iload_n hx hb dX0_cure_61 rfl (lv_at hl 3 rfl) ?_
            refine lv_iload hx hb dX0_cure_62 (lv_at hl 5 rfl) ?_
            obtain ⟨a28, ea28, hf⟩ := hf
            revert hl hf
            subst ea28
            intro hl hf
            have hl : lv_has ls 7 [(0, .ref a0), (1, .int lx1), (2, .int lx2), (3, .int lx3), (4, .int lx4), (5, .int lx5)] := hl
            refine hr_ist X hI 0 rfl hf dX0_cure_64 (fun G29 H locs hf hI => ?_)
            refine lv_aload_n hx hb dX0_cure_65 rfl (lv_at hl 0 rfl) ?_
            refine lv_iconst (v := 1) hx hb dX0_cure_66 (by decide) ?_
            obtain ⟨_, _, hO, hf⟩ := hf
            obtain ⟨m30, m31, hb1, hb2, hf⟩ := hf
            refine h_ki X hI (h_runV (As := [.int 1]) X hI (h_recv X hI hO (show jC.1[0]? = some (RX0, TX0, 20) from rfl)) (mhX0_allIn l Z D j Λ fr lo E a0 (1 : Int32) m30 m31 G29 _ hf H.size) (cwV 1 hts (lw_V q2201 q2203 qs60 q167 q2204) rfl rfl rfl (by decide +kernel) (by show fr + 6 + 1 ≤ fr + 7 ∧ 8 + (2 + 11) + (lo + 3200) ≤ lo + 3221; omega)) rfl hl.1 (Nat.le_of_ble_eq_true rfl) dX0_cure_67 ⟨hmA hm.1 hb1, hmA hm.2 hb2⟩ rfl) (fun x33 G32 H locs hf hI => ?_)
            have hm := And.intro (hmB hm.1 hb1) (hmB hm.2 hb2)
            clear hb1 hb2
            clear hO
            refine lv_istore (lv' := [(6, .int x33), (0, .ref a0), (1, .int lx1), (2, .int lx2), (3, .int lx3), (4, .int lx4), (5, .int lx5)]) hx hb dX0_cure_70 hl (by decide) rfl (fun ls hl => ?_)
            refine lv_iload hx hb dX0_cure_72 (lv_at hl 0 rfl) ?_
            refine lv_iload_n hx hb dX0_cure_74 rfl (lv_at hl 2 rfl) ?_
            refine lv_icmp_lt (tgt := 81) hx hb dX0_cure_75 (by decide) (fun c34 => ?_) (fun c34 => ?_)
            · have hf := hf.1 c34
              refine lv_bipush (v := 10) hx hb dX0_cure_81 (by decide) ?_
              refine lv_iload_n hx hb dX0_cure_83 rfl (lv_at hl 4 rfl) ?_
              refine lv_imul hx hb dX0_cure_84 ?_
              refine lv_iload hx hb dX0_cure_85 (lv_at hl 6 rfl) ?_
              refine lv_iadd hx hb dX0_cure_87 ?_
              obtain ⟨v35, ev35⟩ : ∃ v35, v35 = (((10 : Int32) * lx3) + lx5) := ⟨_, rfl⟩
              have hf := hf v35 ev35
              rw [← ev35]
              clear ev35
              refine lv_istore_n (lv' := [(2, .int v35), (6, .int x33), (0, .ref a0), (1, .int lx1), (3, .int lx3), (4, .int lx4), (5, .int lx5)]) hx hb dX0_cure_88 rfl hl (by decide) rfl (fun ls hl => ?_)
              refine lv_iload hx hb dX0_cure_89 (lv_at hl 1 rfl) ?_
              refine lv_istore_n (lv' := [(1, .int x33), (2, .int v35), (6, .int x33), (0, .ref a0), (3, .int lx3), (4, .int lx4), (5, .int lx5)]) hx hb dX0_cure_91 rfl hl (by decide) rfl (fun ls hl => ?_)
              exact J92 x33 v35 lx3 lx4 lx5 (mc - m30) (ms - m31) G32 hf _ _ hm H locs hI ls (lv_sub hl [3, 0, 1, 4, 5, 6] rfl)
            · have hf := hf.2 c34
              refine lv_goto (tgt := 92) hx hb dX0_cure_78 (by decide) ?_
              exact J92 lx1 lx2 lx3 lx4 lx5 (mc - m30) (ms - m31) G32 hf _ _ hm H locs hI ls (lv_sub hl [1, 2, 3, 4, 5, 6] rfl)
      intro lx1 lx2 lx3 mc ms G hf cells slots hm H locs hI ls hl
      have hf : hX0_cure_b23 j Λ a0 post (hX0_cure_l23 j Λ a0 post n23) lx1 lx2 lx3 mc ms G := hf
      unfold hX0_cure_b23 at hf
      refine lv_iload_n hx hb dX0_cure_23 rfl (lv_at hl 3 rfl) ?_
      refine lv_aload_n hx hb dX0_cure_24 rfl (lv_at hl 0 rfl) ?_
      refine hr_gtQ X hI (rfl : jC.1[0]? = some (RX0, TX0, 20)) in_X0 1 (Nat.le_of_ble_eq_true rfl) hf q653 (fun _ h => h) dX0_cure_25 (fun q10 hf => ?_)
      obtain ⟨a11, ea11, hf⟩ := hf
      revert hl hf
      subst ea11
      intro hl hf
      have hl : lv_has ls 7 [(0, .ref a0), (1, .int lx1), (2, .int lx2), (3, .int lx3)] := hl
      refine hr_gtIN X hI (rfl : jC.1[2]? = some (RX2, TX2, 11)) in_X2 7 (Nat.le_of_ble_eq_true rfl) hf (E.nw X q500 rfl) (fun _ h => h) dX0_cure_28 (fun x12 hf => ?_)
      refine lv_icmp_ge (tgt := 115) hx hb dX0_cure_31 (by decide) (fun c13 => ?_) (fun c13 => ?_)
      · have hf := hf.1 c13
        refine lv_iload_n hx hb dX0_cure_115 rfl (lv_at hl 2 rfl) ?_
        exact hret hf hI dX0_cure_116 (hmC hm.1) (hmC hm.2)
      · have hf := hf.2 c13
        refine lv_aload_n hx hb dX0_cure_34 rfl (lv_at hl 0 rfl) ?_
        refine hr_gtQ X hI (rfl : jC.1[0]? = some (RX0, TX0, 20)) in_X0 1 (Nat.le_of_ble_eq_true rfl) hf q653 (fun _ h => h) dX0_cure_35 (fun q14 hf => ?_)
        obtain ⟨a15, ea15, hf⟩ := hf
        revert hl hf
        subst ea15
        intro hl hf
        have hl : lv_has ls 7 [(0, .ref a0), (1, .int lx1), (2, .int lx2), (3, .int lx3)] := hl
        refine hr_gtQN X hI (rfl : jC.1[2]? = some (RX2, TX2, 11)) in_X2 3 (Nat.le_of_ble_eq_true rfl) hf (E.nw X q488 rfl) (fun _ h => h) dX0_cure_38 (fun q16 hf => ?_)
        refine lv_iload_n hx hb dX0_cure_41 rfl (lv_at hl 3 rfl) ?_
        obtain ⟨a17, ea17, hf⟩ := hf
        revert hl hf
        subst ea17
        intro hl hf
        have hl : lv_has ls 7 [(0, .ref a0), (1, .int lx1), (2, .int lx2), (3, .int lx3)] := hl
        refine hr_ild X hI 0 rfl hf dX0_cure_42 (fun x18 hf => ?_)
        refine lv_istore (lv' := [(4, .int x18), (0, .ref a0), (1, .int lx1), (2, .int lx2), (3, .int lx3)]) hx hb dX0_cure_43 hl (by decide) rfl (fun ls hl => ?_)
        refine lv_iconst (v := 0) hx hb dX0_cure_45 (by decide) ?_
        refine lv_istore (lv' := [(5, .int 0), (4, .int x18), (0, .ref a0), (1, .int lx1), (2, .int lx2), (3, .int lx3)]) hx hb dX0_cure_46 hl (by decide) rfl (fun ls hl => ?_)
        obtain ⟨n, hf⟩ := hf
        exact L48 n lx1 lx2 lx3 x18 (0 : Int32) mc ms G hf _ _ hm H locs hI ls (lv_sub hl [2, 3, 4, 5, 1, 0] rfl)
  have hl : lv_has ls 7 [(0, .ref a0)] := by exact hl
  unfold hX0_cure at hf
  obtain ⟨H, eH⟩ : ∃ H, H = s.heap := ⟨_, rfl⟩
  obtain ⟨locs, eL⟩ : ∃ locs : List Loc, locs = [] := ⟨_, rfl⟩
  have hI : HI D jC G A0 s.heap H locs := by rw [eH, eL]; exact hI
  rw [← eL]
  obtain ⟨cells, eC⟩ : ∃ n : Nat, n = 0 := ⟨_, rfl⟩
  obtain ⟨slots, eS⟩ : ∃ n : Nat, n = 0 := ⟨_, rfl⟩
  have hm : cells + mc ≤ MC ∧ slots + ms ≤ MS := by rw [eC, eS]; exact hm0_
  suffices h : W p l e (rhX0_cure fr lo MC MS) s m args below meth c H locs cells slots Q (F0 m 0 ls []) by rw [eH, eC, eS] at h; exact h
  clear eH eL eC eS
  refine lv_aload_n hx hb dX0_cure_0 rfl (lv_at hl 0 rfl) ?_
  refine hr_gtQ X hI (rfl : jC.1[0]? = some (RX0, TX0, 20)) in_X0 1 (Nat.le_of_ble_eq_true rfl) hf q653 (fun _ h => h) dX0_cure_1 (fun q1 hf => ?_)
  obtain ⟨a2, ea2, hf⟩ := hf
  revert hl hf
  subst ea2
  intro hl hf
  have hl : lv_has ls 7 [(0, .ref a0)] := hl
  obtain ⟨_, _, hO, hf⟩ := hf
  refine h_ki X hI (h_runV (As := []) X hI (h_recv X hI hO (show jC.1[2]? = some (RX2, TX2, 11) from rfl)) (mhX2_is l Z D j Λ fr lo E a2 G _ hf H.size) (cwV 0 hts (lw_V q1839 q1840 q1841 q169 q1842) rfl rfl rfl (by decide +kernel) (by show fr + 1 + 1 ≤ fr + 7 ∧ 8 + (1 + 11) + (lo + 40) ≤ lo + 3221; omega)) rfl hl.1 (Nat.le_of_ble_eq_true rfl) dX0_cure_4 ⟨hm0 hm.1, hm0 hm.2⟩ rfl) (fun x4 G3 H locs hf hI => ?_)
  clear hO
  refine lv_if_ne (tgt := 13) hx hb dX0_cure_7 (by decide) (fun c5 => ?_) (fun c5 => ?_)
  · have hf := hf.2 c5
    refine lv_aload_n hx hb dX0_cure_13 rfl (lv_at hl 0 rfl) ?_
    refine lv_iconst (v := 1) hx hb dX0_cure_14 (by decide) ?_
    obtain ⟨_, _, hO, hf⟩ := hf
    obtain ⟨m6, m7, hb1, hb2, hf⟩ := hf
    refine h_ki X hI (h_runV (As := [.int 1]) X hI (h_recv X hI hO (show jC.1[0]? = some (RX0, TX0, 20) from rfl)) (mhX0_allIn l Z D j Λ fr lo E a0 (1 : Int32) m6 m7 G3 _ hf H.size) (cwV 1 hts (lw_V q2201 q2203 qs60 q167 q2204) rfl rfl rfl (by decide +kernel) (by show fr + 6 + 1 ≤ fr + 7 ∧ 8 + (2 + 11) + (lo + 3200) ≤ lo + 3221; omega)) rfl hl.1 (Nat.le_of_ble_eq_true rfl) dX0_cure_15 ⟨hmA hm.1 hb1, hmA hm.2 hb2⟩ rfl) (fun x9 G8 H locs hf hI => ?_)
    have hm := And.intro (hmB hm.1 hb1) (hmB hm.2 hb2)
    clear hb1 hb2
    clear hO
    refine lv_istore_n (lv' := [(1, .int x9), (0, .ref a0)]) hx hb dX0_cure_18 rfl hl (by decide) rfl (fun ls hl => ?_)
    refine lv_iconst (v := -1) hx hb dX0_cure_19 (by decide) ?_
    refine lv_istore_n (lv' := [(2, .int (-1)), (1, .int x9), (0, .ref a0)]) hx hb dX0_cure_20 rfl hl (by decide) rfl (fun ls hl => ?_)
    refine lv_iconst (v := 0) hx hb dX0_cure_21 (by decide) ?_
    refine lv_istore_n (lv' := [(3, .int 0), (2, .int (-1)), (1, .int x9), (0, .ref a0)]) hx hb dX0_cure_22 rfl hl (by decide) rfl (fun ls hl => ?_)
    obtain ⟨n, hf⟩ := hf
    exact L23 n x9 ((-1) : Int32) (0 : Int32) (mc - m6) (ms - m7) G8 hf _ _ hm H locs hI ls (lv_sub hl [3, 2, 1, 0] rfl)
  · have hf := hf.1 c5
    refine lv_bipush (v := -2) hx hb dX0_cure_10 (by decide) ?_
    exact hret hf hI dX0_cure_12 (hmC hm.1) (hmC hm.2)
/-! MergeJudge.byLaw(ILMergeJudge$Answer;)I -/
def hX0_byLaw (j : JX) (Λ : JLam) (a0 : Nat) (p1 : Int32) (p2 : Nat) (mc ms : Nat) (G : HG) (post : Int32 → HG → Prop) : Prop :=
  isO G a0 0 (hX0_clashOf j Λ a0 p1 G fun q2 G1 => ptV G1 a0 0 4 (va_rf q2) fun G3 => ∃ m5 m6 : Nat, m5 ≤ mc ∧ m6 ≤ ms ∧ Λ.2.2.2.2.1 p2 m5 m6 G3 fun x7 G4 => gtQ G4 a0 0 1 fun q8 => nnq q8 fun a9 => gtI G4 a9 2 5 fun x10 => isO G4 a0 0 (hX0_clashOf j Λ a0 x10 G4 fun q12 G11 => ptV G11 a0 0 4 (va_rf q12) fun G13 => post x7 G13))
abbrev rhX0_byLaw (fr lo mc ms : Nat) : Room := { frames := fr + 2, cells := mc, slots := ms, locals := lo + 3221 }
theorem mhX0_byLaw (l : Launch) (Z : (Nat → Prop) → State → Heap → Prop) (D : va_G) (j : JX) (Λ : JLam) (fr lo : Nat) (E : JE l Z D j Λ fr lo) (a0 : Nat) (p1 : Int32) (p2 : Nat) (mc ms : Nat) (G : HG) (post : Int32 → HG → Prop) (hf : hX0_byLaw j Λ a0 p1 p2 mc ms G post) : HMi l yX0_byLaw (ws_ yX0_byLaw cX0_byLaw 4 (some .int)) (rhX0_byLaw fr lo mc ms) D jC (jty j.1) Z G [.ref a0, .int p1, .ref p2] post mc ms := by
  obtain ⟨MC, eMC⟩ : ∃ MC, MC = mc := ⟨_, rfl⟩
  obtain ⟨MS, eMS⟩ : ∃ MS, MS = ms := ⟨_, rfl⟩
  suffices goal : HMi l yX0_byLaw (ws_ yX0_byLaw cX0_byLaw 4 (some .int)) (rhX0_byLaw fr lo MC MS) D jC (jty j.1) Z G [.ref a0, .int p1, .ref p2] post MC MS by rw [eMC, eMS] at goal; exact goal
  have hm0_ : 0 + mc ≤ MC ∧ 0 + ms ≤ MS := by omega
  clear eMC eMS
  refine h_openi E.1 (by decide) (by exact Nat.le_of_ble_eq_true rfl) (fun p e s m args below meth c ls A0 Q X hI hnd hnm hl hret => ?_)
  have X : XC p s m args meth c cX0_byLaw 4 RX0 D jC (jty j.1) A0 Z := X
  have hx := X.1
  have hb := X.2.1
  have hown := X.2.2.2.1
  have hts := X.2.2.2.2.1
  have hl : lv_has ls 4 [(0, .ref a0), (1, .int p1), (2, .ref p2)] := by exact hl
  unfold hX0_byLaw at hf
  obtain ⟨H, eH⟩ : ∃ H, H = s.heap := ⟨_, rfl⟩
  obtain ⟨locs, eL⟩ : ∃ locs : List Loc, locs = [] := ⟨_, rfl⟩
  have hI : HI D jC G A0 s.heap H locs := by rw [eH, eL]; exact hI
  rw [← eL]
  obtain ⟨cells, eC⟩ : ∃ n : Nat, n = 0 := ⟨_, rfl⟩
  obtain ⟨slots, eS⟩ : ∃ n : Nat, n = 0 := ⟨_, rfl⟩
  have hm : cells + mc ≤ MC ∧ slots + ms ≤ MS := by rw [eC, eS]; exact hm0_
  suffices h : W p l e (rhX0_byLaw fr lo MC MS) s m args below meth c H locs cells slots Q (F0 m 0 ls []) by rw [eH, eC, eS] at h; exact h
  clear eH eL eC eS
  refine lv_aload_n hx hb dX0_byLaw_0 rfl (lv_at hl 0 rfl) ?_
  refine lv_aload_n hx hb dX0_byLaw_1 rfl (lv_at hl 0 rfl) ?_
  refine lv_iload_n hx hb dX0_byLaw_2 rfl (lv_at hl 1 rfl) ?_
  obtain ⟨_, _, hO, hf⟩ := hf
  refine h_kq X hI (h_runV (As := [.int p1]) X hI (h_recv X hI hO (show jC.1[0]? = some (RX0, TX0, 20) from rfl)) (mhX0_clashOf l Z D j Λ fr lo E a0 p1 G _ hf H.size) (cwV 1 hts (lw_V q535 q537 qs5 q167 q538) rfl rfl rfl (by decide +kernel) (by show fr + 1 + 1 ≤ fr + 2 ∧ 8 + (2 + 11) + (lo + 3200) ≤ lo + 3221; omega)) rfl hl.1 (Nat.le_of_ble_eq_true rfl) dX0_byLaw_3 ⟨hm0 hm.1, hm0 hm.2⟩ rfl) (fun q2 G1 H locs hf hI => ?_)
  clear hO
  refine hr_pt X hI (rfl : jC.1[0]? = some (RX0, TX0, 20)) in_X0 4 (Nat.le_of_ble_eq_true rfl) tyX0 tyX0_ok nmX0 hf q656 (fun _ h => h) rfl (nar_o _ _) (fit_o _ _) dX0_byLaw_6 (fun G3 H locs hf hI => ?_)
  refine lv_aload_n hx hb dX0_byLaw_9 rfl (lv_at hl 2 rfl) ?_
  obtain ⟨m5, m6, hb1, hb2, hf⟩ := hf
  refine hr_answer E X hI hf q2084 hl.1 (Nat.le_of_ble_eq_true rfl) ⟨Nat.le_add_right _ _, Nat.le_add_right _ _⟩ ⟨hmA hm.1 hb1, hmA hm.2 hb2⟩ dX0_byLaw_10 (fun x7 G4 H locs hf hI => ?_)
  have hm := And.intro (hmB hm.1 hb1) (hmB hm.2 hb2)
  clear hb1 hb2
  refine lv_istore_n (lv' := [(3, .int x7), (0, .ref a0), (1, .int p1), (2, .ref p2)]) hx hb dX0_byLaw_15 rfl hl (by decide) rfl (fun ls hl => ?_)
  refine lv_aload_n hx hb dX0_byLaw_16 rfl (lv_at hl 1 rfl) ?_
  refine lv_aload_n hx hb dX0_byLaw_17 rfl (lv_at hl 1 rfl) ?_
  refine lv_aload_n hx hb dX0_byLaw_18 rfl (lv_at hl 1 rfl) ?_
  refine hr_gtQ X hI (rfl : jC.1[0]? = some (RX0, TX0, 20)) in_X0 1 (Nat.le_of_ble_eq_true rfl) hf q653 (fun _ h => h) dX0_byLaw_19 (fun q8 hf => ?_)
  obtain ⟨a9, ea9, hf⟩ := hf
  revert hl hf
  subst ea9
  intro hl hf
  have hl : lv_has ls 4 [(3, .int x7), (0, .ref a0), (1, .int p1), (2, .ref p2)] := hl
  refine hr_gtIN X hI (rfl : jC.1[2]? = some (RX2, TX2, 11)) in_X2 5 (Nat.le_of_ble_eq_true rfl) hf (E.nw X q494 rfl) (fun _ h => h) dX0_byLaw_22 (fun x10 hf => ?_)
  obtain ⟨_, _, hO, hf⟩ := hf
  refine h_kq X hI (h_runV (As := [.int x10]) X hI (h_recv X hI hO (show jC.1[0]? = some (RX0, TX0, 20) from rfl)) (mhX0_clashOf l Z D j Λ fr lo E a0 x10 G4 _ hf H.size) (cwV 1 hts (lw_V q535 q537 qs5 q167 q538) rfl rfl rfl (by decide +kernel) (by show fr + 1 + 1 ≤ fr + 2 ∧ 8 + (2 + 11) + (lo + 3200) ≤ lo + 3221; omega)) rfl hl.1 (Nat.le_of_ble_eq_true rfl) dX0_byLaw_25 ⟨hm0 hm.1, hm0 hm.2⟩ rfl) (fun q12 G11 H locs hf hI => ?_)
  clear hO
  refine hr_pt X hI (rfl : jC.1[0]? = some (RX0, TX0, 20)) in_X0 4 (Nat.le_of_ble_eq_true rfl) tyX0 tyX0_ok nmX0 hf q656 (fun _ h => h) rfl (nar_o _ _) (fit_o _ _) dX0_byLaw_28 (fun G13 H locs hf hI => ?_)
  refine lv_iload_n hx hb dX0_byLaw_31 rfl (lv_at hl 0 rfl) ?_
  exact hret hf hI dX0_byLaw_32 (hmC hm.1) (hmC hm.2)
/-! MergeJudge.isLaw(I)Z -/
def hX0_isLaw (j : JX) (Λ : JLam) (p0 : Int32) (G : HG) (post : Int32 → HG → Prop) : Prop :=
  hX0_in j Λ p0.toInt64 (0 : Int64) (3 : Int64) G fun x2 G1 => zB x2 ∧ post x2 G1
abbrev rhX0_isLaw (fr lo : Nat) : Room := { frames := fr + 2, cells := 0, slots := 0, locals := lo + 65 }
theorem mhX0_isLaw (l : Launch) (Z : (Nat → Prop) → State → Heap → Prop) (D : va_G) (j : JX) (Λ : JLam) (fr lo : Nat) (E : JE l Z D j Λ fr lo) (p0 : Int32) (G : HG) (post : Int32 → HG → Prop) (hf : hX0_isLaw j Λ p0 G post) : HMi l yX0_isLaw (ws_ yX0_isLaw cX0_isLaw 1 (some .boolean)) (rhX0_isLaw fr lo) D jC (jty j.1) Z G [.int p0] post 0 0 := by
  refine h_openz E.1 (by decide) (by exact Nat.le_of_ble_eq_true rfl) (fun p e s m args below meth c ls A0 Q X hI hnd hnm hl hret => ?_)
  have X : XC p s m args meth c cX0_isLaw 1 RX0 D jC (jty j.1) A0 Z := X
  have hx := X.1
  have hb := X.2.1
  have hown := X.2.2.2.1
  have hts := X.2.2.2.2.1
  have hl : lv_has ls 1 [(0, .int p0)] := by exact hl
  unfold hX0_isLaw at hf
  obtain ⟨H, eH⟩ : ∃ H, H = s.heap := ⟨_, rfl⟩
  obtain ⟨locs, eL⟩ : ∃ locs : List Loc, locs = [] := ⟨_, rfl⟩
  have hI : HI D jC G A0 s.heap H locs := by rw [eH, eL]; exact hI
  rw [← eL]
  suffices h : W p l e (rhX0_isLaw fr lo) s m args below meth c H locs 0 0 Q (F0 m 0 ls []) by rw [eH] at h; exact h
  clear eH eL
  refine lv_iload_n hx hb dX0_isLaw_0 rfl (lv_at hl 0 rfl) ?_
  refine lv_i2l hx hb dX0_isLaw_1 rfl ?_
  refine lv_lconst (v := 0) hx hb dX0_isLaw_2 (by decide) ?_
  refine lv_ldc2 (v := 3) hx hb hown (hts _ q225) dX0_isLaw_3 ?_
  refine h_ki X hI (h_runS (As := [.long p0.toInt64, .long 0, .long 3]) X hI (mhX0_in l Z D j Λ fr lo E p0.toInt64 (0 : Int64) (3 : Int64) G _ hf H.size) (va_cwS 3 hts (lw_S q226 q227 q167 q228) rfl rfl rfl (by decide +kernel) (by show fr + 1 + 1 ≤ fr + 2 ∧ 8 + (6 + 11) + (lo + 40) ≤ lo + 65; omega)) rfl hl.1 (Nat.le_of_ble_eq_true rfl) dX0_isLaw_6 ⟨Nat.le_refl _, Nat.le_refl _⟩ rfl) (fun x2 G1 H locs hf hI => ?_)
  obtain ⟨hz, hf⟩ := hf
  exact hret (zB_n hz) hf hI dX0_isLaw_9 (Nat.le_refl _) (Nat.le_refl _)
/-! MergeJudge.by(I)I -/
def hX0_by (j : JX) (Λ : JLam) (a0 : Nat) (p1 : Int32) (mc ms : Nat) (G : HG) (post : Int32 → HG → Prop) : Prop :=
  gtQ G a0 0 1 fun q1 => nnq q1 fun a2 => isO G a2 2 (hX2_is j Λ a2 G fun x4 G3 => (x4 = 0 → (post ((-2) : Int32) G3)) ∧ (¬ x4 = 0 → (hX0_isLaw j Λ p1 G3 fun x7 G6 => (x7 = 0 → (post ((-2) : Int32) G6)) ∧ (¬ x7 = 0 → (1 ≤ mc ∧ 1 ≤ ms ∧ mkO G6 (.inr (50, .ref a0 :: ([] : List Int32).map .int)) fun a9 G10 => isO G10 a0 0 (∃ m11 m12 : Nat, m11 ≤ mc - 1 ∧ m12 ≤ ms - 1 ∧ hX0_byLaw j Λ a0 p1 a9 m11 m12 G10 fun x14 G13 => post x14 G13))))))
abbrev rhX0_by (fr lo mc ms : Nat) : Room := { frames := fr + 3, cells := mc, slots := ms, locals := lo + 3244 }
theorem mhX0_by (l : Launch) (Z : (Nat → Prop) → State → Heap → Prop) (D : va_G) (j : JX) (Λ : JLam) (fr lo : Nat) (E : JE l Z D j Λ fr lo) (a0 : Nat) (p1 : Int32) (mc ms : Nat) (G : HG) (post : Int32 → HG → Prop) (hf : hX0_by j Λ a0 p1 mc ms G post) : HMi l yX0_by (ws_ yX0_by cX0_by 2 (some .int)) (rhX0_by fr lo mc ms) D jC (jty j.1) Z G [.ref a0, .int p1] post mc ms := by
  obtain ⟨MC, eMC⟩ : ∃ MC, MC = mc := ⟨_, rfl⟩
  obtain ⟨MS, eMS⟩ : ∃ MS, MS = ms := ⟨_, rfl⟩
  suffices goal : HMi l yX0_by (ws_ yX0_by cX0_by 2 (some .int)) (rhX0_by fr lo MC MS) D jC (jty j.1) Z G [.ref a0, .int p1] post MC MS by rw [eMC, eMS] at goal; exact goal
  have hm0_ : 0 + mc ≤ MC ∧ 0 + ms ≤ MS := by omega
  clear eMC eMS
  refine h_openi E.1 (by decide) (by exact Nat.le_of_ble_eq_true rfl) (fun p e s m args below meth c ls A0 Q X hI hnd hnm hl hret => ?_)
  have X : XC p s m args meth c cX0_by 2 RX0 D jC (jty j.1) A0 Z := X
  have hx := X.1
  have hb := X.2.1
  have hown := X.2.2.2.1
  have hts := X.2.2.2.2.1
  have hl : lv_has ls 2 [(0, .ref a0), (1, .int p1)] := by exact hl
  unfold hX0_by at hf
  obtain ⟨H, eH⟩ : ∃ H, H = s.heap := ⟨_, rfl⟩
  obtain ⟨locs, eL⟩ : ∃ locs : List Loc, locs = [] := ⟨_, rfl⟩
  have hI : HI D jC G A0 s.heap H locs := by rw [eH, eL]; exact hI
  rw [← eL]
  obtain ⟨cells, eC⟩ : ∃ n : Nat, n = 0 := ⟨_, rfl⟩
  obtain ⟨slots, eS⟩ : ∃ n : Nat, n = 0 := ⟨_, rfl⟩
  have hm : cells + mc ≤ MC ∧ slots + ms ≤ MS := by rw [eC, eS]; exact hm0_
  suffices h : W p l e (rhX0_by fr lo MC MS) s m args below meth c H locs cells slots Q (F0 m 0 ls []) by rw [eH, eC, eS] at h; exact h
  clear eH eL eC eS
  refine lv_aload_n hx hb dX0_by_0 rfl (lv_at hl 0 rfl) ?_
  refine hr_gtQ X hI (rfl : jC.1[0]? = some (RX0, TX0, 20)) in_X0 1 (Nat.le_of_ble_eq_true rfl) hf q653 (fun _ h => h) dX0_by_1 (fun q1 hf => ?_)
  obtain ⟨a2, ea2, hf⟩ := hf
  revert hl hf
  subst ea2
  intro hl hf
  have hl : lv_has ls 2 [(0, .ref a0), (1, .int p1)] := hl
  obtain ⟨_, _, hO, hf⟩ := hf
  refine h_ki X hI (h_runV (As := []) X hI (h_recv X hI hO (show jC.1[2]? = some (RX2, TX2, 11) from rfl)) (mhX2_is l Z D j Λ fr lo E a2 G _ hf H.size) (cwV 0 hts (lw_V q1839 q1840 q1841 q169 q1842) rfl rfl rfl (by decide +kernel) (by show fr + 1 + 1 ≤ fr + 3 ∧ 8 + (1 + 11) + (lo + 40) ≤ lo + 3244; omega)) rfl hl.1 (Nat.le_of_ble_eq_true rfl) dX0_by_4 ⟨hm0 hm.1, hm0 hm.2⟩ rfl) (fun x4 G3 H locs hf hI => ?_)
  clear hO
  refine lv_if_eq (tgt := 31) hx hb dX0_by_7 (by decide) (fun c5 => ?_) (fun c5 => ?_)
  · have hf := hf.1 c5
    refine lv_bipush (v := -2) hx hb dX0_by_31 (by decide) ?_
    exact hret hf hI dX0_by_33 (hmC hm.1) (hmC hm.2)
  · have hf := hf.2 c5
    refine lv_iload_n hx hb dX0_by_10 rfl (lv_at hl 1 rfl) ?_
    refine h_ki X hI (h_runS (As := [.int p1]) X hI (mhX0_isLaw l Z D j Λ fr lo E p1 G3 _ hf H.size) (va_cwS 1 hts (lw_S q2418 q2419 q167 q2420) rfl rfl rfl (by decide +kernel) (by show fr + 2 + 1 ≤ fr + 3 ∧ 8 + (1 + 11) + (lo + 65) ≤ lo + 3244; omega)) rfl hl.1 (Nat.le_of_ble_eq_true rfl) dX0_by_11 ⟨hm0 hm.1, hm0 hm.2⟩ rfl) (fun x7 G6 H locs hf hI => ?_)
    refine lv_if_eq (tgt := 31) hx hb dX0_by_14 (by decide) (fun c8 => ?_) (fun c8 => ?_)
    · have hf := hf.1 c8
      refine lv_bipush (v := -2) hx hb dX0_by_31 (by decide) ?_
      exact hret hf hI dX0_by_33 (hmC hm.1) (hmC hm.2)
    · have hf := hf.2 c8
      refine lv_aload_n hx hb dX0_by_17 rfl (lv_at hl 0 rfl) ?_
      refine lv_iload_n hx hb dX0_by_18 rfl (lv_at hl 1 rfl) ?_
      refine lv_aload_n hx hb dX0_by_19 rfl (lv_at hl 0 rfl) ?_
      obtain ⟨hb1, hb2, hf⟩ := hf
      refine E.2.2.2.1 27 yX0_by 20 476 a0 [] rfl (rest := [.int p1, .ref a0]) X hI hnd hl.1 (Nat.le_of_ble_eq_true rfl) dX0_by_20 (by show 3200 ≤ lo + 3244; omega) (hmA hm.1 hb1) (hmA hm.2 hb2) hf (fun a9 G10 H hf hI => ?_)
      have hm := And.intro (hmB hm.1 hb1) (hmB hm.2 hb2)
      clear hb1 hb2
      obtain ⟨_, _, hO, hf⟩ := hf
      obtain ⟨m11, m12, hb1, hb2, hf⟩ := hf
      refine h_ki X hI (h_runV (As := [.int p1, .ref a9]) X hI (h_recv X hI hO (show jC.1[0]? = some (RX0, TX0, 20) from rfl)) (mhX0_byLaw l Z D j Λ fr lo E a0 p1 a9 m11 m12 G10 _ hf H.size) (cwV 2 hts (lw_V q2410 q2412 qs75 q167 q2413) rfl rfl rfl (by decide +kernel) (by show fr + 2 + 1 ≤ fr + 3 ∧ 8 + (4 + 11) + (lo + 3221) ≤ lo + 3244; omega)) rfl hl.1 (Nat.le_of_ble_eq_true rfl) dX0_by_25 ⟨hmA hm.1 hb1, hmA hm.2 hb2⟩ rfl) (fun x14 G13 H locs hf hI => ?_)
      have hm := And.intro (hmB hm.1 hb1) (hmB hm.2 hb2)
      clear hb1 hb2
      clear hO
      refine lv_goto (tgt := 33) hx hb dX0_by_28 (by decide) ?_
      exact hret hf hI dX0_by_33 (hmC hm.1) (hmC hm.2)
/-! MergeJudge.lambda$by$19()I -/
def hX0_lambda_by_19 (j : JX) (Λ : JLam) (a0 : Nat) (mc ms : Nat) (G : HG) (post : Int32 → HG → Prop) : Prop :=
  isO G a0 0 (∃ m1 m2 : Nat, m1 ≤ mc ∧ m2 ≤ ms ∧ hX0_allIn j Λ a0 (1 : Int32) m1 m2 G fun x4 G3 => post x4 G3)
abbrev rhX0_lambda_by_19 (fr lo mc ms : Nat) : Room := { frames := fr + 7, cells := mc, slots := ms, locals := lo + 3221 }
theorem mhX0_lambda_by_19 (l : Launch) (Z : (Nat → Prop) → State → Heap → Prop) (D : va_G) (j : JX) (Λ : JLam) (fr lo : Nat) (E : JE l Z D j Λ fr lo) (a0 : Nat) (mc ms : Nat) (G : HG) (post : Int32 → HG → Prop) (hf : hX0_lambda_by_19 j Λ a0 mc ms G post) : HMi l yX0_lambda_by_19 (ws_ yX0_lambda_by_19 cX0_lambda_by_19 1 (some .int)) (rhX0_lambda_by_19 fr lo mc ms) D jC (jty j.1) Z G [.ref a0] post mc ms := by
  obtain ⟨MC, eMC⟩ : ∃ MC, MC = mc := ⟨_, rfl⟩
  obtain ⟨MS, eMS⟩ : ∃ MS, MS = ms := ⟨_, rfl⟩
  suffices goal : HMi l yX0_lambda_by_19 (ws_ yX0_lambda_by_19 cX0_lambda_by_19 1 (some .int)) (rhX0_lambda_by_19 fr lo MC MS) D jC (jty j.1) Z G [.ref a0] post MC MS by rw [eMC, eMS] at goal; exact goal
  have hm0_ : 0 + mc ≤ MC ∧ 0 + ms ≤ MS := by omega
  clear eMC eMS
  refine h_openi E.1 (by decide) (by exact Nat.le_of_ble_eq_true rfl) (fun p e s m args below meth c ls A0 Q X hI hnd hnm hl hret => ?_)
  have X : XC p s m args meth c cX0_lambda_by_19 1 RX0 D jC (jty j.1) A0 Z := X
  have hx := X.1
  have hb := X.2.1
  have hown := X.2.2.2.1
  have hts := X.2.2.2.2.1
  have hl : lv_has ls 1 [(0, .ref a0)] := by exact hl
  unfold hX0_lambda_by_19 at hf
  obtain ⟨H, eH⟩ : ∃ H, H = s.heap := ⟨_, rfl⟩
  obtain ⟨locs, eL⟩ : ∃ locs : List Loc, locs = [] := ⟨_, rfl⟩
  have hI : HI D jC G A0 s.heap H locs := by rw [eH, eL]; exact hI
  rw [← eL]
  obtain ⟨cells, eC⟩ : ∃ n : Nat, n = 0 := ⟨_, rfl⟩
  obtain ⟨slots, eS⟩ : ∃ n : Nat, n = 0 := ⟨_, rfl⟩
  have hm : cells + mc ≤ MC ∧ slots + ms ≤ MS := by rw [eC, eS]; exact hm0_
  suffices h : W p l e (rhX0_lambda_by_19 fr lo MC MS) s m args below meth c H locs cells slots Q (F0 m 0 ls []) by rw [eH, eC, eS] at h; exact h
  clear eH eL eC eS
  refine lv_aload_n hx hb dX0_lambda_by_19_0 rfl (lv_at hl 0 rfl) ?_
  refine lv_iconst (v := 1) hx hb dX0_lambda_by_19_1 (by decide) ?_
  obtain ⟨_, _, hO, hf⟩ := hf
  obtain ⟨m1, m2, hb1, hb2, hf⟩ := hf
  refine h_ki X hI (h_runV (As := [.int 1]) X hI (h_recv X hI hO (show jC.1[0]? = some (RX0, TX0, 20) from rfl)) (mhX0_allIn l Z D j Λ fr lo E a0 (1 : Int32) m1 m2 G _ hf H.size) (cwV 1 hts (lw_V q2201 q2203 qs60 q167 q2204) rfl rfl rfl (by decide +kernel) (by show fr + 6 + 1 ≤ fr + 7 ∧ 8 + (2 + 11) + (lo + 3200) ≤ lo + 3221; omega)) rfl hl.1 (Nat.le_of_ble_eq_true rfl) dX0_lambda_by_19_2 ⟨hmA hm.1 hb1, hmA hm.2 hb2⟩ rfl) (fun x4 G3 H locs hf hI => ?_)
  have hm := And.intro (hmB hm.1 hb1) (hmB hm.2 hb2)
  clear hb1 hb2
  clear hO
  exact hret hf hI dX0_lambda_by_19_5 (hmC hm.1) (hmC hm.2)
/-! MergeJudge.law()I -/
def hX0_law_b37 (j : JX) (Λ : JLam) (a0 : Nat) (post : Int32 → HG → Prop) (K17 : Int32 → Int32 → Nat → Nat → HG → Prop) (lx1 : Int32) (lx2 : Int32) (mc ms : Nat) (G : HG) : Prop :=
  K17 lx1 (lx2 + 1) mc ms G
def hX0_law_b17 (j : JX) (Λ : JLam) (a0 : Nat) (post : Int32 → HG → Prop) (K17 : Int32 → Int32 → Nat → Nat → HG → Prop) (lx1 : Int32) (lx2 : Int32) (mc ms : Nat) (G : HG) : Prop :=
  ((4 : Int32) ≤ lx2 → (post lx1 G)) ∧ (¬ (4 : Int32) ≤ lx2 → (isO G a0 0 (∃ m7 m8 : Nat, m7 ≤ mc ∧ m8 ≤ ms ∧ hX0_by j Λ a0 lx2 m7 m8 G fun x10 G9 => isO G9 a0 0 (∃ m11 m12 : Nat, m11 ≤ mc - m7 ∧ m12 ≤ ms - m8 ∧ hX0_by j Λ a0 lx1 m11 m12 G9 fun x14 G13 => (x14 ≤ x10 → (hX0_law_b37 j Λ a0 post K17 lx1 lx2 (mc - m7 - m11) (ms - m8 - m12) G13)) ∧ (¬ x14 ≤ x10 → (hX0_law_b37 j Λ a0 post K17 lx2 lx2 (mc - m7 - m11) (ms - m8 - m12) G13))))))
def hX0_law_l17 (j : JX) (Λ : JLam) (a0 : Nat) (post : Int32 → HG → Prop) : Nat → Int32 → Int32 → Nat → Nat → HG → Prop
  | 0 => fun _ _ _ _ _ => False
  | n + 1 => fun lx1 lx2 mc ms G => hX0_law_b17 j Λ a0 post (hX0_law_l17 j Λ a0 post n) lx1 lx2 mc ms G
def hX0_law (j : JX) (Λ : JLam) (a0 : Nat) (mc ms : Nat) (G : HG) (post : Int32 → HG → Prop) : Prop :=
  gtQ G a0 0 1 fun q1 => nnq q1 fun a2 => isO G a2 2 (hX2_is j Λ a2 G fun x4 G3 => (x4 = 0 → (post ((-2) : Int32) G3)) ∧ (¬ x4 = 0 → (∃ n, hX0_law_l17 j Λ a0 post n (0 : Int32) (1 : Int32) mc ms G3)))
abbrev rhX0_law (fr lo mc ms : Nat) : Room := { frames := fr + 4, cells := mc, slots := ms, locals := lo + 3265 }
theorem mhX0_law (l : Launch) (Z : (Nat → Prop) → State → Heap → Prop) (D : va_G) (j : JX) (Λ : JLam) (fr lo : Nat) (E : JE l Z D j Λ fr lo) (a0 : Nat) (mc ms : Nat) (G : HG) (post : Int32 → HG → Prop) (hf : hX0_law j Λ a0 mc ms G post) : HMi l yX0_law (ws_ yX0_law cX0_law 3 (some .int)) (rhX0_law fr lo mc ms) D jC (jty j.1) Z G [.ref a0] post mc ms := by
  obtain ⟨MC, eMC⟩ : ∃ MC, MC = mc := ⟨_, rfl⟩
  obtain ⟨MS, eMS⟩ : ∃ MS, MS = ms := ⟨_, rfl⟩
  suffices goal : HMi l yX0_law (ws_ yX0_law cX0_law 3 (some .int)) (rhX0_law fr lo MC MS) D jC (jty j.1) Z G [.ref a0] post MC MS by rw [eMC, eMS] at goal; exact goal
  have hm0_ : 0 + mc ≤ MC ∧ 0 + ms ≤ MS := by omega
  clear eMC eMS
  refine h_openi E.1 (by decide) (by exact Nat.le_of_ble_eq_true rfl) (fun p e s m args below meth c ls A0 Q X hI hnd hnm hl hret => ?_)
  have X : XC p s m args meth c cX0_law 3 RX0 D jC (jty j.1) A0 Z := X
  have hx := X.1
  have hb := X.2.1
  have hown := X.2.2.2.1
  have hts := X.2.2.2.2.1
  have L17 : ∀ (n : Nat) (lx1 : Int32) (lx2 : Int32) (mc ms : Nat) (G : HG), hX0_law_l17 j Λ a0 post n lx1 lx2 mc ms G → ∀ (cells slots : Nat), cells + mc ≤ MC ∧ slots + ms ≤ MS → ∀ (H : Heap) (locs : List Loc), HI D jC G A0 s.heap H locs → ∀ (ls : Array Slot), lv_has ls 3 [(0, .ref a0), (1, .int lx1), (2, .int lx2)] → W p l e (rhX0_law fr lo MC MS) s m args below meth c H locs cells slots Q (F0 m 17 ls []) := by
    intro n17
    induction n17 with
    | zero => intro lx1 lx2 mc ms G hf; exact hf.elim
    | succ n17 ih17 =>
      have J37 : ∀ (lx1 : Int32) (lx2 : Int32) (mc ms : Nat) (G : HG), hX0_law_b37 j Λ a0 post (hX0_law_l17 j Λ a0 post n17) lx1 lx2 mc ms G → ∀ (cells slots : Nat), cells + mc ≤ MC ∧ slots + ms ≤ MS → ∀ (H : Heap) (locs : List Loc), HI D jC G A0 s.heap H locs → ∀ (ls : Array Slot), lv_has ls 3 [(0, .ref a0), (1, .int lx1), (2, .int lx2)] → W p l e (rhX0_law fr lo MC MS) s m args below meth c H locs cells slots Q (F0 m 37 ls []) := by
        intro lx1 lx2 mc ms G hf cells slots hm H locs hI ls hl
        unfold hX0_law_b37 at hf
        refine lv_iinc (v := lx2 + 1) (lv' := [(2, .int (lx2 + 1)), (0, .ref a0), (1, .int lx1)]) hx hb dX0_law_37 hl (k := 2) rfl rfl (by decide) rfl (fun ls hl => ?_)
        refine lv_goto (tgt := 17) hx hb dX0_law_40 (by decide) ?_
        exact ih17 lx1 (lx2 + 1) mc ms G hf _ _ hm H locs hI ls (lv_sub hl [1, 2, 0] rfl)
      intro lx1 lx2 mc ms G hf cells slots hm H locs hI ls hl
      have hf : hX0_law_b17 j Λ a0 post (hX0_law_l17 j Λ a0 post n17) lx1 lx2 mc ms G := hf
      unfold hX0_law_b17 at hf
      refine lv_iload_n hx hb dX0_law_17 rfl (lv_at hl 2 rfl) ?_
      refine lv_iconst (v := 4) hx hb dX0_law_18 (by decide) ?_
      refine lv_icmp_ge (tgt := 43) hx hb dX0_law_19 (by decide) (fun c6 => ?_) (fun c6 => ?_)
      · have hf := hf.1 c6
        refine lv_iload_n hx hb dX0_law_43 rfl (lv_at hl 1 rfl) ?_
        exact hret hf hI dX0_law_44 (hmC hm.1) (hmC hm.2)
      · have hf := hf.2 c6
        refine lv_aload_n hx hb dX0_law_22 rfl (lv_at hl 0 rfl) ?_
        refine lv_iload_n hx hb dX0_law_23 rfl (lv_at hl 2 rfl) ?_
        obtain ⟨_, _, hO, hf⟩ := hf
        obtain ⟨m7, m8, hb1, hb2, hf⟩ := hf
        refine h_ki X hI (h_runV (As := [.int lx2]) X hI (h_recv X hI hO (show jC.1[0]? = some (RX0, TX0, 20) from rfl)) (mhX0_by l Z D j Λ fr lo E a0 lx2 m7 m8 G _ hf H.size) (cwV 1 hts (lw_V q2428 q2415 q2416 q167 q2417) rfl rfl rfl (by decide +kernel) (by show fr + 3 + 1 ≤ fr + 4 ∧ 8 + (2 + 11) + (lo + 3244) ≤ lo + 3265; omega)) rfl hl.1 (Nat.le_of_ble_eq_true rfl) dX0_law_24 ⟨hmA hm.1 hb1, hmA hm.2 hb2⟩ rfl) (fun x10 G9 H locs hf hI => ?_)
        have hm := And.intro (hmB hm.1 hb1) (hmB hm.2 hb2)
        clear hb1 hb2
        clear hO
        refine lv_aload_n hx hb dX0_law_27 rfl (lv_at hl 0 rfl) ?_
        refine lv_iload_n hx hb dX0_law_28 rfl (lv_at hl 1 rfl) ?_
        obtain ⟨_, _, hO, hf⟩ := hf
        obtain ⟨m11, m12, hb1, hb2, hf⟩ := hf
        refine h_ki X hI (h_runV (As := [.int lx1]) X hI (h_recv X hI hO (show jC.1[0]? = some (RX0, TX0, 20) from rfl)) (mhX0_by l Z D j Λ fr lo E a0 lx1 m11 m12 G9 _ hf H.size) (cwV 1 hts (lw_V q2428 q2415 q2416 q167 q2417) rfl rfl rfl (by decide +kernel) (by show fr + 3 + 1 ≤ fr + 4 ∧ 8 + (2 + 11) + (lo + 3244) ≤ lo + 3265; omega)) rfl hl.1 (Nat.le_of_ble_eq_true rfl) dX0_law_29 ⟨hmA hm.1 hb1, hmA hm.2 hb2⟩ rfl) (fun x14 G13 H locs hf hI => ?_)
        have hm := And.intro (hmB hm.1 hb1) (hmB hm.2 hb2)
        clear hb1 hb2
        clear hO
        refine lv_icmp_ge (tgt := 37) hx hb dX0_law_32 (by decide) (fun c15 => ?_) (fun c15 => ?_)
        · have hf := hf.1 c15
          exact J37 lx1 lx2 (mc - m7 - m11) (ms - m8 - m12) G13 hf _ _ hm H locs hI ls (lv_sub hl [0, 1, 2] rfl)
        · have hf := hf.2 c15
          refine lv_iload_n hx hb dX0_law_35 rfl (lv_at hl 2 rfl) ?_
          refine lv_istore_n (lv' := [(1, .int lx2), (0, .ref a0), (2, .int lx2)]) hx hb dX0_law_36 rfl hl (by decide) rfl (fun ls hl => ?_)
          exact J37 lx2 lx2 (mc - m7 - m11) (ms - m8 - m12) G13 hf _ _ hm H locs hI ls (lv_sub hl [1, 0, 2] rfl)
  have hl : lv_has ls 3 [(0, .ref a0)] := by exact hl
  unfold hX0_law at hf
  obtain ⟨H, eH⟩ : ∃ H, H = s.heap := ⟨_, rfl⟩
  obtain ⟨locs, eL⟩ : ∃ locs : List Loc, locs = [] := ⟨_, rfl⟩
  have hI : HI D jC G A0 s.heap H locs := by rw [eH, eL]; exact hI
  rw [← eL]
  obtain ⟨cells, eC⟩ : ∃ n : Nat, n = 0 := ⟨_, rfl⟩
  obtain ⟨slots, eS⟩ : ∃ n : Nat, n = 0 := ⟨_, rfl⟩
  have hm : cells + mc ≤ MC ∧ slots + ms ≤ MS := by rw [eC, eS]; exact hm0_
  suffices h : W p l e (rhX0_law fr lo MC MS) s m args below meth c H locs cells slots Q (F0 m 0 ls []) by rw [eH, eC, eS] at h; exact h
  clear eH eL eC eS
  refine lv_aload_n hx hb dX0_law_0 rfl (lv_at hl 0 rfl) ?_
  refine hr_gtQ X hI (rfl : jC.1[0]? = some (RX0, TX0, 20)) in_X0 1 (Nat.le_of_ble_eq_true rfl) hf q653 (fun _ h => h) dX0_law_1 (fun q1 hf => ?_)
  obtain ⟨a2, ea2, hf⟩ := hf
  revert hl hf
  subst ea2
  intro hl hf
  have hl : lv_has ls 3 [(0, .ref a0)] := hl
  obtain ⟨_, _, hO, hf⟩ := hf
  refine h_ki X hI (h_runV (As := []) X hI (h_recv X hI hO (show jC.1[2]? = some (RX2, TX2, 11) from rfl)) (mhX2_is l Z D j Λ fr lo E a2 G _ hf H.size) (cwV 0 hts (lw_V q1839 q1840 q1841 q169 q1842) rfl rfl rfl (by decide +kernel) (by show fr + 1 + 1 ≤ fr + 4 ∧ 8 + (1 + 11) + (lo + 40) ≤ lo + 3265; omega)) rfl hl.1 (Nat.le_of_ble_eq_true rfl) dX0_law_4 ⟨hm0 hm.1, hm0 hm.2⟩ rfl) (fun x4 G3 H locs hf hI => ?_)
  clear hO
  refine lv_if_ne (tgt := 13) hx hb dX0_law_7 (by decide) (fun c5 => ?_) (fun c5 => ?_)
  · have hf := hf.2 c5
    refine lv_iconst (v := 0) hx hb dX0_law_13 (by decide) ?_
    refine lv_istore_n (lv' := [(1, .int 0), (0, .ref a0)]) hx hb dX0_law_14 rfl hl (by decide) rfl (fun ls hl => ?_)
    refine lv_iconst (v := 1) hx hb dX0_law_15 (by decide) ?_
    refine lv_istore_n (lv' := [(2, .int 1), (1, .int 0), (0, .ref a0)]) hx hb dX0_law_16 rfl hl (by decide) rfl (fun ls hl => ?_)
    obtain ⟨n, hf⟩ := hf
    exact L17 n (0 : Int32) (1 : Int32) mc ms G3 hf _ _ hm H locs hI ls (lv_sub hl [2, 1, 0] rfl)
  · have hf := hf.1 c5
    refine lv_bipush (v := -2) hx hb dX0_law_10 (by decide) ?_
    exact hret hf hI dX0_law_12 (hmC hm.1) (hmC hm.2)
