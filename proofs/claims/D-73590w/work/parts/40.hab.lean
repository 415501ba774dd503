/-! THE COMPONENT as transformers over its heap, and the walks (printed by gen/genh.py) -/
/-! MergeJudge.end(I)I -/
def hX0_end (j : JX) (Λ : JLam) (a0 : Nat) (p1 : Int32) (G : HG) (post : Int32 → HG → Prop) : Prop :=
  gtI G a0 0 6 fun x1 => hX0_in j Λ p1.toInt64 (0 : Int64) x1.toInt64 G fun x3 G2 => (x3 = 0 → (post ((-1) : Int32) G2)) ∧ (¬ x3 = 0 → (ptV G2 a0 0 6 (.int p1) fun G5 => post p1 G5))
abbrev rhX0_end (fr lo : Nat) : Room := { frames := fr + 2, cells := 0, slots := 0, locals := lo + 65 }
theorem mhX0_end (l : Launch) (Z : (Nat → Prop) → State → Heap → Prop) (D : va_G) (j : JX) (Λ : JLam) (fr lo : Nat) (E : JE l Z D j Λ fr lo) (a0 : Nat) (p1 : Int32) (G : HG) (post : Int32 → HG → Prop) (hf : hX0_end j Λ a0 p1 G post) : HMi l yX0_end (ws_ yX0_end cX0_end 2 (some .int)) (rhX0_end fr lo) D jC (jty j.1) Z G [.ref a0, .int p1] post 0 0 := by
  refine h_openi E.1 (by decide) (by exact Nat.le_of_ble_eq_true rfl) (fun p e s m args below meth c ls A0 Q X hI hnd hnm hl hret => ?_)
  have X : XC p s m args meth c cX0_end 2 RX0 D jC (jty j.1) A0 Z := X
  have hx := X.1
  have hb := X.2.1
  have hown := X.2.2.2.1
  have hts := X.2.2.2.2.1
  have hl : lv_has ls 2 [(0, .ref a0), (1, .int p1)] := by exact hl
  unfold hX0_end at hf
  obtain ⟨H, eH⟩ : ∃ H, H = s.heap := ⟨_, rfl⟩
  obtain ⟨locs, eL⟩ : ∃ locs : List Loc, locs = [] := ⟨_, rfl⟩
  have hI : HI D jC G A0 s.heap H locs := by rw [eH, eL]; exact hI
  rw [← eL]
  suffices h : W p l e (rhX0_end fr lo) s m args below meth c H locs 0 0 Q (F0 m 0 ls []) by rw [eH] at h; exact h
  clear eH eL
  refine lv_iload_n hx hb dX0_end_0 rfl (lv_at hl 1 rfl) ?_
  refine lv_i2l hx hb dX0_end_1 rfl ?_
  refine lv_lconst (v := 0) hx hb dX0_end_2 (by decide) ?_
  refine lv_aload_n hx hb dX0_end_3 rfl (lv_at hl 0 rfl) ?_
  refine hr_gtI X hI (rfl : jC.1[0]? = some (RX0, TX0, 20)) in_X0 6 (Nat.le_of_ble_eq_true rfl) hf q658 (fun _ h => h) dX0_end_4 (fun x1 hf => ?_)
  refine lv_i2l hx hb dX0_end_7 rfl ?_
  refine h_ki X hI (h_runS (As := [.long p1.toInt64, .long 0, .long x1.toInt64]) X hI (mhX0_in l Z D j Λ fr lo E p1.toInt64 (0 : Int64) x1.toInt64 G _ hf H.size) (va_cwS 3 hts (lw_S q226 q227 q167 q228) rfl rfl rfl (by decide +kernel) (by show fr + 1 + 1 ≤ fr + 2 ∧ 8 + (6 + 11) + (lo + 40) ≤ lo + 65; omega)) rfl hl.1 (Nat.le_of_ble_eq_true rfl) dX0_end_8 ⟨Nat.le_refl _, Nat.le_refl _⟩ rfl) (fun x3 G2 H locs hf hI => ?_)
  refine lv_if_ne (tgt := 16) hx hb dX0_end_11 (by decide) (fun c4 => ?_) (fun c4 => ?_)
  · have hf := hf.2 c4
    refine lv_aload_n hx hb dX0_end_16 rfl (lv_at hl 0 rfl) ?_
    refine lv_iload_n hx hb dX0_end_17 rfl (lv_at hl 1 rfl) ?_
    refine hr_pt X hI (rfl : jC.1[0]? = some (RX0, TX0, 20)) in_X0 6 (Nat.le_of_ble_eq_true rfl) tyX0 tyX0_ok nmX0 hf q658 (fun _ h => h) rfl rfl rfl dX0_end_18 (fun G5 H locs hf hI => ?_)
    refine lv_iload_n hx hb dX0_end_21 rfl (lv_at hl 1 rfl) ?_
    exact hret hf hI dX0_end_22 (Nat.le_refl _) (Nat.le_refl _)
  · have hf := hf.1 c4
    refine lv_iconst (v := -1) hx hb dX0_end_14 (by decide) ?_
    exact hret hf hI dX0_end_15 (Nat.le_refl _) (Nat.le_refl _)
/-! MergeJudge$Told.number(I)I -/
def hX10_number (j : JX) (Λ : JLam) (a0 : Nat) (p1 : Int32) (G : HG) (post : Int32 → HG → Prop) : Prop :=
  gtQ G a0 10 1 fun q1 => nnq q1 fun a2 => aln (jty j.1) G a2 fun x3 => (x3 ≤ p1 → (post ((-1) : Int32) G)) ∧ (¬ x3 ≤ p1 → (gtQ G a0 10 1 fun q5 => nnq q5 fun a6 => ldI G a6 (j.1 0) p1 fun x7 => post x7 G))
abbrev rhX10_number (fr lo : Nat) : Room := { frames := fr + 1, cells := 0, slots := 0, locals := lo + 40 }
theorem mhX10_number (l : Launch) (Z : (Nat → Prop) → State → Heap → Prop) (D : va_G) (j : JX) (Λ : JLam) (fr lo : Nat) (E : JE l Z D j Λ fr lo) (a0 : Nat) (p1 : Int32) (G : HG) (post : Int32 → HG → Prop) (hf : hX10_number j Λ a0 p1 G post) : HMi l yX10_number (ws_ yX10_number cX10_number 2 (some .int)) (rhX10_number fr lo) D jC (jty j.1) Z G [.ref a0, .int p1] post 0 0 := by
  refine h_openi E.1 (by decide) (by exact Nat.le_of_ble_eq_true rfl) (fun p e s m args below meth c ls A0 Q X hI hnd hnm hl hret => ?_)
  have X : XC p s m args meth c cX10_number 2 RX10 D jC (jty j.1) A0 Z := X
  have hx := X.1
  have hb := X.2.1
  have hown := X.2.2.2.1
  have hts := X.2.2.2.2.1
  have hl : lv_has ls 2 [(0, .ref a0), (1, .int p1)] := by exact hl
  unfold hX10_number at hf
  obtain ⟨H, eH⟩ : ∃ H, H = s.heap := ⟨_, rfl⟩
  obtain ⟨locs, eL⟩ : ∃ locs : List Loc, locs = [] := ⟨_, rfl⟩
  have hI : HI D jC G A0 s.heap H locs := by rw [eH, eL]; exact hI
  rw [← eL]
  suffices h : W p l e (rhX10_number fr lo) s m args below meth c H locs 0 0 Q (F0 m 0 ls []) by rw [eH] at h; exact h
  clear eH eL
  refine lv_iload_n hx hb dX10_number_0 rfl (lv_at hl 1 rfl) ?_
  refine lv_aload_n hx hb dX10_number_1 rfl (lv_at hl 0 rfl) ?_
  refine hr_gtQ X hI (rfl : jC.1[10]? = some (RX10, TX10, 2)) in_X10 1 (Nat.le_of_ble_eq_true rfl) hf q1792 (fun _ h => h) dX10_number_2 (fun q1 hf => ?_)
  obtain ⟨a2, ea2, hf⟩ := hf
  revert hl hf
  subst ea2
  intro hl hf
  have hl : lv_has ls 2 [(0, .ref a0), (1, .int p1)] := hl
  refine hr_aln X hI hf dX10_number_5 (fun x3 hf => ?_)
  refine lv_icmp_ge (tgt := 18) hx hb dX10_number_6 (by decide) (fun c4 => ?_) (fun c4 => ?_)
  · have hf := hf.1 c4
    refine lv_iconst (v := -1) hx hb dX10_number_18 (by decide) ?_
    exact hret hf hI dX10_number_19 (Nat.le_refl _) (Nat.le_refl _)
  · have hf := hf.2 c4
    refine lv_aload_n hx hb dX10_number_9 rfl (lv_at hl 0 rfl) ?_
    refine hr_gtQ X hI (rfl : jC.1[10]? = some (RX10, TX10, 2)) in_X10 1 (Nat.le_of_ble_eq_true rfl) hf q1792 (fun _ h => h) dX10_number_10 (fun q5 hf => ?_)
    refine lv_iload_n hx hb dX10_number_13 rfl (lv_at hl 1 rfl) ?_
    obtain ⟨a6, ea6, hf⟩ := hf
    revert hl hf
    subst ea6
    intro hl hf
    have hl : lv_has ls 2 [(0, .ref a0), (1, .int p1)] := hl
    refine hr_ild X hI 0 rfl hf dX10_number_14 (fun x7 hf => ?_)
    refine lv_goto (tgt := 19) hx hb dX10_number_15 (by decide) ?_
    exact hret hf hI dX10_number_19 (Nat.le_refl _) (Nat.le_refl _)
/-! MergeJudge.ruleOf(LMergeJudge$Told;)LMergeJudge$Rule; -/
def hX0_ruleOf (j : JX) (Λ : JLam) (a0 : Nat) (p1 : Nat) (mc ms : Nat) (G : HG) (post : Option Nat → HG → Prop) : Prop :=
  isO G p1 10 (hX10_number j Λ p1 (0 : Int32) G fun x2 G1 => isO G1 p1 10 (hX10_number j Λ p1 (1 : Int32) G1 fun x4 G3 => isO G3 p1 10 (hX10_number j Λ p1 (2 : Int32) G3 fun x6 G5 => isO G5 p1 10 (hX10_number j Λ p1 (3 : Int32) G5 fun x8 G7 => gtI G7 p1 10 0 fun x9 => (x9 = 0 → (1 ≤ mc ∧ 3 ≤ ms ∧ mkO G7 (.inr (31, .ref a0 :: ([x2, x4] : List Int32).map .int)) fun a11 G12 => post (some a11) G12)) ∧ (¬ x9 = 0 → ((x9 = 1 → (1 ≤ mc ∧ 3 ≤ ms ∧ mkO G7 (.inr (32, .ref a0 :: ([x2, x4] : List Int32).map .int)) fun a14 G15 => post (some a14) G15)) ∧ (¬ x9 = 1 → ((x9 = 2 → (1 ≤ mc ∧ 3 ≤ ms ∧ mkO G7 (.inr (33, .ref a0 :: ([x2, x4] : List Int32).map .int)) fun a17 G18 => post (some a17) G18)) ∧ (¬ x9 = 2 → ((x9 = 3 → (1 ≤ mc ∧ 4 ≤ ms ∧ mkO G7 (.inr (34, .ref a0 :: ([x2, x4, x6] : List Int32).map .int)) fun a20 G21 => post (some a20) G21)) ∧ (¬ x9 = 3 → ((x9 = 4 → (1 ≤ mc ∧ 3 ≤ ms ∧ mkO G7 (.inr (35, .ref a0 :: ([x2, x4] : List Int32).map .int)) fun a23 G24 => post (some a23) G24)) ∧ (¬ x9 = 4 → (1 ≤ mc ∧ 5 ≤ ms ∧ mkO G7 (.inr (36, .ref a0 :: ([x2, x4, x6, x8] : List Int32).map .int)) fun a25 G26 => post (some a25) G26))))))))))))))
abbrev rhX0_ruleOf (fr lo mc ms : Nat) : Room := { frames := fr + 2, cells := mc, slots := ms, locals := lo + 3200 }
theorem mhX0_ruleOf (l : Launch) (Z : (Nat → Prop) → State → Heap → Prop) (D : va_G) (j : JX) (Λ : JLam) (fr lo : Nat) (E : JE l Z D j Λ fr lo) (a0 : Nat) (p1 : Nat) (mc ms : Nat) (G : HG) (post : Option Nat → HG → Prop) (hf : hX0_ruleOf j Λ a0 p1 mc ms G post) : HMq l yX0_ruleOf (ws_ yX0_ruleOf cX0_ruleOf 6 (some (.object "MergeJudge$Rule"))) (rhX0_ruleOf fr lo mc ms) D jC (jty j.1) Z G [.ref a0, .ref p1] post mc ms := by
  obtain ⟨MC, eMC⟩ : ∃ MC, MC = mc := ⟨_, rfl⟩
  obtain ⟨MS, eMS⟩ : ∃ MS, MS = ms := ⟨_, rfl⟩
  suffices goal : HMq l yX0_ruleOf (ws_ yX0_ruleOf cX0_ruleOf 6 (some (.object "MergeJudge$Rule"))) (rhX0_ruleOf fr lo MC MS) D jC (jty j.1) Z G [.ref a0, .ref p1] post MC MS by rw [eMC, eMS] at goal; exact goal
  have hm0_ : 0 + mc ≤ MC ∧ 0 + ms ≤ MS := by omega
  clear eMC eMS
  refine h_openq (Or.inl ⟨_, rfl⟩) E.1 (by decide) (by exact Nat.le_of_ble_eq_true rfl) (fun p e s m args below meth c ls A0 Q X hI hnd hnm hl hret => ?_)
  have X : XC p s m args meth c cX0_ruleOf 6 RX0 D jC (jty j.1) A0 Z := X
  have hx := X.1
  have hb := X.2.1
  have hown := X.2.2.2.1
  have hts := X.2.2.2.2.1
  have hl : lv_has ls 6 [(0, .ref a0), (1, .ref p1)] := by exact hl
  unfold hX0_ruleOf at hf
  obtain ⟨H, eH⟩ : ∃ H, H = s.heap := ⟨_, rfl⟩
  obtain ⟨locs, eL⟩ : ∃ locs : List Loc, locs = [] := ⟨_, rfl⟩
  have hI : HI D jC G A0 s.heap H locs := by rw [eH, eL]; exact hI
  rw [← eL]
  obtain ⟨cells, eC⟩ : ∃ n : Nat, n = 0 := ⟨_, rfl⟩
  obtain ⟨slots, eS⟩ : ∃ n : Nat, n = 0 := ⟨_, rfl⟩
  have hm : cells + mc ≤ MC ∧ slots + ms ≤ MS := by rw [eC, eS]; exact hm0_
  suffices h : W p l e (rhX0_ruleOf fr lo MC MS) s m args below meth c H locs cells slots Q (F0 m 0 ls []) by rw [eH, eC, eS] at h; exact h
  clear eH eL eC eS
  refine lv_aload_n hx hb dX0_ruleOf_0 rfl (lv_at hl 1 rfl) ?_
  refine lv_iconst (v := 0) hx hb dX0_ruleOf_1 (by decide) ?_
  obtain ⟨_, _, hO, hf⟩ := hf
  refine h_ki X hI (h_runV (As := [.int 0]) X hI (h_recv X hI hO (show jC.1[10]? = some (RX10, TX10, 2) from rfl)) (mhX10_number l Z D j Λ fr lo E p1 (0 : Int32) G _ hf H.size) (cwV 1 hts (lw_V q1872 q1873 q1874 q208 q1875) rfl rfl rfl (by decide +kernel) (by show fr + 1 + 1 ≤ fr + 2 ∧ 8 + (2 + 11) + (lo + 40) ≤ lo + 3200; omega)) rfl hl.1 (Nat.le_of_ble_eq_true rfl) dX0_ruleOf_2 ⟨hm0 hm.1, hm0 hm.2⟩ rfl) (fun x2 G1 H locs hf hI => ?_)
  clear hO
  refine lv_istore_n (lv' := [(2, .int x2), (0, .ref a0), (1, .ref p1)]) hx hb dX0_ruleOf_5 rfl hl (by decide) rfl (fun ls hl => ?_)
  refine lv_aload_n hx hb dX0_ruleOf_6 rfl (lv_at hl 2 rfl) ?_
  refine lv_iconst (v := 1) hx hb dX0_ruleOf_7 (by decide) ?_
  obtain ⟨_, _, hO, hf⟩ := hf
  refine h_ki X hI (h_runV (As := [.int 1]) X hI (h_recv X hI hO (show jC.1[10]? = some (RX10, TX10, 2) from rfl)) (mhX10_number l Z D j Λ fr lo E p1 (1 : Int32) G1 _ hf H.size) (cwV 1 hts (lw_V q1872 q1873 q1874 q208 q1875) rfl rfl rfl (by decide +kernel) (by show fr + 1 + 1 ≤ fr + 2 ∧ 8 + (2 + 11) + (lo + 40) ≤ lo + 3200; omega)) rfl hl.1 (Nat.le_of_ble_eq_true rfl) dX0_ruleOf_8 ⟨hm0 hm.1, hm0 hm.2⟩ rfl) (fun x4 G3 H locs hf hI => ?_)
  clear hO
  refine lv_istore_n (lv' := [(3, .int x4), (2, .int x2), (0, .ref a0), (1, .ref p1)]) hx hb dX0_ruleOf_11 rfl hl (by decide) rfl (fun ls hl => ?_)
  refine lv_aload_n hx hb dX0_ruleOf_12 rfl (lv_at hl 3 rfl) ?_
  refine lv_iconst (v := 2) hx hb dX0_ruleOf_13 (by decide) ?_
  obtain ⟨_, _, hO, hf⟩ := hf
  refine h_ki X hI (h_runV (As := [.int 2]) X hI (h_recv X hI hO (show jC.1[10]? = some (RX10, TX10, 2) from rfl)) (mhX10_number l Z D j Λ fr lo E p1 (2 : Int32) G3 _ hf H.size) (cwV 1 hts (lw_V q1872 q1873 q1874 q208 q1875) rfl rfl rfl (by decide +kernel) (by show fr + 1 + 1 ≤ fr + 2 ∧ 8 + (2 + 11) + (lo + 40) ≤ lo + 3200; omega)) rfl hl.1 (Nat.le_of_ble_eq_true rfl) dX0_ruleOf_14 ⟨hm0 hm.1, hm0 hm.2⟩ rfl) (fun x6 G5 H locs hf hI => ?_)
  clear hO
  refine lv_istore (lv' := [(4, .int x6), (3, .int x4), (2, .int x2), (0, .ref a0), (1, .ref p1)]) hx hb dX0_ruleOf_17 hl (by decide) rfl (fun ls hl => ?_)
  refine lv_aload_n hx hb dX0_ruleOf_19 rfl (lv_at hl 4 rfl) ?_
  refine lv_iconst (v := 3) hx hb dX0_ruleOf_20 (by decide) ?_
  obtain ⟨_, _, hO, hf⟩ := hf
  refine h_ki X hI (h_runV (As := [.int 3]) X hI (h_recv X hI hO (show jC.1[10]? = some (RX10, TX10, 2) from rfl)) (mhX10_number l Z D j Λ fr lo E p1 (3 : Int32) G5 _ hf H.size) (cwV 1 hts (lw_V q1872 q1873 q1874 q208 q1875) rfl rfl rfl (by decide +kernel) (by show fr + 1 + 1 ≤ fr + 2 ∧ 8 + (2 + 11) + (lo + 40) ≤ lo + 3200; omega)) rfl hl.1 (Nat.le_of_ble_eq_true rfl) dX0_ruleOf_21 ⟨hm0 hm.1, hm0 hm.2⟩ rfl) (fun x8 G7 H locs hf hI => ?_)
  clear hO
  refine lv_istore (lv' := [(5, .int x8), (4, .int x6), (3, .int x4), (2, .int x2), (0, .ref a0), (1, .ref p1)]) hx hb dX0_ruleOf_24 hl (by decide) rfl (fun ls hl => ?_)
  refine lv_aload_n hx hb dX0_ruleOf_26 rfl (lv_at hl 5 rfl) ?_
  refine hr_gtIN X hI (rfl : jC.1[10]? = some (RX10, TX10, 2)) in_X10 0 (Nat.le_of_ble_eq_true rfl) hf (E.nw X q1791 rfl) (fun _ h => h) dX0_ruleOf_27 (fun x9 hf => ?_)
  by_cases c10 : x9 = 0
  · refine x_swIn (tgt := 64) hx hb c10 dX0_ruleOf_30 (by decide) (by decide) rfl (by decide) ?_
    have hf := hf.1 c10
    refine lv_aload_n hx hb dX0_ruleOf_64 rfl (lv_at hl 4 rfl) ?_
    refine lv_iload_n hx hb dX0_ruleOf_65 rfl (lv_at hl 3 rfl) ?_
    refine lv_iload_n hx hb dX0_ruleOf_66 rfl (lv_at hl 2 rfl) ?_
    obtain ⟨hb1, hb2, hf⟩ := hf
    refine E.2.2.2.1 8 yX0_ruleOf 67 80 a0 [x2, x4] rfl (rest := []) X hI hnd hl.1 (Nat.le_of_ble_eq_true rfl) dX0_ruleOf_67 (by show 3200 ≤ lo + 3200; omega) (hmA hm.1 hb1) (hmA hm.2 hb2) hf (fun a11 G12 H hf hI => ?_)
    have hm := And.intro (hmB hm.1 hb1) (hmB hm.2 hb2)
    clear hb1 hb2
    exact hret (v := (some a11)) hf hI dX0_ruleOf_72 (hmC hm.1) (hmC hm.2)
  have hf := hf.2 c10
  by_cases c13 : x9 = 1
  · refine x_swIn (tgt := 73) hx hb c13 dX0_ruleOf_30 (by decide) (by decide) rfl (by decide) ?_
    have hf := hf.1 c13
    refine lv_aload_n hx hb dX0_ruleOf_73 rfl (lv_at hl 4 rfl) ?_
    refine lv_iload_n hx hb dX0_ruleOf_74 rfl (lv_at hl 3 rfl) ?_
    refine lv_iload_n hx hb dX0_ruleOf_75 rfl (lv_at hl 2 rfl) ?_
    obtain ⟨hb1, hb2, hf⟩ := hf
    refine E.2.2.2.1 9 yX0_ruleOf 76 84 a0 [x2, x4] rfl (rest := []) X hI hnd hl.1 (Nat.le_of_ble_eq_true rfl) dX0_ruleOf_76 (by show 3200 ≤ lo + 3200; omega) (hmA hm.1 hb1) (hmA hm.2 hb2) hf (fun a14 G15 H hf hI => ?_)
    have hm := And.intro (hmB hm.1 hb1) (hmB hm.2 hb2)
    clear hb1 hb2
    exact hret (v := (some a14)) hf hI dX0_ruleOf_81 (hmC hm.1) (hmC hm.2)
  have hf := hf.2 c13
  by_cases c16 : x9 = 2
  · refine x_swIn (tgt := 82) hx hb c16 dX0_ruleOf_30 (by decide) (by decide) rfl (by decide) ?_
    have hf := hf.1 c16
    refine lv_aload_n hx hb dX0_ruleOf_82 rfl (lv_at hl 4 rfl) ?_
    refine lv_iload_n hx hb dX0_ruleOf_83 rfl (lv_at hl 3 rfl) ?_
    refine lv_iload_n hx hb dX0_ruleOf_84 rfl (lv_at hl 2 rfl) ?_
    obtain ⟨hb1, hb2, hf⟩ := hf
    refine E.2.2.2.1 10 yX0_ruleOf 85 85 a0 [x2, x4] rfl (rest := []) X hI hnd hl.1 (Nat.le_of_ble_eq_true rfl) dX0_ruleOf_85 (by show 3200 ≤ lo + 3200; omega) (hmA hm.1 hb1) (hmA hm.2 hb2) hf (fun a17 G18 H hf hI => ?_)
    have hm := And.intro (hmB hm.1 hb1) (hmB hm.2 hb2)
    clear hb1 hb2
    exact hret (v := (some a17)) hf hI dX0_ruleOf_90 (hmC hm.1) (hmC hm.2)
  have hf := hf.2 c16
  by_cases c19 : x9 = 3
  · refine x_swIn (tgt := 91) hx hb c19 dX0_ruleOf_30 (by decide) (by decide) rfl (by decide) ?_
    have hf := hf.1 c19
    refine lv_aload_n hx hb dX0_ruleOf_91 rfl (lv_at hl 4 rfl) ?_
    refine lv_iload_n hx hb dX0_ruleOf_92 rfl (lv_at hl 3 rfl) ?_
    refine lv_iload_n hx hb dX0_ruleOf_93 rfl (lv_at hl 2 rfl) ?_
    refine lv_iload hx hb dX0_ruleOf_94 (lv_at hl 1 rfl) ?_
    obtain ⟨hb1, hb2, hf⟩ := hf
    refine E.2.2.2.1 11 yX0_ruleOf 96 86 a0 [x2, x4, x6] rfl (rest := []) X hI hnd hl.1 (Nat.le_of_ble_eq_true rfl) dX0_ruleOf_96 (by show 3200 ≤ lo + 3200; omega) (hmA hm.1 hb1) (hmA hm.2 hb2) hf (fun a20 G21 H hf hI => ?_)
    have hm := And.intro (hmB hm.1 hb1) (hmB hm.2 hb2)
    clear hb1 hb2
    exact hret (v := (some a20)) hf hI dX0_ruleOf_101 (hmC hm.1) (hmC hm.2)
  have hf := hf.2 c19
  by_cases c22 : x9 = 4
  · refine x_swIn (tgt := 102) hx hb c22 dX0_ruleOf_30 (by decide) (by decide) rfl (by decide) ?_
    have hf := hf.1 c22
    refine lv_aload_n hx hb dX0_ruleOf_102 rfl (lv_at hl 4 rfl) ?_
    refine lv_iload_n hx hb dX0_ruleOf_103 rfl (lv_at hl 3 rfl) ?_
    refine lv_iload_n hx hb dX0_ruleOf_104 rfl (lv_at hl 2 rfl) ?_
    obtain ⟨hb1, hb2, hf⟩ := hf
    refine E.2.2.2.1 12 yX0_ruleOf 105 89 a0 [x2, x4] rfl (rest := []) X hI hnd hl.1 (Nat.le_of_ble_eq_true rfl) dX0_ruleOf_105 (by show 3200 ≤ lo + 3200; omega) (hmA hm.1 hb1) (hmA hm.2 hb2) hf (fun a23 G24 H hf hI => ?_)
    have hm := And.intro (hmB hm.1 hb1) (hmB hm.2 hb2)
    clear hb1 hb2
    exact hret (v := (some a23)) hf hI dX0_ruleOf_110 (hmC hm.1) (hmC hm.2)
  have hf := hf.2 c22
  refine lv_tableOut (tgt := 111) hx hb dX0_ruleOf_30 (by have t0 := lv_neT c10 (show (0 : Int32).toInt = 0 from rfl); have t1 := lv_neT c13 (show (1 : Int32).toInt = 1 from rfl); have t2 := lv_neT c16 (show (2 : Int32).toInt = 2 from rfl); have t3 := lv_neT c19 (show (3 : Int32).toInt = 3 from rfl); have t4 := lv_neT c22 (show (4 : Int32).toInt = 4 from rfl); omega) (by decide) ?_
  refine lv_aload_n hx hb dX0_ruleOf_111 rfl (lv_at hl 4 rfl) ?_
  refine lv_iload_n hx hb dX0_ruleOf_112 rfl (lv_at hl 3 rfl) ?_
  refine lv_iload_n hx hb dX0_ruleOf_113 rfl (lv_at hl 2 rfl) ?_
  refine lv_iload hx hb dX0_ruleOf_114 (lv_at hl 1 rfl) ?_
  refine lv_iload hx hb dX0_ruleOf_116 (lv_at hl 0 rfl) ?_
  obtain ⟨hb1, hb2, hf⟩ := hf
  refine E.2.2.2.1 13 yX0_ruleOf 118 90 a0 [x2, x4, x6, x8] rfl (rest := []) X hI hnd hl.1 (Nat.le_of_ble_eq_true rfl) dX0_ruleOf_118 (by show 3200 ≤ lo + 3200; omega) (hmA hm.1 hb1) (hmA hm.2 hb2) hf (fun a25 G26 H hf hI => ?_)
  have hm := And.intro (hmB hm.1 hb1) (hmB hm.2 hb2)
  clear hb1 hb2
  exact hret (v := (some a25)) hf hI dX0_ruleOf_123 (hmC hm.1) (hmC hm.2)
/-! MergeJudge$Ruling.<init>(LMergeJudge$Rule;)V -/
def hX11_init (j : JX) (Λ : JLam) (a0 : Nat) (p1 : Nat) (G : HG) (post : HG → Prop) : Prop :=
  ptV G a0 11 0 (.ref p1) fun G1 => post G1
abbrev rhX11_init (fr lo : Nat) : Room := { frames := fr + 1, cells := 0, slots := 0, locals := lo + 40 }
theorem mhX11_init (l : Launch) (Z : (Nat → Prop) → State → Heap → Prop) (D : va_G) (j : JX) (Λ : JLam) (fr lo : Nat) (E : JE l Z D j Λ fr lo) (a0 : Nat) (p1 : Nat) (G : HG) (post : HG → Prop) (hf : hX11_init j Λ a0 p1 G post) : HMv l yX11_init (ws_ yX11_init cX11_init 2 none) (rhX11_init fr lo) D jC (jty j.1) Z G [.ref a0, .ref p1] post 0 0 := by
  refine h_openv E.1 (by decide) (by exact Nat.le_of_ble_eq_true rfl) (fun p e s m args below meth c ls A0 Q X hI hnd hnm hl hret => ?_)
  have X : XC p s m args meth c cX11_init 2 RX11 D jC (jty j.1) A0 Z := X
  have hx := X.1
  have hb := X.2.1
  have hown := X.2.2.2.1
  have hts := X.2.2.2.2.1
  have hl : lv_has ls 2 [(0, .ref a0), (1, .ref p1)] := by exact hl
  unfold hX11_init at hf
  obtain ⟨H, eH⟩ : ∃ H, H = s.heap := ⟨_, rfl⟩
  obtain ⟨locs, eL⟩ : ∃ locs : List Loc, locs = [] := ⟨_, rfl⟩
  have hI : HI D jC G A0 s.heap H locs := by rw [eH, eL]; exact hI
  rw [← eL]
  suffices h : W p l e (rhX11_init fr lo) s m args below meth c H locs 0 0 Q (F0 m 0 ls []) by rw [eH] at h; exact h
  clear eH eL
  refine lv_aload_n hx hb dX11_init_0 rfl (lv_at hl 0 rfl) ?_
  refine W.objInit hx hb hown (hts _ q1905) (hts _ q247) (hts _ q248) rfl (by rw [X.2.2.1]; exact hl.1) rfl dX11_init_1 (by show 1 ≤ fr + 1; omega) (Nat.le_trans (m := 40) (Nat.le_of_ble_eq_true rfl) (by show 40 ≤ lo + 40; omega)) ?_
  show W p l e _ s m args below meth c H locs _ _ Q (F0 m 4 ls [])
  refine lv_aload_n hx hb dX11_init_4 rfl (lv_at hl 0 rfl) ?_
  refine lv_aload_n hx hb dX11_init_5 rfl (lv_at hl 1 rfl) ?_
  refine hr_ptF X hI (rfl : jC.1[11]? = some (RX11, TX11, 1)) in_X11 0 (Nat.le_of_ble_eq_true rfl) tyX11 tyX11_ok nmX11 hf q1906 (fun _ h => h) rfl hnm rfl rfl rfl dX11_init_6 (fun G1 H locs hf hI => ?_)
  exact hret hf hI dX11_init_9 (Nat.le_refl _) (Nat.le_refl _)
/-! MergeJudge.stepOf(LMergeJudge$Told;)LMergeJudge$Step; -/
def hX0_stepOf (j : JX) (Λ : JLam) (a0 : Nat) (p1 : Nat) (mc ms : Nat) (G : HG) (post : Option Nat → HG → Prop) : Prop :=
  isO G p1 10 (hX10_number j Λ p1 (0 : Int32) G fun x2 G1 => isO G1 p1 10 (hX10_number j Λ p1 (1 : Int32) G1 fun x4 G3 => isO G3 p1 10 (hX10_number j Λ p1 (2 : Int32) G3 fun x6 G5 => gtI G5 p1 10 0 fun x7 => (x7 = 0 → (1 ≤ mc ∧ 3 ≤ ms ∧ mkO G5 (.inr (37, .ref a0 :: ([x2, x4] : List Int32).map .int)) fun a9 G10 => post (some a9) G10)) ∧ (¬ x7 = 0 → ((x7 = 1 → (1 ≤ mc ∧ 3 ≤ ms ∧ mkO G5 (.inr (38, .ref a0 :: ([x2, x4] : List Int32).map .int)) fun a12 G13 => post (some a12) G13)) ∧ (¬ x7 = 1 → ((x7 = 2 → (1 ≤ mc ∧ 3 ≤ ms ∧ mkO G5 (.inr (39, .ref a0 :: ([x2, x4] : List Int32).map .int)) fun a15 G16 => post (some a15) G16)) ∧ (¬ x7 = 2 → (1 ≤ mc ∧ 4 ≤ ms ∧ mkO G5 (.inr (40, .ref a0 :: ([x2, x6, x4] : List Int32).map .int)) fun a17 G18 => post (some a17) G18)))))))))
abbrev rhX0_stepOf (fr lo mc ms : Nat) : Room := { frames := fr + 2, cells := mc, slots := ms, locals := lo + 3200 }
theorem mhX0_stepOf (l : Launch) (Z : (Nat → Prop) → State → Heap → Prop) (D : va_G) (j : JX) (Λ : JLam) (fr lo : Nat) (E : JE l Z D j Λ fr lo) (a0 : Nat) (p1 : Nat) (mc ms : Nat) (G : HG) (post : Option Nat → HG → Prop) (hf : hX0_stepOf j Λ a0 p1 mc ms G post) : HMq l yX0_stepOf (ws_ yX0_stepOf cX0_stepOf 5 (some (.object "MergeJudge$Step"))) (rhX0_stepOf fr lo mc ms) D jC (jty j.1) Z G [.ref a0, .ref p1] post mc ms := by
  obtain ⟨MC, eMC⟩ : ∃ MC, MC = mc := ⟨_, rfl⟩
  obtain ⟨MS, eMS⟩ : ∃ MS, MS = ms := ⟨_, rfl⟩
  suffices goal : HMq l yX0_stepOf (ws_ yX0_stepOf cX0_stepOf 5 (some (.object "MergeJudge$Step"))) (rhX0_stepOf fr lo MC MS) D jC (jty j.1) Z G [.ref a0, .ref p1] post MC MS by rw [eMC, eMS] at goal; exact goal
  have hm0_ : 0 + mc ≤ MC ∧ 0 + ms ≤ MS := by omega
  clear eMC eMS
  refine h_openq (Or.inl ⟨_, rfl⟩) E.1 (by decide) (by exact Nat.le_of_ble_eq_true rfl) (fun p e s m args below meth c ls A0 Q X hI hnd hnm hl hret => ?_)
  have X : XC p s m args meth c cX0_stepOf 5 RX0 D jC (jty j.1) A0 Z := X
  have hx := X.1
  have hb := X.2.1
  have hown := X.2.2.2.1
  have hts := X.2.2.2.2.1
  have hl : lv_has ls 5 [(0, .ref a0), (1, .ref p1)] := by exact hl
  unfold hX0_stepOf at hf
  obtain ⟨H, eH⟩ : ∃ H, H = s.heap := ⟨_, rfl⟩
  obtain ⟨locs, eL⟩ : ∃ locs : List Loc, locs = [] := ⟨_, rfl⟩
  have hI : HI D jC G A0 s.heap H locs := by rw [eH, eL]; exact hI
  rw [← eL]
  obtain ⟨cells, eC⟩ : ∃ n : Nat, n = 0 := ⟨_, rfl⟩
  obtain ⟨slots, eS⟩ : ∃ n : Nat, n = 0 := ⟨_, rfl⟩
  have hm : cells + mc ≤ MC ∧ slots + ms ≤ MS := by rw [eC, eS]; exact hm0_
  suffices h : W p l e (rhX0_stepOf fr lo MC MS) s m args below meth c H locs cells slots Q (F0 m 0 ls []) by rw [eH, eC, eS] at h; exact h
  clear eH eL eC eS
  refine lv_aload_n hx hb dX0_stepOf_0 rfl (lv_at hl 1 rfl) ?_
  refine lv_iconst (v := 0) hx hb dX0_stepOf_1 (by decide) ?_
  obtain ⟨_, _, hO, hf⟩ := hf
  refine h_ki X hI (h_runV (As := [.int 0]) X hI (h_recv X hI hO (show jC.1[10]? = some (RX10, TX10, 2) from rfl)) (mhX10_number l Z D j Λ fr lo E p1 (0 : Int32) G _ hf H.size) (cwV 1 hts (lw_V q1872 q1873 q1874 q208 q1875) rfl rfl rfl (by decide +kernel) (by show fr + 1 + 1 ≤ fr + 2 ∧ 8 + (2 + 11) + (lo + 40) ≤ lo + 3200; omega)) rfl hl.1 (Nat.le_of_ble_eq_true rfl) dX0_stepOf_2 ⟨hm0 hm.1, hm0 hm.2⟩ rfl) (fun x2 G1 H locs hf hI => ?_)
  clear hO
  refine lv_istore_n (lv' := [(2, .int x2), (0, .ref a0), (1, .ref p1)]) hx hb dX0_stepOf_5 rfl hl (by decide) rfl (fun ls hl => ?_)
  refine lv_aload_n hx hb dX0_stepOf_6 rfl (lv_at hl 2 rfl) ?_
  refine lv_iconst (v := 1) hx hb dX0_stepOf_7 (by decide) ?_
  obtain ⟨_, _, hO, hf⟩ := hf
  refine h_ki X hI (h_runV (As := [.int 1]) X hI (h_recv X hI hO (show jC.1[10]? = some (RX10, TX10, 2) from rfl)) (mhX10_number l Z D j Λ fr lo E p1 (1 : Int32) G1 _ hf H.size) (cwV 1 hts (lw_V q1872 q1873 q1874 q208 q1875) rfl rfl rfl (by decide +kernel) (by show fr + 1 + 1 ≤ fr + 2 ∧ 8 + (2 + 11) + (lo + 40) ≤ lo + 3200; omega)) rfl hl.1 (Nat.le_of_ble_eq_true rfl) dX0_stepOf_8 ⟨hm0 hm.1, hm0 hm.2⟩ rfl) (fun x4 G3 H locs hf hI => ?_)
  clear hO
  refine lv_istore_n (lv' := [(3, .int x4), (2, .int x2), (0, .ref a0), (1, .ref p1)]) hx hb dX0_stepOf_11 rfl hl (by decide) rfl (fun ls hl => ?_)
  refine lv_aload_n hx hb dX0_stepOf_12 rfl (lv_at hl 3 rfl) ?_
  refine lv_iconst (v := 2) hx hb dX0_stepOf_13 (by decide) ?_
  obtain ⟨_, _, hO, hf⟩ := hf
  refine h_ki X hI (h_runV (As := [.int 2]) X hI (h_recv X hI hO (show jC.1[10]? = some (RX10, TX10, 2) from rfl)) (mhX10_number l Z D j Λ fr lo E p1 (2 : Int32) G3 _ hf H.size) (cwV 1 hts (lw_V q1872 q1873 q1874 q208 q1875) rfl rfl rfl (by decide +kernel) (by show fr + 1 + 1 ≤ fr + 2 ∧ 8 + (2 + 11) + (lo + 40) ≤ lo + 3200; omega)) rfl hl.1 (Nat.le_of_ble_eq_true rfl) dX0_stepOf_14 ⟨hm0 hm.1, hm0 hm.2⟩ rfl) (fun x6 G5 H locs hf hI => ?_)
  clear hO
  refine lv_istore (lv' := [(4, .int x6), (3, .int x4), (2, .int x2), (0, .ref a0), (1, .ref p1)]) hx hb dX0_stepOf_17 hl (by decide) rfl (fun ls hl => ?_)
  refine lv_aload_n hx hb dX0_stepOf_19 rfl (lv_at hl 4 rfl) ?_
  refine hr_gtIN X hI (rfl : jC.1[10]? = some (RX10, TX10, 2)) in_X10 0 (Nat.le_of_ble_eq_true rfl) hf (E.nw X q1791 rfl) (fun _ h => h) dX0_stepOf_20 (fun x7 hf => ?_)
  by_cases c8 : x7 = 0
  · refine x_swIn (tgt := 48) hx hb c8 dX0_stepOf_23 (by decide) (by decide) rfl (by decide) ?_
    have hf := hf.1 c8
    refine lv_aload_n hx hb dX0_stepOf_48 rfl (lv_at hl 3 rfl) ?_
    refine lv_iload_n hx hb dX0_stepOf_49 rfl (lv_at hl 2 rfl) ?_
    refine lv_iload_n hx hb dX0_stepOf_50 rfl (lv_at hl 1 rfl) ?_
    obtain ⟨hb1, hb2, hf⟩ := hf
    refine E.2.2.2.1 14 yX0_stepOf 51 93 a0 [x2, x4] rfl (rest := []) X hI hnd hl.1 (Nat.le_of_ble_eq_true rfl) dX0_stepOf_51 (by show 3200 ≤ lo + 3200; omega) (hmA hm.1 hb1) (hmA hm.2 hb2) hf (fun a9 G10 H hf hI => ?_)
    have hm := And.intro (hmB hm.1 hb1) (hmB hm.2 hb2)
    clear hb1 hb2
    exact hret (v := (some a9)) hf hI dX0_stepOf_56 (hmC hm.1) (hmC hm.2)
  have hf := hf.2 c8
  by_cases c11 : x7 = 1
  · refine x_swIn (tgt := 57) hx hb c11 dX0_stepOf_23 (by decide) (by decide) rfl (by decide) ?_
    have hf := hf.1 c11
    refine lv_aload_n hx hb dX0_stepOf_57 rfl (lv_at hl 3 rfl) ?_
    refine lv_iload_n hx hb dX0_stepOf_58 rfl (lv_at hl 2 rfl) ?_
    refine lv_iload_n hx hb dX0_stepOf_59 rfl (lv_at hl 1 rfl) ?_
    obtain ⟨hb1, hb2, hf⟩ := hf
    refine E.2.2.2.1 15 yX0_stepOf 60 97 a0 [x2, x4] rfl (rest := []) X hI hnd hl.1 (Nat.le_of_ble_eq_true rfl) dX0_stepOf_60 (by show 3200 ≤ lo + 3200; omega) (hmA hm.1 hb1) (hmA hm.2 hb2) hf (fun a12 G13 H hf hI => ?_)
    have hm := And.intro (hmB hm.1 hb1) (hmB hm.2 hb2)
    clear hb1 hb2
    exact hret (v := (some a12)) hf hI dX0_stepOf_65 (hmC hm.1) (hmC hm.2)
  have hf := hf.2 c11
  by_cases c14 : x7 = 2
  · refine x_swIn (tgt := 66) hx hb c14 dX0_stepOf_23 (by decide) (by decide) rfl (by decide) ?_
    have hf := hf.1 c14
    refine lv_aload_n hx hb dX0_stepOf_66 rfl (lv_at hl 3 rfl) ?_
    refine lv_iload_n hx hb dX0_stepOf_67 rfl (lv_at hl 2 rfl) ?_
    refine lv_iload_n hx hb dX0_stepOf_68 rfl (lv_at hl 1 rfl) ?_
    obtain ⟨hb1, hb2, hf⟩ := hf
    refine E.2.2.2.1 16 yX0_stepOf 69 98 a0 [x2, x4] rfl (rest := []) X hI hnd hl.1 (Nat.le_of_ble_eq_true rfl) dX0_stepOf_69 (by show 3200 ≤ lo + 3200; omega) (hmA hm.1 hb1) (hmA hm.2 hb2) hf (fun a15 G16 H hf hI => ?_)
    have hm := And.intro (hmB hm.1 hb1) (hmB hm.2 hb2)
    clear hb1 hb2
    exact hret (v := (some a15)) hf hI dX0_stepOf_74 (hmC hm.1) (hmC hm.2)
  have hf := hf.2 c14
  refine lv_tableOut (tgt := 75) hx hb dX0_stepOf_23 (by have t0 := lv_neT c8 (show (0 : Int32).toInt = 0 from rfl); have t1 := lv_neT c11 (show (1 : Int32).toInt = 1 from rfl); have t2 := lv_neT c14 (show (2 : Int32).toInt = 2 from rfl); omega) (by decide) ?_
  refine lv_aload_n hx hb dX0_stepOf_75 rfl (lv_at hl 3 rfl) ?_
  refine lv_iload_n hx hb dX0_stepOf_76 rfl (lv_at hl 2 rfl) ?_
  refine lv_iload hx hb dX0_stepOf_77 (lv_at hl 0 rfl) ?_
  refine lv_iload_n hx hb dX0_stepOf_79 rfl (lv_at hl 1 rfl) ?_
  obtain ⟨hb1, hb2, hf⟩ := hf
  refine E.2.2.2.1 17 yX0_stepOf 80 99 a0 [x2, x6, x4] rfl (rest := []) X hI hnd hl.1 (Nat.le_of_ble_eq_true rfl) dX0_stepOf_80 (by show 3200 ≤ lo + 3200; omega) (hmA hm.1 hb1) (hmA hm.2 hb2) hf (fun a17 G18 H hf hI => ?_)
  have hm := And.intro (hmB hm.1 hb1) (hmB hm.2 hb2)
  clear hb1 hb2
  exact hret (v := (some a17)) hf hI dX0_stepOf_85 (hmC hm.1) (hmC hm.2)
/-! MergeJudge$Stepping.<init>(LMergeJudge$Step;)V -/
def hX12_init (j : JX) (Λ : JLam) (a0 : Nat) (p1 : Nat) (G : HG) (post : HG → Prop) : Prop :=
  ptV G a0 12 0 (.ref p1) fun G1 => post G1
abbrev rhX12_init (fr lo : Nat) : Room := { frames := fr + 1, cells := 0, slots := 0, locals := lo + 40 }
theorem mhX12_init (l : Launch) (Z : (Nat → Prop) → State → Heap → Prop) (D : va_G) (j : JX) (Λ : JLam) (fr lo : Nat) (E : JE l Z D j Λ fr lo) (a0 : Nat) (p1 : Nat) (G : HG) (post : HG → Prop) (hf : hX12_init j Λ a0 p1 G post) : HMv l yX12_init (ws_ yX12_init cX12_init 2 none) (rhX12_init fr lo) D jC (jty j.1) Z G [.ref a0, .ref p1] post 0 0 := by
  refine h_openv E.1 (by decide) (by exact Nat.le_of_ble_eq_true rfl) (fun p e s m args below meth c ls A0 Q X hI hnd hnm hl hret => ?_)
  have X : XC p s m args meth c cX12_init 2 RX12 D jC (jty j.1) A0 Z := X
  have hx := X.1
  have hb := X.2.1
  have hown := X.2.2.2.1
  have hts := X.2.2.2.2.1
  have hl : lv_has ls 2 [(0, .ref a0), (1, .ref p1)] := by exact hl
  unfold hX12_init at hf
  obtain ⟨H, eH⟩ : ∃ H, H = s.heap := ⟨_, rfl⟩
  obtain ⟨locs, eL⟩ : ∃ locs : List Loc, locs = [] := ⟨_, rfl⟩
  have hI : HI D jC G A0 s.heap H locs := by rw [eH, eL]; exact hI
  rw [← eL]
  suffices h : W p l e (rhX12_init fr lo) s m args below meth c H locs 0 0 Q (F0 m 0 ls []) by rw [eH] at h; exact h
  clear eH eL
  refine lv_aload_n hx hb dX12_init_0 rfl (lv_at hl 0 rfl) ?_
  refine W.objInit hx hb hown (hts _ q1935) (hts _ q247) (hts _ q248) rfl (by rw [X.2.2.1]; exact hl.1) rfl dX12_init_1 (by show 1 ≤ fr + 1; omega) (Nat.le_trans (m := 40) (Nat.le_of_ble_eq_true rfl) (by show 40 ≤ lo + 40; omega)) ?_
  show W p l e _ s m args below meth c H locs _ _ Q (F0 m 4 ls [])
  refine lv_aload_n hx hb dX12_init_4 rfl (lv_at hl 0 rfl) ?_
  refine lv_aload_n hx hb dX12_init_5 rfl (lv_at hl 1 rfl) ?_
  refine hr_ptF X hI (rfl : jC.1[12]? = some (RX12, TX12, 1)) in_X12 0 (Nat.le_of_ble_eq_true rfl) tyX12 tyX12_ok nmX12 hf q1936 (fun _ h => h) rfl hnm rfl rfl rfl dX12_init_6 (fun G1 H locs hf hI => ?_)
  exact hret hf hI dX12_init_9 (Nat.le_refl _) (Nat.le_refl _)
/-! MergeJudge.states0()I -/
def hX0_states0_b4 (j : JX) (Λ : JLam) (a0 : Nat) (post : Int32 → HG → Prop) (K4 : Int32 → Int32 → HG → Prop) (lx1 : Int32) (lx2 : Int32) (G : HG) : Prop :=
  gtQ G a0 0 1 fun q1 => nnq q1 fun a2 => gtI G a2 2 7 fun x3 => (x3 ≤ lx2 → (post lx1 G)) ∧ (¬ x3 ≤ lx2 → (gtQ G a0 0 1 fun q5 => nnq q5 fun a6 => gtI G a6 2 4 fun x7 => K4 (lx1 * (x7 + 1)) (lx2 + 1) G))
def hX0_states0_l4 (j : JX) (Λ : JLam) (a0 : Nat) (post : Int32 → HG → Prop) : Nat → Int32 → Int32 → HG → Prop
  | 0 => fun _ _ _ => False
  | n + 1 => fun lx1 lx2 G => hX0_states0_b4 j Λ a0 post (hX0_states0_l4 j Λ a0 post n) lx1 lx2 G
def hX0_states0 (j : JX) (Λ : JLam) (a0 : Nat) (G : HG) (post : Int32 → HG → Prop) : Prop :=
  ∃ n, hX0_states0_l4 j Λ a0 post n (1 : Int32) (0 : Int32) G
abbrev rhX0_states0 (fr lo : Nat) : Room := { frames := fr + 1, cells := 0, slots := 0, locals := lo + 40 }
theorem mhX0_states0 (l : Launch) (Z : (Nat → Prop) → State → Heap → Prop) (D : va_G) (j : JX) (Λ : JLam) (fr lo : Nat) (E : JE l Z D j Λ fr lo) (a0 : Nat) (G : HG) (post : Int32 → HG → Prop) (hf : hX0_states0 j Λ a0 G post) : HMi l yX0_states0 (ws_ yX0_states0 cX0_states0 3 (some .int)) (rhX0_states0 fr lo) D jC (jty j.1) Z G [.ref a0] post 0 0 := by
  refine h_openi E.1 (by decide) (by exact Nat.le_of_ble_eq_true rfl) (fun p e s m args below meth c ls A0 Q X hI hnd hnm hl hret => ?_)
  have X : XC p s m args meth c cX0_states0 3 RX0 D jC (jty j.1) A0 Z := X
  have hx := X.1
  have hb := X.2.1
  have hown := X.2.2.2.1
  have hts := X.2.2.2.2.1
  have L4 : ∀ (n : Nat) (lx1 : Int32) (lx2 : Int32) (G : HG), hX0_states0_l4 j Λ a0 post n lx1 lx2 G → ∀ (H : Heap) (locs : List Loc), HI D jC G A0 s.heap H locs → ∀ (ls : Array Slot), lv_has ls 3 [(0, .ref a0), (1, .int lx1), (2, .int lx2)] → W p l e (rhX0_states0 fr lo) s m args below meth c H locs 0 0 Q (F0 m 4 ls []) := by
    intro n4
    induction n4 with
    | zero => intro lx1 lx2 G hf; exact hf.elim
    | succ n4 ih4 =>
      intro lx1 lx2 G hf H locs hI ls hl
      have hf : hX0_states0_b4 j Λ a0 post (hX0_states0_l4 j Λ a0 post n4) lx1 lx2 G := hf
      unfold hX0_states0_b4 at hf
      refine lv_iload_n hx hb dX0_states0_4 rfl (lv_at hl 2 rfl) ?_
      refine lv_aload_n hx hb dX0_states0_5 rfl (lv_at hl 0 rfl) ?_
      refine hr_gtQ X hI (rfl : jC.1[0]? = some (RX0, TX0, 20)) in_X0 1 (Nat.le_of_ble_eq_true rfl) hf q653 (fun _ h => h) dX0_states0_6 (fun q1 hf => ?_)
      obtain ⟨a2, ea2, hf⟩ := hf
      revert hl hf
      subst ea2
      intro hl hf
      have hl : lv_has ls 3 [(0, .ref a0), (1, .int lx1), (2, .int lx2)] := hl
      refine hr_gtIN X hI (rfl : jC.1[2]? = some (RX2, TX2, 11)) in_X2 7 (Nat.le_of_ble_eq_true rfl) hf (E.nw X q500 rfl) (fun _ h => h) dX0_states0_9 (fun x3 hf => ?_)
      refine lv_icmp_ge (tgt := 33) hx hb dX0_states0_12 (by decide) (fun c4 => ?_) (fun c4 => ?_)
      · have hf := hf.1 c4
        refine lv_iload_n hx hb dX0_states0_33 rfl (lv_at hl 1 rfl) ?_
        exact hret hf hI dX0_states0_34 (Nat.le_refl _) (Nat.le_refl _)
      · have hf := hf.2 c4
        refine lv_iload_n hx hb dX0_states0_15 rfl (lv_at hl 1 rfl) ?_
        refine lv_aload_n hx hb dX0_states0_16 rfl (lv_at hl 0 rfl) ?_
        refine hr_gtQ X hI (rfl : jC.1[0]? = some (RX0, TX0, 20)) in_X0 1 (Nat.le_of_ble_eq_true rfl) hf q653 (fun _ h => h) dX0_states0_17 (fun q5 hf => ?_)
        obtain ⟨a6, ea6, hf⟩ := hf
        revert hl hf
        subst ea6
        intro hl hf
        have hl : lv_has ls 3 [(0, .ref a0), (1, .int lx1), (2, .int lx2)] := hl
        refine hr_gtIN X hI (rfl : jC.1[2]? = some (RX2, TX2, 11)) in_X2 4 (Nat.le_of_ble_eq_true rfl) hf (E.nw X q490 rfl) (fun _ h => h) dX0_states0_20 (fun x7 hf => ?_)
        refine lv_iconst (v := 1) hx hb dX0_states0_23 (by decide) ?_
        refine lv_iadd hx hb dX0_states0_24 ?_
        refine lv_imul hx hb dX0_states0_25 ?_
        refine lv_istore_n (lv' := [(1, .int (lx1 * (x7 + 1))), (0, .ref a0), (2, .int lx2)]) hx hb dX0_states0_26 rfl hl (by decide) rfl (fun ls hl => ?_)
        refine lv_iinc (v := lx2 + 1) (lv' := [(2, .int (lx2 + 1)), (1, .int (lx1 * (x7 + 1))), (0, .ref a0)]) hx hb dX0_states0_27 hl (k := 2) rfl rfl (by decide) rfl (fun ls hl => ?_)
        refine lv_goto (tgt := 4) hx hb dX0_states0_30 (by decide) ?_
        exact ih4 (lx1 * (x7 + 1)) (lx2 + 1) G hf H locs hI ls (lv_sub hl [2, 1, 0] rfl)
  have hl : lv_has ls 3 [(0, .ref a0)] := by exact hl
  unfold hX0_states0 at hf
  obtain ⟨H, eH⟩ : ∃ H, H = s.heap := ⟨_, rfl⟩
  obtain ⟨locs, eL⟩ : ∃ locs : List Loc, locs = [] := ⟨_, rfl⟩
  have hI : HI D jC G A0 s.heap H locs := by rw [eH, eL]; exact hI
  rw [← eL]
  suffices h : W p l e (rhX0_states0 fr lo) s m args below meth c H locs 0 0 Q (F0 m 0 ls []) by rw [eH] at h; exact h
  clear eH eL
  refine lv_iconst (v := 1) hx hb dX0_states0_0 (by decide) ?_
  refine lv_istore_n (lv' := [(1, .int 1), (0, .ref a0)]) hx hb dX0_states0_1 rfl hl (by decide) rfl (fun ls hl => ?_)
  refine lv_iconst (v := 0) hx hb dX0_states0_2 (by decide) ?_
  refine lv_istore_n (lv' := [(2, .int 0), (1, .int 1), (0, .ref a0)]) hx hb dX0_states0_3 rfl hl (by decide) rfl (fun ls hl => ?_)
  obtain ⟨n, hf⟩ := hf
  exact L4 n (1 : Int32) (0 : Int32) G hf H locs hI ls (lv_sub hl [2, 1, 0] rfl)
/-! MergeJudge.isOn(II)Z -/
def hX0_isOn (j : JX) (Λ : JLam) (p0 : Int32) (p1 : Int32) (G : HG) (post : Int32 → HG → Prop) : Prop :=
  (((p0 >>> (p1 &&& 31)) &&& 1) = (1 : Int32) → (post (1 : Int32) G)) ∧ (¬ ((p0 >>> (p1 &&& 31)) &&& 1) = (1 : Int32) → (post (0 : Int32) G))
abbrev rhX0_isOn (fr lo : Nat) : Room := { frames := fr + 1, cells := 0, slots := 0, locals := lo + 40 }
theorem mhX0_isOn (l : Launch) (Z : (Nat → Prop) → State → Heap → Prop) (D : va_G) (j : JX) (Λ : JLam) (fr lo : Nat) (E : JE l Z D j Λ fr lo) (p0 : Int32) (p1 : Int32) (G : HG) (post : Int32 → HG → Prop) (hf : hX0_isOn j Λ p0 p1 G post) : HMi l yX0_isOn (ws_ yX0_isOn cX0_isOn 2 (some .boolean)) (rhX0_isOn fr lo) D jC (jty j.1) Z G [.int p0, .int p1] post 0 0 := by
  refine h_openz E.1 (by decide) (by exact Nat.le_of_ble_eq_true rfl) (fun p e s m args below meth c ls A0 Q X hI hnd hnm hl hret => ?_)
  have X : XC p s m args meth c cX0_isOn 2 RX0 D jC (jty j.1) A0 Z := X
  have hx := X.1
  have hb := X.2.1
  have hown := X.2.2.2.1
  have hts := X.2.2.2.2.1
  have hl : lv_has ls 2 [(0, .int p0), (1, .int p1)] := by exact hl
  unfold hX0_isOn at hf
  obtain ⟨H, eH⟩ : ∃ H, H = s.heap := ⟨_, rfl⟩
  obtain ⟨locs, eL⟩ : ∃ locs : List Loc, locs = [] := ⟨_, rfl⟩
  have hI : HI D jC G A0 s.heap H locs := by rw [eH, eL]; exact hI
  rw [← eL]
  suffices h : W p l e (rhX0_isOn fr lo) s m args below meth c H locs 0 0 Q (F0 m 0 ls []) by rw [eH] at h; exact h
  clear eH eL
  refine lv_iload_n hx hb dX0_isOn_0 rfl (lv_at hl 0 rfl) ?_
  refine lv_iload_n hx hb dX0_isOn_1 rfl (lv_at hl 1 rfl) ?_
  refine lv_ishr hx hb dX0_isOn_2 ?_
  refine lv_iconst (v := 1) hx hb dX0_isOn_3 (by decide) ?_
  refine lv_iand hx hb dX0_isOn_4 ?_
  refine lv_iconst (v := 1) hx hb dX0_isOn_5 (by decide) ?_
  refine lv_icmp_ne (tgt := 13) hx hb dX0_isOn_6 (by decide) (fun c1 => ?_) (fun c1 => ?_)
  · have hf := hf.2 c1
    refine lv_iconst (v := 0) hx hb dX0_isOn_13 (by decide) ?_
    exact hret rfl hf hI dX0_isOn_14 (Nat.le_refl _) (Nat.le_refl _)
  · have hf := hf.1 c1
    refine lv_iconst (v := 1) hx hb dX0_isOn_9 (by decide) ?_
    refine lv_goto (tgt := 14) hx hb dX0_isOn_10 (by decide) ?_
    exact hret rfl hf hI dX0_isOn_14 (Nat.le_refl _) (Nat.le_refl _)
/-! MergeJudge.breaksIn(I)I -/
def hX0_breaksIn_b49 (j : JX) (Λ : JLam) (a0 : Nat) (p1 : Int32) (post : Int32 → HG → Prop) (K2 : Int32 → HG → Prop) (lx2 : Int32) (G : HG) : Prop :=
  K2 (lx2 + 1) G
def hX0_breaksIn_b2 (j : JX) (Λ : JLam) (a0 : Nat) (p1 : Int32) (post : Int32 → HG → Prop) (K2 : Int32 → HG → Prop) (lx2 : Int32) (G : HG) : Prop :=
  gtQ G a0 0 1 fun q1 => nnq q1 fun a2 => gtQ G a2 2 0 fun q3 => nnq q3 fun a4 => isO G a4 15 (hJ2_size j Λ a4 G fun x6 G5 => (x6 ≤ lx2 → (post ((-1) : Int32) G5)) ∧ (¬ x6 ≤ lx2 → (gtI G5 a0 0 12 fun x8 => hX0_isOn j Λ x8 lx2 G5 fun x10 G9 => (x10 = 0 → (gtQ G9 a0 0 9 fun q12 => nnq q12 fun a13 => ldQ (jty j.1) G9 a13 lx2 fun q14 => nnq q14 fun a15 => gtQ G9 a15 11 0 fun q16 => nnq q16 fun a17 => Λ.2.1 a17 p1 G9 fun x19 G18 => (x19 = 0 → (post lx2 G18)) ∧ (¬ x19 = 0 → (hX0_breaksIn_b49 j Λ a0 p1 post K2 lx2 G18)))) ∧ (¬ x10 = 0 → (hX0_breaksIn_b49 j Λ a0 p1 post K2 lx2 G9)))))
def hX0_breaksIn_l2 (j : JX) (Λ : JLam) (a0 : Nat) (p1 : Int32) (post : Int32 → HG → Prop) : Nat → Int32 → HG → Prop
  | 0 => fun _ _ => False
  | n + 1 => fun lx2 G => hX0_breaksIn_b2 j Λ a0 p1 post (hX0_breaksIn_l2 j Λ a0 p1 post n) lx2 G
def hX0_breaksIn (j : JX) (Λ : JLam) (a0 : Nat) (p1 : Int32) (G : HG) (post : Int32 → HG → Prop) : Prop :=
  ∃ n, hX0_breaksIn_l2 j Λ a0 p1 post n (0 : Int32) G
abbrev rhX0_breaksIn (fr lo : Nat) : Room := { frames := fr + 2, cells := 0, slots := 0, locals := lo + 61 }
theorem mhX0_breaksIn (l : Launch) (Z : (Nat → Prop) → State → Heap → Prop) (D : va_G) (j : JX) (Λ : JLam) (fr lo : Nat) (E : JE l Z D j Λ fr lo) (a0 : Nat) (p1 : Int32) (G : HG) (post : Int32 → HG → Prop) (hf : hX0_breaksIn j Λ a0 p1 G post) : HMi l yX0_breaksIn (ws_ yX0_breaksIn cX0_breaksIn 3 (some .int)) (rhX0_breaksIn fr lo) D jC (jty j.1) Z G [.ref a0, .int p1] post 0 0 := by
  refine h_openi E.1 (by decide) (by exact Nat.le_of_ble_eq_true rfl) (fun p e s m args below meth c ls A0 Q X hI hnd hnm hl hret => ?_)
  have X : XC p s m args meth c cX0_breaksIn 3 RX0 D jC (jty j.1) A0 Z := X
  have hx := X.1
  have hb := X.2.1
  have hown := X.2.2.2.1
  have hts := X.2.2.2.2.1
  have L2 : ∀ (n : Nat) (lx2 : Int32) (G : HG), hX0_breaksIn_l2 j Λ a0 p1 post n lx2 G → ∀ (H : Heap) (locs : List Loc), HI D jC G A0 s.heap H locs → ∀ (ls : Array Slot), lv_has ls 3 [(0, .ref a0), (1, .int p1), (2, .int lx2)] → W p l e (rhX0_breaksIn fr lo) s m args below meth c H locs 0 0 Q (F0 m 2 ls []) := by
    intro n2
    induction n2 with
    | zero => intro lx2 G hf; exact hf.elim
    | succ n2 ih2 =>
      have J49 : ∀ (lx2 : Int32) (G : HG), hX0_breaksIn_b49 j Λ a0 p1 post (hX0_breaksIn_l2 j Λ a0 p1 post n2) lx2 G → ∀ (H : Heap) (locs : List Loc), HI D jC G A0 s.heap H locs → ∀ (ls : Array Slot), lv_has ls 3 [(0, .ref a0), (1, .int p1), (2, .int lx2)] → W p l e (rhX0_breaksIn fr lo) s m args below meth c H locs 0 0 Q (F0 m 49 ls []) := by
        intro lx2 G hf H locs hI ls hl
        unfold hX0_breaksIn_b49 at hf
        refine lv_iinc (v := lx2 + 1) (lv' := [(2, .int (lx2 + 1)), (0, .ref a0), (1, .int p1)]) hx hb dX0_breaksIn_49 hl (k := 2) rfl rfl (by decide) rfl (fun ls hl => ?_)
        refine lv_goto (tgt := 2) hx hb dX0_breaksIn_52 (by decide) ?_
        exact ih2 (lx2 + 1) G hf H locs hI ls (lv_sub hl [1, 2, 0] rfl)
      intro lx2 G hf H locs hI ls hl
      have hf : hX0_breaksIn_b2 j Λ a0 p1 post (hX0_breaksIn_l2 j Λ a0 p1 post n2) lx2 G := hf
      unfold hX0_breaksIn_b2 at hf
      refine lv_iload_n hx hb dX0_breaksIn_2 rfl (lv_at hl 2 rfl) ?_
      refine lv_aload_n hx hb dX0_breaksIn_3 rfl (lv_at hl 0 rfl) ?_
      refine hr_gtQ X hI (rfl : jC.1[0]? = some (RX0, TX0, 20)) in_X0 1 (Nat.le_of_ble_eq_true rfl) hf q653 (fun _ h => h) dX0_breaksIn_4 (fun q1 hf => ?_)
      obtain ⟨a2, ea2, hf⟩ := hf
      revert hl hf
      subst ea2
      intro hl hf
      have hl : lv_has ls 3 [(0, .ref a0), (1, .int p1), (2, .int lx2)] := hl
      refine hr_gtQN X hI (rfl : jC.1[2]? = some (RX2, TX2, 11)) in_X2 0 (Nat.le_of_ble_eq_true rfl) hf (E.nw X q478 rfl) (fun _ h => h) dX0_breaksIn_7 (fun q3 hf => ?_)
      obtain ⟨a4, ea4, hf⟩ := hf
      revert hl hf
      subst ea4
      intro hl hf
      have hl : lv_has ls 3 [(0, .ref a0), (1, .int p1), (2, .int lx2)] := hl
      obtain ⟨_, _, hO, hf⟩ := hf
      refine h_Fki X hI (h_runF (As := []) X hI (X.2.2.2.2.2.1.1 15 _ (show jC.1[15]? = some (RJ2, TJ2, 3) from rfl)).2 (h_recv X hI hO (show jC.1[15]? = some (RJ2, TJ2, 3) from rfl)) (mhJ2_size l Z D j Λ fr lo E a4 G _ hf H.size) (cwF 0 hts q1848 q1771 q1773 q172 q1775 ((E.w X).2.2.1 _ (List.mem_of_getElem? (show jFw[0]? = _ from rfl))) rfl rfl (by decide +kernel) (by show fr + 1 + 1 ≤ fr + 2 ∧ 8 + (1 + 11) + (lo + 40) ≤ lo + 61; omega)) rfl hl.1 (Nat.le_of_ble_eq_true rfl) dX0_breaksIn_10 ⟨Nat.le_refl _, Nat.le_refl _⟩ rfl) (fun x6 G5 H locs hf hI => ?_)
      clear hO
      refine lv_icmp_ge (tgt := 55) hx hb dX0_breaksIn_15 (by decide) (fun c7 => ?_) (fun c7 => ?_)
      · have hf := hf.1 c7
        refine lv_iconst (v := -1) hx hb dX0_breaksIn_55 (by decide) ?_
        exact hret hf hI dX0_breaksIn_56 (Nat.le_refl _) (Nat.le_refl _)
      · have hf := hf.2 c7
        refine lv_aload_n hx hb dX0_breaksIn_18 rfl (lv_at hl 0 rfl) ?_
        refine hr_gtI X hI (rfl : jC.1[0]? = some (RX0, TX0, 20)) in_X0 12 (Nat.le_of_ble_eq_true rfl) hf q665 (fun _ h => h) dX0_breaksIn_19 (fun x8 hf => ?_)
        refine lv_iload_n hx hb dX0_breaksIn_22 rfl (lv_at hl 2 rfl) ?_
        refine h_ki X hI (h_runS (As := [.int x8, .int lx2]) X hI (mhX0_isOn l Z D j Λ fr lo E x8 lx2 G5 _ hf H.size) (va_cwS 2 hts (lw_S q1953 q1954 q167 q1955) rfl rfl rfl (by decide +kernel) (by show fr + 1 + 1 ≤ fr + 2 ∧ 8 + (2 + 11) + (lo + 40) ≤ lo + 61; omega)) rfl hl.1 (Nat.le_of_ble_eq_true rfl) dX0_breaksIn_23 ⟨Nat.le_refl _, Nat.le_refl _⟩ rfl) (fun x10 G9 H locs hf hI => ?_)
        refine lv_if_ne (tgt := 49) hx hb dX0_breaksIn_26 (by decide) (fun c11 => ?_) (fun c11 => ?_)
        · have hf := hf.2 c11
          exact J49 lx2 G9 hf H locs hI ls (lv_sub hl [0, 1, 2] rfl)
        · have hf := hf.1 c11
          refine lv_aload_n hx hb dX0_breaksIn_29 rfl (lv_at hl 0 rfl) ?_
          refine hr_gtQ X hI (rfl : jC.1[0]? = some (RX0, TX0, 20)) in_X0 9 (Nat.le_of_ble_eq_true rfl) hf q661 (fun _ h => h) dX0_breaksIn_30 (fun q12 hf => ?_)
          refine lv_iload_n hx hb dX0_breaksIn_33 rfl (lv_at hl 2 rfl) ?_
          obtain ⟨a13, ea13, hf⟩ := hf
          revert hl hf
          subst ea13
          intro hl hf
          have hl : lv_has ls 3 [(0, .ref a0), (1, .int p1), (2, .int lx2)] := hl
          refine hr_qld X hI hf dX0_breaksIn_34 (fun q14 hf => ?_)
          obtain ⟨a15, ea15, hf⟩ := hf
          revert hl hf
          subst ea15
          intro hl hf
          have hl : lv_has ls 3 [(0, .ref a0), (1, .int p1), (2, .int lx2)] := hl
          refine hr_gtQN X hI (rfl : jC.1[11]? = some (RX11, TX11, 1)) in_X11 0 (Nat.le_of_ble_eq_true rfl) hf (E.nw X q1907 rfl) (fun _ h => h) dX0_breaksIn_35 (fun q16 hf => ?_)
          refine lv_iload_n hx hb dX0_breaksIn_38 rfl (lv_at hl 1 rfl) ?_
          obtain ⟨a17, ea17, hf⟩ := hf
          revert hl hf
          subst ea17
          intro hl hf
          have hl : lv_has ls 3 [(0, .ref a0), (1, .int p1), (2, .int lx2)] := hl
          refine hr_rule E X hI hf q1957 hl.1 (Nat.le_of_ble_eq_true rfl) ⟨Nat.le_add_right _ _, Nat.le_add_right _ _⟩ ⟨Nat.le_refl _, Nat.le_refl _⟩ dX0_breaksIn_39 (fun x19 G18 H locs hf hI => ?_)
          refine lv_if_ne (tgt := 49) hx hb dX0_breaksIn_44 (by decide) (fun c20 => ?_) (fun c20 => ?_)
          · have hf := hf.2 c20
            exact J49 lx2 G18 hf H locs hI ls (lv_sub hl [0, 1, 2] rfl)
          · have hf := hf.1 c20
            refine lv_iload_n hx hb dX0_breaksIn_47 rfl (lv_at hl 2 rfl) ?_
            exact hret hf hI dX0_breaksIn_48 (Nat.le_refl _) (Nat.le_refl _)
  have hl : lv_has ls 3 [(0, .ref a0), (1, .int p1)] := by exact hl
  unfold hX0_breaksIn at hf
  obtain ⟨H, eH⟩ : ∃ H, H = s.heap := ⟨_, rfl⟩
  obtain ⟨locs, eL⟩ : ∃ locs : List Loc, locs = [] := ⟨_, rfl⟩
  have hI : HI D jC G A0 s.heap H locs := by rw [eH, eL]; exact hI
  rw [← eL]
  suffices h : W p l e (rhX0_breaksIn fr lo) s m args below meth c H locs 0 0 Q (F0 m 0 ls []) by rw [eH] at h; exact h
  clear eH eL
  refine lv_iconst (v := 0) hx hb dX0_breaksIn_0 (by decide) ?_
  refine lv_istore_n (lv' := [(2, .int 0), (0, .ref a0), (1, .int p1)]) hx hb dX0_breaksIn_1 rfl hl (by decide) rfl (fun ls hl => ?_)
  obtain ⟨n, hf⟩ := hf
  exact L2 n (0 : Int32) G hf H locs hI ls (lv_sub hl [1, 2, 0] rfl)
/-! MergeJudge.counts(I)V -/
def hX0_counts_b34 (j : JX) (Λ : JLam) (a0 : Nat) (p1 : Int32) (post : HG → Prop) (K7 : Int32 → HG → Prop) (lx2 : Int32) (z0 : Option Nat) (z1 : Int32) (z2 : Int32) (G : HG) : Prop :=
  nnq z0 fun a9 => stI G a9 (j.1 1) z1 (vp_nar .boolean z2) fun G10 => K7 (lx2 + 1) G10
def hX0_counts_b7 (j : JX) (Λ : JLam) (a0 : Nat) (p1 : Int32) (post : HG → Prop) (K7 : Int32 → HG → Prop) (lx2 : Int32) (G : HG) : Prop :=
  isO G a0 0 (hX0_states0 j Λ a0 G fun x3 G2 => (x3 ≤ lx2 → (post G2)) ∧ (¬ x3 ≤ lx2 → (gtQ G2 a0 0 11 fun q5 => isO G2 a0 0 (hX0_breaksIn j Λ a0 lx2 G2 fun x7 G6 => (x7 = ((-1) : Int32) → (hX0_counts_b34 j Λ a0 p1 post K7 lx2 q5 lx2 (1 : Int32) G6)) ∧ (¬ x7 = ((-1) : Int32) → (hX0_counts_b34 j Λ a0 p1 post K7 lx2 q5 lx2 (0 : Int32) G6))))))
def hX0_counts_l7 (j : JX) (Λ : JLam) (a0 : Nat) (p1 : Int32) (post : HG → Prop) : Nat → Int32 → HG → Prop
  | 0 => fun _ _ => False
  | n + 1 => fun lx2 G => hX0_counts_b7 j Λ a0 p1 post (hX0_counts_l7 j Λ a0 p1 post n) lx2 G
def hX0_counts (j : JX) (Λ : JLam) (a0 : Nat) (p1 : Int32) (G : HG) (post : HG → Prop) : Prop :=
  ptV G a0 0 12 (.int p1) fun G1 => ∃ n, hX0_counts_l7 j Λ a0 p1 post n (0 : Int32) G1
abbrev rhX0_counts (fr lo : Nat) : Room := { frames := fr + 3, cells := 0, slots := 0, locals := lo + 83 }
theorem mhX0_counts (l : Launch) (Z : (Nat → Prop) → State → Heap → Prop) (D : va_G) (j : JX) (Λ : JLam) (fr lo : Nat) (E : JE l Z D j Λ fr lo) (a0 : Nat) (p1 : Int32) (G : HG) (post : HG → Prop) (hf : hX0_counts j Λ a0 p1 G post) : HMv l yX0_counts (ws_ yX0_counts cX0_counts 3 none) (rhX0_counts fr lo) D jC (jty j.1) Z G [.ref a0, .int p1] post 0 0 := by
  refine h_openv E.1 (by decide) (by exact Nat.le_of_ble_eq_true rfl) (fun p e s m args below meth c ls A0 Q X hI hnd hnm hl hret => ?_)
  have X : XC p s m args meth c cX0_counts 3 RX0 D jC (jty j.1) A0 Z := X
  have hx := X.1
  have hb := X.2.1
  have hown := X.2.2.2.1
  have hts := X.2.2.2.2.1
  have L7 : ∀ (n : Nat) (lx2 : Int32) (G : HG), hX0_counts_l7 j Λ a0 p1 post n lx2 G → ∀ (H : Heap) (locs : List Loc), HI D jC G A0 s.heap H locs → ∀ (ls : Array Slot), lv_has ls 3 [(0, .ref a0), (2, .int lx2)] → W p l e (rhX0_counts fr lo) s m args below meth c H locs 0 0 Q (F0 m 7 ls []) := by
    intro n7
    induction n7 with
    | zero => intro lx2 G hf; exact hf.elim
    | succ n7 ih7 =>
      have J34 : ∀ (lx2 : Int32) (z0 : Option Nat) (z1 : Int32) (z2 : Int32) (G : HG), hX0_counts_b34 j Λ a0 p1 post (hX0_counts_l7 j Λ a0 p1 post n7) lx2 z0 z1 z2 G → ∀ (H : Heap) (locs : List Loc), HI D jC G A0 s.heap H locs → ∀ (ls : Array Slot), lv_has ls 3 [(0, .ref a0), (2, .int lx2)] → W p l e (rhX0_counts fr lo) s m args below meth c H locs 0 0 Q (F0 m 34 ls [.int z2, .int z1, va_rf z0]) := by
        intro lx2 z0 z1 z2 G hf H locs hI ls hl
        unfold hX0_counts_b34 at hf
        obtain ⟨a9, ea9, hf⟩ := hf
        revert hl hf
        subst ea9
        intro hl hf
        have hl : lv_has ls 3 [(0, .ref a0), (2, .int lx2)] := hl
        refine hr_zst X hI 1 rfl hf dX0_counts_34 (fun G10 H locs hf hI => ?_)
        refine lv_iinc (v := lx2 + 1) (lv' := [(2, .int (lx2 + 1)), (0, .ref a0)]) hx hb dX0_counts_35 hl (k := 1) rfl rfl (by decide) rfl (fun ls hl => ?_)
        refine lv_goto (tgt := 7) hx hb dX0_counts_38 (by decide) ?_
        exact ih7 (lx2 + 1) G10 hf H locs hI ls (lv_sub hl [1, 0] rfl)
      intro lx2 G hf H locs hI ls hl
      have hf : hX0_counts_b7 j Λ a0 p1 post (hX0_counts_l7 j Λ a0 p1 post n7) lx2 G := hf
      unfold hX0_counts_b7 at hf
      refine lv_iload_n hx hb dX0_counts_7 rfl (lv_at hl 1 rfl) ?_
      refine lv_aload_n hx hb dX0_counts_8 rfl (lv_at hl 0 rfl) ?_
      obtain ⟨_, _, hO, hf⟩ := hf
      refine h_ki X hI (h_runV (As := []) X hI (h_recv X hI hO (show jC.1[0]? = some (RX0, TX0, 20) from rfl)) (mhX0_states0 l Z D j Λ fr lo E a0 G _ hf H.size) (cwV 0 hts (lw_V q1945 q1947 qs41 q167 q1948) rfl rfl rfl (by decide +kernel) (by show fr + 1 + 1 ≤ fr + 3 ∧ 8 + (3 + 11) + (lo + 40) ≤ lo + 83; omega)) rfl hl.1 (Nat.le_of_ble_eq_true rfl) dX0_counts_9 ⟨Nat.le_refl _, Nat.le_refl _⟩ rfl) (fun x3 G2 H locs hf hI => ?_)
      clear hO
      refine lv_icmp_ge (tgt := 41) hx hb dX0_counts_12 (by decide) (fun c4 => ?_) (fun c4 => ?_)
      · have hf := hf.1 c4
        exact hret hf hI dX0_counts_41 (Nat.le_refl _) (Nat.le_refl _)
      · have hf := hf.2 c4
        refine lv_aload_n hx hb dX0_counts_15 rfl (lv_at hl 0 rfl) ?_
        refine hr_gtQ X hI (rfl : jC.1[0]? = some (RX0, TX0, 20)) in_X0 11 (Nat.le_of_ble_eq_true rfl) hf q664 (fun _ h => h) dX0_counts_16 (fun q5 hf => ?_)
        refine lv_iload_n hx hb dX0_counts_19 rfl (lv_at hl 1 rfl) ?_
        refine lv_aload_n hx hb dX0_counts_20 rfl (lv_at hl 0 rfl) ?_
        refine lv_iload_n hx hb dX0_counts_21 rfl (lv_at hl 1 rfl) ?_
        obtain ⟨_, _, hO, hf⟩ := hf
        refine h_ki X hI (h_runV (As := [.int lx2]) X hI (h_recv X hI hO (show jC.1[0]? = some (RX0, TX0, 20) from rfl)) (mhX0_breaksIn l Z D j Λ fr lo E a0 lx2 G2 _ hf H.size) (cwV 1 hts (lw_V q1949 q1951 qs42 q167 q1952) rfl rfl rfl (by decide +kernel) (by show fr + 2 + 1 ≤ fr + 3 ∧ 8 + (3 + 11) + (lo + 61) ≤ lo + 83; omega)) rfl hl.1 (by cases q5 <;> exact Nat.le_of_ble_eq_true rfl) dX0_counts_22 ⟨Nat.le_refl _, Nat.le_refl _⟩ rfl) (fun x7 G6 H locs hf hI => ?_)
        clear hO
        refine lv_iconst (v := -1) hx hb dX0_counts_25 (by decide) ?_
        refine lv_icmp_ne (tgt := 33) hx hb dX0_counts_26 (by decide) (fun c8 => ?_) (fun c8 => ?_)
        · have hf := hf.2 c8
          refine lv_iconst (v := 0) hx hb dX0_counts_33 (by decide) ?_
          exact J34 lx2 q5 lx2 (0 : Int32) G6 hf H locs hI ls (lv_sub hl [0, 1] rfl)
        · have hf := hf.1 c8
          refine lv_iconst (v := 1) hx hb dX0_counts_29 (by decide) ?_
          refine lv_goto (tgt := 34) hx hb dX0_counts_30 (by decide) ?_
          exact J34 lx2 q5 lx2 (1 : Int32) G6 hf H locs hI ls (lv_sub hl [0, 1] rfl)
  have hl : lv_has ls 3 [(0, .ref a0), (1, .int p1)] := by exact hl
  unfold hX0_counts at hf
  obtain ⟨H, eH⟩ : ∃ H, H = s.heap := ⟨_, rfl⟩
  obtain ⟨locs, eL⟩ : ∃ locs : List Loc, locs = [] := ⟨_, rfl⟩
  have hI : HI D jC G A0 s.heap H locs := by rw [eH, eL]; exact hI
  rw [← eL]
  suffices h : W p l e (rhX0_counts fr lo) s m args below meth c H locs 0 0 Q (F0 m 0 ls []) by rw [eH] at h; exact h
  clear eH eL
  refine lv_aload_n hx hb dX0_counts_0 rfl (lv_at hl 0 rfl) ?_
  refine lv_iload_n hx hb dX0_counts_1 rfl (lv_at hl 1 rfl) ?_
  refine hr_pt X hI (rfl : jC.1[0]? = some (RX0, TX0, 20)) in_X0 12 (Nat.le_of_ble_eq_true rfl) tyX0 tyX0_ok nmX0 hf q665 (fun _ h => h) rfl rfl rfl dX0_counts_2 (fun G1 H locs hf hI => ?_)
  refine lv_iconst (v := 0) hx hb dX0_counts_5 (by decide) ?_
  refine lv_istore_n (lv' := [(2, .int 0), (0, .ref a0), (1, .int p1)]) hx hb dX0_counts_6 rfl hl (by decide) rfl (fun ls hl => ?_)
  obtain ⟨n, hf⟩ := hf
  exact L7 n (0 : Int32) G1 hf H locs hI ls (lv_sub hl [1, 0] rfl)
/-! MergeJudge.unit(I)I -/
def hX0_unit_b4 (j : JX) (Λ : JLam) (a0 : Nat) (p1 : Int32) (post : Int32 → HG → Prop) (K4 : Int32 → Int32 → HG → Prop) (lx2 : Int32) (lx3 : Int32) (G : HG) : Prop :=
  (p1 ≤ lx3 → (post lx2 G)) ∧ (¬ p1 ≤ lx3 → (gtQ G a0 0 1 fun q2 => nnq q2 fun a3 => gtI G a3 2 4 fun x4 => K4 (lx2 * (x4 + 1)) (lx3 + 1) G))
def hX0_unit_l4 (j : JX) (Λ : JLam) (a0 : Nat) (p1 : Int32) (post : Int32 → HG → Prop) : Nat → Int32 → Int32 → HG → Prop
  | 0 => fun _ _ _ => False
  | n + 1 => fun lx2 lx3 G => hX0_unit_b4 j Λ a0 p1 post (hX0_unit_l4 j Λ a0 p1 post n) lx2 lx3 G
def hX0_unit (j : JX) (Λ : JLam) (a0 : Nat) (p1 : Int32) (G : HG) (post : Int32 → HG → Prop) : Prop :=
  ∃ n, hX0_unit_l4 j Λ a0 p1 post n (1 : Int32) (0 : Int32) G
abbrev rhX0_unit (fr lo : Nat) : Room := { frames := fr + 1, cells := 0, slots := 0, locals := lo + 40 }
theorem mhX0_unit (l : Launch) (Z : (Nat → Prop) → State → Heap → Prop) (D : va_G) (j : JX) (Λ : JLam) (fr lo : Nat) (E : JE l Z D j Λ fr lo) (a0 : Nat) (p1 : Int32) (G : HG) (post : Int32 → HG → Prop) (hf : hX0_unit j Λ a0 p1 G post) : HMi l yX0_unit (ws_ yX0_unit cX0_unit 4 (some .int)) (rhX0_unit fr lo) D jC (jty j.1) Z G [.ref a0, .int p1] post 0 0 := by
  refine h_openi E.1 (by decide) (by exact Nat.le_of_ble_eq_true rfl) (fun p e s m args below meth c ls A0 Q X hI hnd hnm hl hret => ?_)
  have X : XC p s m args meth c cX0_unit 4 RX0 D jC (jty j.1) A0 Z := X
  have hx := X.1
  have hb := X.2.1
  have hown := X.2.2.2.1
  have hts := X.2.2.2.2.1
  have L4 : ∀ (n : Nat) (lx2 : Int32) (lx3 : Int32) (G : HG), hX0_unit_l4 j Λ a0 p1 post n lx2 lx3 G → ∀ (H : Heap) (locs : List Loc), HI D jC G A0 s.heap H locs → ∀ (ls : Array Slot), lv_has ls 4 [(0, .ref a0), (1, .int p1), (2, .int lx2), (3, .int lx3)] → W p l e (rhX0_unit fr lo) s m args below meth c H locs 0 0 Q (F0 m 4 ls []) := by
    intro n4
    induction n4 with
    | zero => intro lx2 lx3 G hf; exact hf.elim
    | succ n4 ih4 =>
      intro lx2 lx3 G hf H locs hI ls hl
      have hf : hX0_unit_b4 j Λ a0 p1 post (hX0_unit_l4 j Λ a0 p1 post n4) lx2 lx3 G := hf
      unfold hX0_unit_b4 at hf
      refine lv_iload_n hx hb dX0_unit_4 rfl (lv_at hl 3 rfl) ?_
      refine lv_iload_n hx hb dX0_unit_5 rfl (lv_at hl 1 rfl) ?_
      refine lv_icmp_ge (tgt := 27) hx hb dX0_unit_6 (by decide) (fun c1 => ?_) (fun c1 => ?_)
      · have hf := hf.1 c1
        refine lv_iload_n hx hb dX0_unit_27 rfl (lv_at hl 2 rfl) ?_
        exact hret hf hI dX0_unit_28 (Nat.le_refl _) (Nat.le_refl _)
      · have hf := hf.2 c1
        refine lv_iload_n hx hb dX0_unit_9 rfl (lv_at hl 2 rfl) ?_
        refine lv_aload_n hx hb dX0_unit_10 rfl (lv_at hl 0 rfl) ?_
        refine hr_gtQ X hI (rfl : jC.1[0]? = some (RX0, TX0, 20)) in_X0 1 (Nat.le_of_ble_eq_true rfl) hf q653 (fun _ h => h) dX0_unit_11 (fun q2 hf => ?_)
        obtain ⟨a3, ea3, hf⟩ := hf
        revert hl hf
        subst ea3
        intro hl hf
        have hl : lv_has ls 4 [(0, .ref a0), (1, .int p1), (2, .int lx2), (3, .int lx3)] := hl
        refine hr_gtIN X hI (rfl : jC.1[2]? = some (RX2, TX2, 11)) in_X2 4 (Nat.le_of_ble_eq_true rfl) hf (E.nw X q490 rfl) (fun _ h => h) dX0_unit_14 (fun x4 hf => ?_)
        refine lv_iconst (v := 1) hx hb dX0_unit_17 (by decide) ?_
        refine lv_iadd hx hb dX0_unit_18 ?_
        refine lv_imul hx hb dX0_unit_19 ?_
        refine lv_istore_n (lv' := [(2, .int (lx2 * (x4 + 1))), (0, .ref a0), (1, .int p1), (3, .int lx3)]) hx hb dX0_unit_20 rfl hl (by decide) rfl (fun ls hl => ?_)
        refine lv_iinc (v := lx3 + 1) (lv' := [(3, .int (lx3 + 1)), (2, .int (lx2 * (x4 + 1))), (0, .ref a0), (1, .int p1)]) hx hb dX0_unit_21 hl (k := 3) rfl rfl (by decide) rfl (fun ls hl => ?_)
        refine lv_goto (tgt := 4) hx hb dX0_unit_24 (by decide) ?_
        exact ih4 (lx2 * (x4 + 1)) (lx3 + 1) G hf H locs hI ls (lv_sub hl [2, 3, 1, 0] rfl)
  have hl : lv_has ls 4 [(0, .ref a0), (1, .int p1)] := by exact hl
  unfold hX0_unit at hf
  obtain ⟨H, eH⟩ : ∃ H, H = s.heap := ⟨_, rfl⟩
  obtain ⟨locs, eL⟩ : ∃ locs : List Loc, locs = [] := ⟨_, rfl⟩
  have hI : HI D jC G A0 s.heap H locs := by rw [eH, eL]; exact hI
  rw [← eL]
  suffices h : W p l e (rhX0_unit fr lo) s m args below meth c H locs 0 0 Q (F0 m 0 ls []) by rw [eH] at h; exact h
  clear eH eL
  refine lv_iconst (v := 1) hx hb dX0_unit_0 (by decide) ?_
  refine lv_istore_n (lv' := [(2, .int 1), (0, .ref a0), (1, .int p1)]) hx hb dX0_unit_1 rfl hl (by decide) rfl (fun ls hl => ?_)
  refine lv_iconst (v := 0) hx hb dX0_unit_2 (by decide) ?_
  refine lv_istore_n (lv' := [(3, .int 0), (2, .int 1), (0, .ref a0), (1, .int p1)]) hx hb dX0_unit_3 rfl hl (by decide) rfl (fun ls hl => ?_)
  obtain ⟨n, hf⟩ := hf
  exact L4 n (1 : Int32) (0 : Int32) G hf H locs hI ls (lv_sub hl [2, 3, 1, 0] rfl)
/-! MergeJudge.valueOf(II)I -/
def hX0_valueOf (j : JX) (Λ : JLam) (a0 : Nat) (p1 : Int32) (p2 : Int32) (G : HG) (post : Int32 → HG → Prop) : Prop :=
  isO G a0 0 (hX0_unit j Λ a0 p2 G fun x2 G1 => ¬ x2 = 0 ∧ gtQ G1 a0 0 1 fun q4 => nnq q4 fun a5 => gtI G1 a5 2 4 fun x6 => ¬ (x6 + 1) = 0 ∧ post ((p1 / x2) - (p1 / x2) / (x6 + 1) * (x6 + 1)) G1)
abbrev rhX0_valueOf (fr lo : Nat) : Room := { frames := fr + 2, cells := 0, slots := 0, locals := lo + 63 }
theorem mhX0_valueOf (l : Launch) (Z : (Nat → Prop) → State → Heap → Prop) (D : va_G) (j : JX) (Λ : JLam) (fr lo : Nat) (E : JE l Z D j Λ fr lo) (a0 : Nat) (p1 : Int32) (p2 : Int32) (G : HG) (post : Int32 → HG → Prop) (hf : hX0_valueOf j Λ a0 p1 p2 G post) : HMi l yX0_valueOf (ws_ yX0_valueOf cX0_valueOf 3 (some .int)) (rhX0_valueOf fr lo) D jC (jty j.1) Z G [.ref a0, .int p1, .int p2] post 0 0 := by
  refine h_openi E.1 (by decide) (by exact Nat.le_of_ble_eq_true rfl) (fun p e s m args below meth c ls A0 Q X hI hnd hnm hl hret => ?_)
  have X : XC p s m args meth c cX0_valueOf 3 RX0 D jC (jty j.1) A0 Z := X
  have hx := X.1
  have hb := X.2.1
  have hown := X.2.2.2.1
  have hts := X.2.2.2.2.1
  have hl : lv_has ls 3 [(0, .ref a0), (1, .int p1), (2, .int p2)] := by exact hl
  unfold hX0_valueOf at hf
  obtain ⟨H, eH⟩ : ∃ H, H = s.heap := ⟨_, rfl⟩
  obtain ⟨locs, eL⟩ : ∃ locs : List Loc, locs = [] := ⟨_, rfl⟩
  have hI : HI D jC G A0 s.heap H locs := by rw [eH, eL]; exact hI
  rw [← eL]
  suffices h : W p l e (rhX0_valueOf fr lo) s m args below meth c H locs 0 0 Q (F0 m 0 ls []) by rw [eH] at h; exact h
  clear eH eL
  refine lv_iload_n hx hb dX0_valueOf_0 rfl (lv_at hl 1 rfl) ?_
  refine lv_aload_n hx hb dX0_valueOf_1 rfl (lv_at hl 0 rfl) ?_
  refine lv_iload_n hx hb dX0_valueOf_2 rfl (lv_at hl 2 rfl) ?_
  obtain ⟨_, _, hO, hf⟩ := hf
  refine h_ki X hI (h_runV (As := [.int p2]) X hI (h_recv X hI hO (show jC.1[0]? = some (RX0, TX0, 20) from rfl)) (mhX0_unit l Z D j Λ fr lo E a0 p2 G _ hf H.size) (cwV 1 hts (lw_V q1883 q1885 qs28 q167 q1886) rfl rfl rfl (by decide +kernel) (by show fr + 1 + 1 ≤ fr + 2 ∧ 8 + (4 + 11) + (lo + 40) ≤ lo + 63; omega)) rfl hl.1 (Nat.le_of_ble_eq_true rfl) dX0_valueOf_3 ⟨Nat.le_refl _, Nat.le_refl _⟩ rfl) (fun x2 G1 H locs hf hI => ?_)
  clear hO
  obtain ⟨g3, hf⟩ := hf
  refine lv_idiv hx hb dX0_valueOf_6 g3 ?_
  refine lv_aload_n hx hb dX0_valueOf_7 rfl (lv_at hl 0 rfl) ?_
  refine hr_gtQ X hI (rfl : jC.1[0]? = some (RX0, TX0, 20)) in_X0 1 (Nat.le_of_ble_eq_true rfl) hf q653 (fun _ h => h) dX0_valueOf_8 (fun q4 hf => ?_)
  obtain ⟨a5, ea5, hf⟩ := hf
  revert hl hf
  subst ea5
  intro hl hf
  have hl : lv_has ls 3 [(0, .ref a0), (1, .int p1), (2, .int p2)] := hl
  refine hr_gtIN X hI (rfl : jC.1[2]? = some (RX2, TX2, 11)) in_X2 4 (Nat.le_of_ble_eq_true rfl) hf (E.nw X q490 rfl) (fun _ h => h) dX0_valueOf_11 (fun x6 hf => ?_)
  refine lv_iconst (v := 1) hx hb dX0_valueOf_14 (by decide) ?_
  refine lv_iadd hx hb dX0_valueOf_15 ?_
  obtain ⟨g7, hf⟩ := hf
  refine lv_irem hx hb dX0_valueOf_16 g7 ?_
  exact hret hf hI dX0_valueOf_17 (Nat.le_refl _) (Nat.le_refl _)
/-! MergeJudge.lambda$ruleOf$3(III)Z -/
def hX0_lambda_ruleOf_3 (j : JX) (Λ : JLam) (a0 : Nat) (p1 : Int32) (p2 : Int32) (p3 : Int32) (G : HG) (post : Int32 → HG → Prop) : Prop :=
  isO G a0 0 (hX0_valueOf j Λ a0 p3 p1 G fun x2 G1 => (p2 < x2 → (post (0 : Int32) G1)) ∧ (¬ p2 < x2 → (post (1 : Int32) G1)))
abbrev rhX0_lambda_ruleOf_3 (fr lo : Nat) : Room := { frames := fr + 3, cells := 0, slots := 0, locals := lo + 85 }
theorem mhX0_lambda_ruleOf_3 (l : Launch) (Z : (Nat → Prop) → State → Heap → Prop) (D : va_G) (j : JX) (Λ : JLam) (fr lo : Nat) (E : JE l Z D j Λ fr lo) (a0 : Nat) (p1 : Int32) (p2 : Int32) (p3 : Int32) (G : HG) (post : Int32 → HG → Prop) (hf : hX0_lambda_ruleOf_3 j Λ a0 p1 p2 p3 G post) : HMi l yX0_lambda_ruleOf_3 (ws_ yX0_lambda_ruleOf_3 cX0_lambda_ruleOf_3 4 (some .boolean)) (rhX0_lambda_ruleOf_3 fr lo) D jC (jty j.1) Z G [.ref a0, .int p1, .int p2, .int p3] post 0 0 := by
  refine h_openz E.1 (by decide) (by exact Nat.le_of_ble_eq_true rfl) (fun p e s m args below meth c ls A0 Q X hI hnd hnm hl hret => ?_)
  have X : XC p s m args meth c cX0_lambda_ruleOf_3 4 RX0 D jC (jty j.1) A0 Z := X
  have hx := X.1
  have hb := X.2.1
  have hown := X.2.2.2.1
  have hts := X.2.2.2.2.1
  have hl : lv_has ls 4 [(0, .ref a0), (1, .int p1), (2, .int p2), (3, .int p3)] := by exact hl
  unfold hX0_lambda_ruleOf_3 at hf
  obtain ⟨H, eH⟩ : ∃ H, H = s.heap := ⟨_, rfl⟩
  obtain ⟨locs, eL⟩ : ∃ locs : List Loc, locs = [] := ⟨_, rfl⟩
  have hI : HI D jC G A0 s.heap H locs := by rw [eH, eL]; exact hI
  rw [← eL]
  suffices h : W p l e (rhX0_lambda_ruleOf_3 fr lo) s m args below meth c H locs 0 0 Q (F0 m 0 ls []) by rw [eH] at h; exact h
  clear eH eL
  refine lv_aload_n hx hb dX0_lambda_ruleOf_3_0 rfl (lv_at hl 0 rfl) ?_
  refine lv_iload_n hx hb dX0_lambda_ruleOf_3_1 rfl (lv_at hl 3 rfl) ?_
  refine lv_iload_n hx hb dX0_lambda_ruleOf_3_2 rfl (lv_at hl 1 rfl) ?_
  obtain ⟨_, _, hO, hf⟩ := hf
  refine h_ki X hI (h_runV (As := [.int p3, .int p1]) X hI (h_recv X hI hO (show jC.1[0]? = some (RX0, TX0, 20) from rfl)) (mhX0_valueOf l Z D j Λ fr lo E a0 p3 p1 G _ hf H.size) (cwV 2 hts (lw_V q1879 q1881 qs27 q167 q1882) rfl rfl rfl (by decide +kernel) (by show fr + 2 + 1 ≤ fr + 3 ∧ 8 + (3 + 11) + (lo + 63) ≤ lo + 85; omega)) rfl hl.1 (Nat.le_of_ble_eq_true rfl) dX0_lambda_ruleOf_3_3 ⟨Nat.le_refl _, Nat.le_refl _⟩ rfl) (fun x2 G1 H locs hf hI => ?_)
  clear hO
  refine lv_iload_n hx hb dX0_lambda_ruleOf_3_6 rfl (lv_at hl 2 rfl) ?_
  refine lv_icmp_gt (tgt := 14) hx hb dX0_lambda_ruleOf_3_7 (by decide) (fun c3 => ?_) (fun c3 => ?_)
  · have hf := hf.1 c3
    refine lv_iconst (v := 0) hx hb dX0_lambda_ruleOf_3_14 (by decide) ?_
    exact hret rfl hf hI dX0_lambda_ruleOf_3_15 (Nat.le_refl _) (Nat.le_refl _)
  · have hf := hf.2 c3
    refine lv_iconst (v := 1) hx hb dX0_lambda_ruleOf_3_10 (by decide) ?_
    refine lv_goto (tgt := 15) hx hb dX0_lambda_ruleOf_3_11 (by decide) ?_
    exact hret rfl hf hI dX0_lambda_ruleOf_3_15 (Nat.le_refl _) (Nat.le_refl _)
/-! MergeJudge.lambda$ruleOf$4(III)Z -/
def hX0_lambda_ruleOf_4 (j : JX) (Λ : JLam) (a0 : Nat) (p1 : Int32) (p2 : Int32) (p3 : Int32) (G : HG) (post : Int32 → HG → Prop) : Prop :=
  isO G a0 0 (hX0_valueOf j Λ a0 p3 p1 G fun x2 G1 => (x2 < p2 → (post (0 : Int32) G1)) ∧ (¬ x2 < p2 → (post (1 : Int32) G1)))
abbrev rhX0_lambda_ruleOf_4 (fr lo : Nat) : Room := { frames := fr + 3, cells := 0, slots := 0, locals := lo + 85 }
theorem mhX0_lambda_ruleOf_4 (l : Launch) (Z : (Nat → Prop) → State → Heap → Prop) (D : va_G) (j : JX) (Λ : JLam) (fr lo : Nat) (E : JE l Z D j Λ fr lo) (a0 : Nat) (p1 : Int32) (p2 : Int32) (p3 : Int32) (G : HG) (post : Int32 → HG → Prop) (hf : hX0_lambda_ruleOf_4 j Λ a0 p1 p2 p3 G post) : HMi l yX0_lambda_ruleOf_4 (ws_ yX0_lambda_ruleOf_4 cX0_lambda_ruleOf_4 4 (some .boolean)) (rhX0_lambda_ruleOf_4 fr lo) D jC (jty j.1) Z G [.ref a0, .int p1, .int p2, .int p3] post 0 0 := by
  refine h_openz E.1 (by decide) (by exact Nat.le_of_ble_eq_true rfl) (fun p e s m args below meth c ls A0 Q X hI hnd hnm hl hret => ?_)
  have X : XC p s m args meth c cX0_lambda_ruleOf_4 4 RX0 D jC (jty j.1) A0 Z := X
  have hx := X.1
  have hb := X.2.1
  have hown := X.2.2.2.1
  have hts := X.2.2.2.2.1
  have hl : lv_has ls 4 [(0, .ref a0), (1, .int p1), (2, .int p2), (3, .int p3)] := by exact hl
  unfold hX0_lambda_ruleOf_4 at hf
  obtain ⟨H, eH⟩ : ∃ H, H = s.heap := ⟨_, rfl⟩
  obtain ⟨locs, eL⟩ : ∃ locs : List Loc, locs = [] := ⟨_, rfl⟩
  have hI : HI D jC G A0 s.heap H locs := by rw [eH, eL]; exact hI
  rw [← eL]
  suffices h : W p l e (rhX0_lambda_ruleOf_4 fr lo) s m args below meth c H locs 0 0 Q (F0 m 0 ls []) by rw [eH] at h; exact h
  clear eH eL
  refine lv_aload_n hx hb dX0_lambda_ruleOf_4_0 rfl (lv_at hl 0 rfl) ?_
  refine lv_iload_n hx hb dX0_lambda_ruleOf_4_1 rfl (lv_at hl 3 rfl) ?_
  refine lv_iload_n hx hb dX0_lambda_ruleOf_4_2 rfl (lv_at hl 1 rfl) ?_
  obtain ⟨_, _, hO, hf⟩ := hf
  refine h_ki X hI (h_runV (As := [.int p3, .int p1]) X hI (h_recv X hI hO (show jC.1[0]? = some (RX0, TX0, 20) from rfl)) (mhX0_valueOf l Z D j Λ fr lo E a0 p3 p1 G _ hf H.size) (cwV 2 hts (lw_V q1879 q1881 qs27 q167 q1882) rfl rfl rfl (by decide +kernel) (by show fr + 2 + 1 ≤ fr + 3 ∧ 8 + (3 + 11) + (lo + 63) ≤ lo + 85; omega)) rfl hl.1 (Nat.le_of_ble_eq_true rfl) dX0_lambda_ruleOf_4_3 ⟨Nat.le_refl _, Nat.le_refl _⟩ rfl) (fun x2 G1 H locs hf hI => ?_)
  clear hO
  refine lv_iload_n hx hb dX0_lambda_ruleOf_4_6 rfl (lv_at hl 2 rfl) ?_
  refine lv_icmp_lt (tgt := 14) hx hb dX0_lambda_ruleOf_4_7 (by decide) (fun c3 => ?_) (fun c3 => ?_)
  · have hf := hf.1 c3
    refine lv_iconst (v := 0) hx hb dX0_lambda_ruleOf_4_14 (by decide) ?_
    exact hret rfl hf hI dX0_lambda_ruleOf_4_15 (Nat.le_refl _) (Nat.le_refl _)
  · have hf := hf.2 c3
    refine lv_iconst (v := 1) hx hb dX0_lambda_ruleOf_4_10 (by decide) ?_
    refine lv_goto (tgt := 15) hx hb dX0_lambda_ruleOf_4_11 (by decide) ?_
    exact hret rfl hf hI dX0_lambda_ruleOf_4_15 (Nat.le_refl _) (Nat.le_refl _)
/-! MergeJudge.lambda$ruleOf$5(III)Z -/
def hX0_lambda_ruleOf_5 (j : JX) (Λ : JLam) (a0 : Nat) (p1 : Int32) (p2 : Int32) (p3 : Int32) (G : HG) (post : Int32 → HG → Prop) : Prop :=
  isO G a0 0 (hX0_valueOf j Λ a0 p3 p1 G fun x2 G1 => isO G1 a0 0 (hX0_valueOf j Λ a0 p3 p2 G1 fun x4 G3 => (x2 = x4 → (post (0 : Int32) G3)) ∧ (¬ x2 = x4 → (post (1 : Int32) G3))))
abbrev rhX0_lambda_ruleOf_5 (fr lo : Nat) : Room := { frames := fr + 3, cells := 0, slots := 0, locals := lo + 85 }
theorem mhX0_lambda_ruleOf_5 (l : Launch) (Z : (Nat → Prop) → State → Heap → Prop) (D : va_G) (j : JX) (Λ : JLam) (fr lo : Nat) (E : JE l Z D j Λ fr lo) (a0 : Nat) (p1 : Int32) (p2 : Int32) (p3 : Int32) (G : HG) (post : Int32 → HG → Prop) (hf : hX0_lambda_ruleOf_5 j Λ a0 p1 p2 p3 G post) : HMi l yX0_lambda_ruleOf_5 (ws_ yX0_lambda_ruleOf_5 cX0_lambda_ruleOf_5 4 (some .boolean)) (rhX0_lambda_ruleOf_5 fr lo) D jC (jty j.1) Z G [.ref a0, .int p1, .int p2, .int p3] post 0 0 := by
  refine h_openz E.1 (by decide) (by exact Nat.le_of_ble_eq_true rfl) (fun p e s m args below meth c ls A0 Q X hI hnd hnm hl hret => ?_)
  have X : XC p s m args meth c cX0_lambda_ruleOf_5 4 RX0 D jC (jty j.1) A0 Z := X
  have hx := X.1
  have hb := X.2.1
  have hown := X.2.2.2.1
  have hts := X.2.2.2.2.1
  have hl : lv_has ls 4 [(0, .ref a0), (1, .int p1), (2, .int p2), (3, .int p3)] := by exact hl
  unfold hX0_lambda_ruleOf_5 at hf
  obtain ⟨H, eH⟩ : ∃ H, H = s.heap := ⟨_, rfl⟩
  obtain ⟨locs, eL⟩ : ∃ locs : List Loc, locs = [] := ⟨_, rfl⟩
  have hI : HI D jC G A0 s.heap H locs := by rw [eH, eL]; exact hI
  rw [← eL]
  suffices h : W p l e (rhX0_lambda_ruleOf_5 fr lo) s m args below meth c H locs 0 0 Q (F0 m 0 ls []) by rw [eH] at h; exact h
  clear eH eL
  refine lv_aload_n hx hb dX0_lambda_ruleOf_5_0 rfl (lv_at hl 0 rfl) ?_
  refine lv_iload_n hx hb dX0_lambda_ruleOf_5_1 rfl (lv_at hl 3 rfl) ?_
  refine lv_iload_n hx hb dX0_lambda_ruleOf_5_2 rfl (lv_at hl 1 rfl) ?_
  obtain ⟨_, _, hO, hf⟩ := hf
  refine h_ki X hI (h_runV (As := [.int p3, .int p1]) X hI (h_recv X hI hO (show jC.1[0]? = some (RX0, TX0, 20) from rfl)) (mhX0_valueOf l Z D j Λ fr lo E a0 p3 p1 G _ hf H.size) (cwV 2 hts (lw_V q1879 q1881 qs27 q167 q1882) rfl rfl rfl (by decide +kernel) (by show fr + 2 + 1 ≤ fr + 3 ∧ 8 + (3 + 11) + (lo + 63) ≤ lo + 85; omega)) rfl hl.1 (Nat.le_of_ble_eq_true rfl) dX0_lambda_ruleOf_5_3 ⟨Nat.le_refl _, Nat.le_refl _⟩ rfl) (fun x2 G1 H locs hf hI => ?_)
  clear hO
  refine lv_aload_n hx hb dX0_lambda_ruleOf_5_6 rfl (lv_at hl 0 rfl) ?_
  refine lv_iload_n hx hb dX0_lambda_ruleOf_5_7 rfl (lv_at hl 3 rfl) ?_
  refine lv_iload_n hx hb dX0_lambda_ruleOf_5_8 rfl (lv_at hl 2 rfl) ?_
  obtain ⟨_, _, hO, hf⟩ := hf
  refine h_ki X hI (h_runV (As := [.int p3, .int p2]) X hI (h_recv X hI hO (show jC.1[0]? = some (RX0, TX0, 20) from rfl)) (mhX0_valueOf l Z D j Λ fr lo E a0 p3 p2 G1 _ hf H.size) (cwV 2 hts (lw_V q1879 q1881 qs27 q167 q1882) rfl rfl rfl (by decide +kernel) (by show fr + 2 + 1 ≤ fr + 3 ∧ 8 + (3 + 11) + (lo + 63) ≤ lo + 85; omega)) rfl hl.1 (Nat.le_of_ble_eq_true rfl) dX0_lambda_ruleOf_5_9 ⟨Nat.le_refl _, Nat.le_refl _⟩ rfl) (fun x4 G3 H locs hf hI => ?_)
  clear hO
  refine lv_icmp_eq (tgt := 19) hx hb dX0_lambda_ruleOf_5_12 (by decide) (fun c5 => ?_) (fun c5 => ?_)
  · have hf := hf.1 c5
    refine lv_iconst (v := 0) hx hb dX0_lambda_ruleOf_5_19 (by decide) ?_
    exact hret rfl hf hI dX0_lambda_ruleOf_5_20 (Nat.le_refl _) (Nat.le_refl _)
  · have hf := hf.2 c5
    refine lv_iconst (v := 1) hx hb dX0_lambda_ruleOf_5_15 (by decide) ?_
    refine lv_goto (tgt := 20) hx hb dX0_lambda_ruleOf_5_16 (by decide) ?_
    exact hret rfl hf hI dX0_lambda_ruleOf_5_20 (Nat.le_refl _) (Nat.le_refl _)
/-! MergeJudge.lambda$ruleOf$6(IIII)Z -/
def hX0_lambda_ruleOf_6 (j : JX) (Λ : JLam) (a0 : Nat) (p1 : Int32) (p2 : Int32) (p3 : Int32) (p4 : Int32) (G : HG) (post : Int32 → HG → Prop) : Prop :=
  isO G a0 0 (hX0_valueOf j Λ a0 p4 p1 G fun x2 G1 => isO G1 a0 0 (hX0_valueOf j Λ a0 p4 p2 G1 fun x4 G3 => (p3 < (x2 + x4) → (post (0 : Int32) G3)) ∧ (¬ p3 < (x2 + x4) → (post (1 : Int32) G3))))
abbrev rhX0_lambda_ruleOf_6 (fr lo : Nat) : Room := { frames := fr + 3, cells := 0, slots := 0, locals := lo + 85 }
theorem mhX0_lambda_ruleOf_6 (l : Launch) (Z : (Nat → Prop) → State → Heap → Prop) (D : va_G) (j : JX) (Λ : JLam) (fr lo : Nat) (E : JE l Z D j Λ fr lo) (a0 : Nat) (p1 : Int32) (p2 : Int32) (p3 : Int32) (p4 : Int32) (G : HG) (post : Int32 → HG → Prop) (hf : hX0_lambda_ruleOf_6 j Λ a0 p1 p2 p3 p4 G post) : HMi l yX0_lambda_ruleOf_6 (ws_ yX0_lambda_ruleOf_6 cX0_lambda_ruleOf_6 5 (some .boolean)) (rhX0_lambda_ruleOf_6 fr lo) D jC (jty j.1) Z G [.ref a0, .int p1, .int p2, .int p3, .int p4] post 0 0 := by
  refine h_openz E.1 (by decide) (by exact Nat.le_of_ble_eq_true rfl) (fun p e s m args below meth c ls A0 Q X hI hnd hnm hl hret => ?_)
  have X : XC p s m args meth c cX0_lambda_ruleOf_6 5 RX0 D jC (jty j.1) A0 Z := X
  have hx := X.1
  have hb := X.2.1
  have hown := X.2.2.2.1
  have hts := X.2.2.2.2.1
  have hl : lv_has ls 5 [(0, .ref a0), (1, .int p1), (2, .int p2), (3, .int p3), (4, .int p4)] := by exact hl
  unfold hX0_lambda_ruleOf_6 at hf
  obtain ⟨H, eH⟩ : ∃ H, H = s.heap := ⟨_, rfl⟩
  obtain ⟨locs, eL⟩ : ∃ locs : List Loc, locs = [] := ⟨_, rfl⟩
  have hI : HI D jC G A0 s.heap H locs := by rw [eH, eL]; exact hI
  rw [← eL]
  suffices h : W p l e (rhX0_lambda_ruleOf_6 fr lo) s m args below meth c H locs 0 0 Q (F0 m 0 ls []) by rw [eH] at h; exact h
  clear eH eL
  refine lv_aload_n hx hb dX0_lambda_ruleOf_6_0 rfl (lv_at hl 0 rfl) ?_
  refine lv_iload hx hb dX0_lambda_ruleOf_6_1 (lv_at hl 4 rfl) ?_
  refine lv_iload_n hx hb dX0_lambda_ruleOf_6_3 rfl (lv_at hl 1 rfl) ?_
  obtain ⟨_, _, hO, hf⟩ := hf
  refine h_ki X hI (h_runV (As := [.int p4, .int p1]) X hI (h_recv X hI hO (show jC.1[0]? = some (RX0, TX0, 20) from rfl)) (mhX0_valueOf l Z D j Λ fr lo E a0 p4 p1 G _ hf H.size) (cwV 2 hts (lw_V q1879 q1881 qs27 q167 q1882) rfl rfl rfl (by decide +kernel) (by show fr + 2 + 1 ≤ fr + 3 ∧ 8 + (3 + 11) + (lo + 63) ≤ lo + 85; omega)) rfl hl.1 (Nat.le_of_ble_eq_true rfl) dX0_lambda_ruleOf_6_4 ⟨Nat.le_refl _, Nat.le_refl _⟩ rfl) (fun x2 G1 H locs hf hI => ?_)
  clear hO
  refine lv_aload_n hx hb dX0_lambda_ruleOf_6_7 rfl (lv_at hl 0 rfl) ?_
  refine lv_iload hx hb dX0_lambda_ruleOf_6_8 (lv_at hl 4 rfl) ?_
  refine lv_iload_n hx hb dX0_lambda_ruleOf_6_10 rfl (lv_at hl 2 rfl) ?_
  obtain ⟨_, _, hO, hf⟩ := hf
  refine h_ki X hI (h_runV (As := [.int p4, .int p2]) X hI (h_recv X hI hO (show jC.1[0]? = some (RX0, TX0, 20) from rfl)) (mhX0_valueOf l Z D j Λ fr lo E a0 p4 p2 G1 _ hf H.size) (cwV 2 hts (lw_V q1879 q1881 qs27 q167 q1882) rfl rfl rfl (by decide +kernel) (by show fr + 2 + 1 ≤ fr + 3 ∧ 8 + (3 + 11) + (lo + 63) ≤ lo + 85; omega)) rfl hl.1 (Nat.le_of_ble_eq_true rfl) dX0_lambda_ruleOf_6_11 ⟨Nat.le_refl _, Nat.le_refl _⟩ rfl) (fun x4 G3 H locs hf hI => ?_)
  clear hO
  refine lv_iadd hx hb dX0_lambda_ruleOf_6_14 ?_
  refine lv_iload_n hx hb dX0_lambda_ruleOf_6_15 rfl (lv_at hl 3 rfl) ?_
  refine lv_icmp_gt (tgt := 23) hx hb dX0_lambda_ruleOf_6_16 (by decide) (fun c5 => ?_) (fun c5 => ?_)
  · have hf := hf.1 c5
    refine lv_iconst (v := 0) hx hb dX0_lambda_ruleOf_6_23 (by decide) ?_
    exact hret rfl hf hI dX0_lambda_ruleOf_6_24 (Nat.le_refl _) (Nat.le_refl _)
  · have hf := hf.2 c5
    refine lv_iconst (v := 1) hx hb dX0_lambda_ruleOf_6_19 (by decide) ?_
    refine lv_goto (tgt := 24) hx hb dX0_lambda_ruleOf_6_20 (by decide) ?_
    exact hret rfl hf hI dX0_lambda_ruleOf_6_24 (Nat.le_refl _) (Nat.le_refl _)
/-! MergeJudge.lambda$ruleOf$7(III)Z -/
def hX0_lambda_ruleOf_7 (j : JX) (Λ : JLam) (a0 : Nat) (p1 : Int32) (p2 : Int32) (p3 : Int32) (G : HG) (post : Int32 → HG → Prop) : Prop :=
  isO G a0 0 (hX0_valueOf j Λ a0 p3 p1 G fun x2 G1 => isO G1 a0 0 (hX0_valueOf j Λ a0 p3 p2 G1 fun x4 G3 => (x4 < x2 → (post (0 : Int32) G3)) ∧ (¬ x4 < x2 → (post (1 : Int32) G3))))
abbrev rhX0_lambda_ruleOf_7 (fr lo : Nat) : Room := { frames := fr + 3, cells := 0, slots := 0, locals := lo + 85 }
theorem mhX0_lambda_ruleOf_7 (l : Launch) (Z : (Nat → Prop) → State → Heap → Prop) (D : va_G) (j : JX) (Λ : JLam) (fr lo : Nat) (E : JE l Z D j Λ fr lo) (a0 : Nat) (p1 : Int32) (p2 : Int32) (p3 : Int32) (G : HG) (post : Int32 → HG → Prop) (hf : hX0_lambda_ruleOf_7 j Λ a0 p1 p2 p3 G post) : HMi l yX0_lambda_ruleOf_7 (ws_ yX0_lambda_ruleOf_7 cX0_lambda_ruleOf_7 4 (some .boolean)) (rhX0_lambda_ruleOf_7 fr lo) D jC (jty j.1) Z G [.ref a0, .int p1, .int p2, .int p3] post 0 0 := by
  refine h_openz E.1 (by decide) (by exact Nat.le_of_ble_eq_true rfl) (fun p e s m args below meth c ls A0 Q X hI hnd hnm hl hret => ?_)
  have X : XC p s m args meth c cX0_lambda_ruleOf_7 4 RX0 D jC (jty j.1) A0 Z := X
  have hx := X.1
  have hb := X.2.1
  have hown := X.2.2.2.1
  have hts := X.2.2.2.2.1
  have hl : lv_has ls 4 [(0, .ref a0), (1, .int p1), (2, .int p2), (3, .int p3)] := by exact hl
  unfold hX0_lambda_ruleOf_7 at hf
  obtain ⟨H, eH⟩ : ∃ H, H = s.heap := ⟨_, rfl⟩
  obtain ⟨locs, eL⟩ : ∃ locs : List Loc, locs = [] := ⟨_, rfl⟩
  have hI : HI D jC G A0 s.heap H locs := by rw [eH, eL]; exact hI
  rw [← eL]
  suffices h : W p l e (rhX0_lambda_ruleOf_7 fr lo) s m args below meth c H locs 0 0 Q (F0 m 0 ls []) by rw [eH] at h; exact h
  clear eH eL
  refine lv_aload_n hx hb dX0_lambda_ruleOf_7_0 rfl (lv_at hl 0 rfl) ?_
  refine lv_iload_n hx hb dX0_lambda_ruleOf_7_1 rfl (lv_at hl 3 rfl) ?_
  refine lv_iload_n hx hb dX0_lambda_ruleOf_7_2 rfl (lv_at hl 1 rfl) ?_
  obtain ⟨_, _, hO, hf⟩ := hf
  refine h_ki X hI (h_runV (As := [.int p3, .int p1]) X hI (h_recv X hI hO (show jC.1[0]? = some (RX0, TX0, 20) from rfl)) (mhX0_valueOf l Z D j Λ fr lo E a0 p3 p1 G _ hf H.size) (cwV 2 hts (lw_V q1879 q1881 qs27 q167 q1882) rfl rfl rfl (by decide +kernel) (by show fr + 2 + 1 ≤ fr + 3 ∧ 8 + (3 + 11) + (lo + 63) ≤ lo + 85; omega)) rfl hl.1 (Nat.le_of_ble_eq_true rfl) dX0_lambda_ruleOf_7_3 ⟨Nat.le_refl _, Nat.le_refl _⟩ rfl) (fun x2 G1 H locs hf hI => ?_)
  clear hO
  refine lv_aload_n hx hb dX0_lambda_ruleOf_7_6 rfl (lv_at hl 0 rfl) ?_
  refine lv_iload_n hx hb dX0_lambda_ruleOf_7_7 rfl (lv_at hl 3 rfl) ?_
  refine lv_iload_n hx hb dX0_lambda_ruleOf_7_8 rfl (lv_at hl 2 rfl) ?_
  obtain ⟨_, _, hO, hf⟩ := hf
  refine h_ki X hI (h_runV (As := [.int p3, .int p2]) X hI (h_recv X hI hO (show jC.1[0]? = some (RX0, TX0, 20) from rfl)) (mhX0_valueOf l Z D j Λ fr lo E a0 p3 p2 G1 _ hf H.size) (cwV 2 hts (lw_V q1879 q1881 qs27 q167 q1882) rfl rfl rfl (by decide +kernel) (by show fr + 2 + 1 ≤ fr + 3 ∧ 8 + (3 + 11) + (lo + 63) ≤ lo + 85; omega)) rfl hl.1 (Nat.le_of_ble_eq_true rfl) dX0_lambda_ruleOf_7_9 ⟨Nat.le_refl _, Nat.le_refl _⟩ rfl) (fun x4 G3 H locs hf hI => ?_)
  clear hO
  refine lv_icmp_gt (tgt := 19) hx hb dX0_lambda_ruleOf_7_12 (by decide) (fun c5 => ?_) (fun c5 => ?_)
  · have hf := hf.1 c5
    refine lv_iconst (v := 0) hx hb dX0_lambda_ruleOf_7_19 (by decide) ?_
    exact hret rfl hf hI dX0_lambda_ruleOf_7_20 (Nat.le_refl _) (Nat.le_refl _)
  · have hf := hf.2 c5
    refine lv_iconst (v := 1) hx hb dX0_lambda_ruleOf_7_15 (by decide) ?_
    refine lv_goto (tgt := 20) hx hb dX0_lambda_ruleOf_7_16 (by decide) ?_
    exact hret rfl hf hI dX0_lambda_ruleOf_7_20 (Nat.le_refl _) (Nat.le_refl _)
/-! MergeJudge.lambda$ruleOf$8(IIIII)Z -/
def hX0_lambda_ruleOf_8_b23 (j : JX) (Λ : JLam) (a0 : Nat) (p1 : Int32) (p2 : Int32) (p3 : Int32) (p4 : Int32) (p5 : Int32) (post : Int32 → HG → Prop) (G : HG) : Prop :=
  post (1 : Int32) G
def hX0_lambda_ruleOf_8 (j : JX) (Λ : JLam) (a0 : Nat) (p1 : Int32) (p2 : Int32) (p3 : Int32) (p4 : Int32) (p5 : Int32) (G : HG) (post : Int32 → HG → Prop) : Prop :=
  isO G a0 0 (hX0_valueOf j Λ a0 p5 p1 G fun x2 G1 => (x2 < p2 → (hX0_lambda_ruleOf_8_b23 j Λ a0 p1 p2 p3 p4 p5 post G1)) ∧ (¬ x2 < p2 → (isO G1 a0 0 (hX0_valueOf j Λ a0 p5 p3 G1 fun x5 G4 => (x5 < p4 → (post (0 : Int32) G4)) ∧ (¬ x5 < p4 → (hX0_lambda_ruleOf_8_b23 j Λ a0 p1 p2 p3 p4 p5 post G4))))))
abbrev rhX0_lambda_ruleOf_8 (fr lo : Nat) : Room := { frames := fr + 3, cells := 0, slots := 0, locals := lo + 85 }
theorem mhX0_lambda_ruleOf_8 (l : Launch) (Z : (Nat → Prop) → State → Heap → Prop) (D : va_G) (j : JX) (Λ : JLam) (fr lo : Nat) (E : JE l Z D j Λ fr lo) (a0 : Nat) (p1 : Int32) (p2 : Int32) (p3 : Int32) (p4 : Int32) (p5 : Int32) (G : HG) (post : Int32 → HG → Prop) (hf : hX0_lambda_ruleOf_8 j Λ a0 p1 p2 p3 p4 p5 G post) : HMi l yX0_lambda_ruleOf_8 (ws_ yX0_lambda_ruleOf_8 cX0_lambda_ruleOf_8 6 (some .boolean)) (rhX0_lambda_ruleOf_8 fr lo) D jC (jty j.1) Z G [.ref a0, .int p1, .int p2, .int p3, .int p4, .int p5] post 0 0 := by
  refine h_openz E.1 (by decide) (by exact Nat.le_of_ble_eq_true rfl) (fun p e s m args below meth c ls A0 Q X hI hnd hnm hl hret => ?_)
  have X : XC p s m args meth c cX0_lambda_ruleOf_8 6 RX0 D jC (jty j.1) A0 Z := X
  have hx := X.1
  have hb := X.2.1
  have hown := X.2.2.2.1
  have hts := X.2.2.2.2.1
  have J23 : ∀ (G : HG), hX0_lambda_ruleOf_8_b23 j Λ a0 p1 p2 p3 p4 p5 post G → ∀ (H : Heap) (locs : List Loc), HI D jC G A0 s.heap H locs → ∀ (ls : Array Slot), lv_has ls 6 [] → W p l e (rhX0_lambda_ruleOf_8 fr lo) s m args below meth c H locs 0 0 Q (F0 m 23 ls []) := by
    intro G hf H locs hI ls hl
    unfold hX0_lambda_ruleOf_8_b23 at hf
    refine lv_iconst (v := 1) hx hb dX0_lambda_ruleOf_8_23 (by decide) ?_
    refine lv_goto (tgt := 28) hx hb dX0_lambda_ruleOf_8_24 (by decide) ?_
    exact hret rfl hf hI dX0_lambda_ruleOf_8_28 (Nat.le_refl _) (Nat.le_refl _)
  have hl : lv_has ls 6 [(0, .ref a0), (1, .int p1), (2, .int p2), (3, .int p3), (4, .int p4), (5, .int p5)] := by exact hl
  unfold hX0_lambda_ruleOf_8 at hf
  obtain ⟨H, eH⟩ : ∃ H, H = s.heap := ⟨_, rfl⟩
  obtain ⟨locs, eL⟩ : ∃ locs : List Loc, locs = [] := ⟨_, rfl⟩
  have hI : HI D jC G A0 s.heap H locs := by rw [eH, eL]; exact hI
  rw [← eL]
  suffices h : W p l e (rhX0_lambda_ruleOf_8 fr lo) s m args below meth c H locs 0 0 Q (F0 m 0 ls []) by rw [eH] at h; exact h
  clear eH eL
  refine lv_aload_n hx hb dX0_lambda_ruleOf_8_0 rfl (lv_at hl 0 rfl) ?_
  refine lv_iload hx hb dX0_lambda_ruleOf_8_1 (lv_at hl 5 rfl) ?_
  refine lv_iload_n hx hb dX0_lambda_ruleOf_8_3 rfl (lv_at hl 1 rfl) ?_
  obtain ⟨_, _, hO, hf⟩ := hf
  refine h_ki X hI (h_runV (As := [.int p5, .int p1]) X hI (h_recv X hI hO (show jC.1[0]? = some (RX0, TX0, 20) from rfl)) (mhX0_valueOf l Z D j Λ fr lo E a0 p5 p1 G _ hf H.size) (cwV 2 hts (lw_V q1879 q1881 qs27 q167 q1882) rfl rfl rfl (by decide +kernel) (by show fr + 2 + 1 ≤ fr + 3 ∧ 8 + (3 + 11) + (lo + 63) ≤ lo + 85; omega)) rfl hl.1 (Nat.le_of_ble_eq_true rfl) dX0_lambda_ruleOf_8_4 ⟨Nat.le_refl _, Nat.le_refl _⟩ rfl) (fun x2 G1 H locs hf hI => ?_)
  clear hO
  refine lv_iload_n hx hb dX0_lambda_ruleOf_8_7 rfl (lv_at hl 2 rfl) ?_
  refine lv_icmp_lt (tgt := 23) hx hb dX0_lambda_ruleOf_8_8 (by decide) (fun c3 => ?_) (fun c3 => ?_)
  · have hf := hf.1 c3
    exact J23 G1 hf H locs hI ls (lv_sub hl [] rfl)
  · have hf := hf.2 c3
    refine lv_aload_n hx hb dX0_lambda_ruleOf_8_11 rfl (lv_at hl 0 rfl) ?_
    refine lv_iload hx hb dX0_lambda_ruleOf_8_12 (lv_at hl 5 rfl) ?_
    refine lv_iload_n hx hb dX0_lambda_ruleOf_8_14 rfl (lv_at hl 3 rfl) ?_
    obtain ⟨_, _, hO, hf⟩ := hf
    refine h_ki X hI (h_runV (As := [.int p5, .int p3]) X hI (h_recv X hI hO (show jC.1[0]? = some (RX0, TX0, 20) from rfl)) (mhX0_valueOf l Z D j Λ fr lo E a0 p5 p3 G1 _ hf H.size) (cwV 2 hts (lw_V q1879 q1881 qs27 q167 q1882) rfl rfl rfl (by decide +kernel) (by show fr + 2 + 1 ≤ fr + 3 ∧ 8 + (3 + 11) + (lo + 63) ≤ lo + 85; omega)) rfl hl.1 (Nat.le_of_ble_eq_true rfl) dX0_lambda_ruleOf_8_15 ⟨Nat.le_refl _, Nat.le_refl _⟩ rfl) (fun x5 G4 H locs hf hI => ?_)
    clear hO
    refine lv_iload hx hb dX0_lambda_ruleOf_8_18 (lv_at hl 4 rfl) ?_
    refine lv_icmp_lt (tgt := 27) hx hb dX0_lambda_ruleOf_8_20 (by decide) (fun c6 => ?_) (fun c6 => ?_)
    · have hf := hf.1 c6
      refine lv_iconst (v := 0) hx hb dX0_lambda_ruleOf_8_27 (by decide) ?_
      exact hret rfl hf hI dX0_lambda_ruleOf_8_28 (Nat.le_refl _) (Nat.le_refl _)
    · have hf := hf.2 c6
      exact J23 G4 hf H locs hI ls (lv_sub hl [] rfl)
/-! MergeJudge.with(III)I -/
def hX0_with_b22 (j : JX) (Λ : JLam) (a0 : Nat) (p1 : Int32) (p2 : Int32) (p3 : Int32) (post : Int32 → HG → Prop) (G : HG) : Prop :=
  post ((-1) : Int32) G
def hX0_with (j : JX) (Λ : JLam) (a0 : Nat) (p1 : Int32) (p2 : Int32) (p3 : Int32) (G : HG) (post : Int32 → HG → Prop) : Prop :=
  (p1 = ((-1) : Int32) → (hX0_with_b22 j Λ a0 p1 p2 p3 post G)) ∧ (¬ p1 = ((-1) : Int32) → (gtQ G a0 0 1 fun q2 => nnq q2 fun a3 => gtI G a3 2 4 fun x4 => hX0_in j Λ p3.toInt64 (0 : Int64) x4.toInt64 G fun x6 G5 => (x6 = 0 → (hX0_with_b22 j Λ a0 p1 p2 p3 post G5)) ∧ (¬ x6 = 0 → (isO G5 a0 0 (hX0_valueOf j Λ a0 p1 p2 G5 fun x9 G8 => isO G8 a0 0 (hX0_unit j Λ a0 p2 G8 fun x11 G10 => post (p1 + ((p3 - x9) * x11)) G10))))))
abbrev rhX0_with (fr lo : Nat) : Room := { frames := fr + 3, cells := 0, slots := 0, locals := lo + 85 }
theorem mhX0_with (l : Launch) (Z : (Nat → Prop) → State → Heap → Prop) (D : va_G) (j : JX) (Λ : JLam) (fr lo : Nat) (E : JE l Z D j Λ fr lo) (a0 : Nat) (p1 : Int32) (p2 : Int32) (p3 : Int32) (G : HG) (post : Int32 → HG → Prop) (hf : hX0_with j Λ a0 p1 p2 p3 G post) : HMi l yX0_with (ws_ yX0_with cX0_with 4 (some .int)) (rhX0_with fr lo) D jC (jty j.1) Z G [.ref a0, .int p1, .int p2, .int p3] post 0 0 := by
  refine h_openi E.1 (by decide) (by exact Nat.le_of_ble_eq_true rfl) (fun p e s m args below meth c ls A0 Q X hI hnd hnm hl hret => ?_)
  have X : XC p s m args meth c cX0_with 4 RX0 D jC (jty j.1) A0 Z := X
  have hx := X.1
  have hb := X.2.1
  have hown := X.2.2.2.1
  have hts := X.2.2.2.2.1
  have J22 : ∀ (G : HG), hX0_with_b22 j Λ a0 p1 p2 p3 post G → ∀ (H : Heap) (locs : List Loc), HI D jC G A0 s.heap H locs → ∀ (ls : Array Slot), lv_has ls 4 [] → W p l e (rhX0_with fr lo) s m args below meth c H locs 0 0 Q (F0 m 22 ls []) := by
    intro G hf H locs hI ls hl
    unfold hX0_with_b22 at hf
    refine lv_iconst (v := -1) hx hb dX0_with_22 (by decide) ?_
    refine lv_goto (tgt := 42) hx hb dX0_with_23 (by decide) ?_
    exact hret hf hI dX0_with_42 (Nat.le_refl _) (Nat.le_refl _)
  have hl : lv_has ls 4 [(0, .ref a0), (1, .int p1), (2, .int p2), (3, .int p3)] := by exact hl
  unfold hX0_with at hf
  obtain ⟨H, eH⟩ : ∃ H, H = s.heap := ⟨_, rfl⟩
  obtain ⟨locs, eL⟩ : ∃ locs : List Loc, locs = [] := ⟨_, rfl⟩
  have hI : HI D jC G A0 s.heap H locs := by rw [eH, eL]; exact hI
  rw [← eL]
  suffices h : W p l e (rhX0_with fr lo) s m args below meth c H locs 0 0 Q (F0 m 0 ls []) by rw [eH] at h; exact h
  clear eH eL
  refine lv_iload_n hx hb dX0_with_0 rfl (lv_at hl 1 rfl) ?_
  refine lv_iconst (v := -1) hx hb dX0_with_1 (by decide) ?_
  refine lv_icmp_eq (tgt := 22) hx hb dX0_with_2 (by decide) (fun c1 => ?_) (fun c1 => ?_)
  · have hf := hf.1 c1
    exact J22 G hf H locs hI ls (lv_sub hl [] rfl)
  · have hf := hf.2 c1
    refine lv_iload_n hx hb dX0_with_5 rfl (lv_at hl 3 rfl) ?_
    refine lv_i2l hx hb dX0_with_6 rfl ?_
    refine lv_lconst (v := 0) hx hb dX0_with_7 (by decide) ?_
    refine lv_aload_n hx hb dX0_with_8 rfl (lv_at hl 0 rfl) ?_
    refine hr_gtQ X hI (rfl : jC.1[0]? = some (RX0, TX0, 20)) in_X0 1 (Nat.le_of_ble_eq_true rfl) hf q653 (fun _ h => h) dX0_with_9 (fun q2 hf => ?_)
    obtain ⟨a3, ea3, hf⟩ := hf
    revert hl hf
    subst ea3
    intro hl hf
    have hl : lv_has ls 4 [(0, .ref a0), (1, .int p1), (2, .int p2), (3, .int p3)] := hl
    refine hr_gtIN X hI (rfl : jC.1[2]? = some (RX2, TX2, 11)) in_X2 4 (Nat.le_of_ble_eq_true rfl) hf (E.nw X q490 rfl) (fun _ h => h) dX0_with_12 (fun x4 hf => ?_)
    refine lv_i2l hx hb dX0_with_15 rfl ?_
    refine h_ki X hI (h_runS (As := [.long p3.toInt64, .long 0, .long x4.toInt64]) X hI (mhX0_in l Z D j Λ fr lo E p3.toInt64 (0 : Int64) x4.toInt64 G _ hf H.size) (va_cwS 3 hts (lw_S q226 q227 q167 q228) rfl rfl rfl (by decide +kernel) (by show fr + 1 + 1 ≤ fr + 3 ∧ 8 + (6 + 11) + (lo + 40) ≤ lo + 85; omega)) rfl hl.1 (Nat.le_of_ble_eq_true rfl) dX0_with_16 ⟨Nat.le_refl _, Nat.le_refl _⟩ rfl) (fun x6 G5 H locs hf hI => ?_)
    refine lv_if_ne (tgt := 26) hx hb dX0_with_19 (by decide) (fun c7 => ?_) (fun c7 => ?_)
    · have hf := hf.2 c7
      refine lv_iload_n hx hb dX0_with_26 rfl (lv_at hl 1 rfl) ?_
      refine lv_iload_n hx hb dX0_with_27 rfl (lv_at hl 3 rfl) ?_
      refine lv_aload_n hx hb dX0_with_28 rfl (lv_at hl 0 rfl) ?_
      refine lv_iload_n hx hb dX0_with_29 rfl (lv_at hl 1 rfl) ?_
      refine lv_iload_n hx hb dX0_with_30 rfl (lv_at hl 2 rfl) ?_
      obtain ⟨_, _, hO, hf⟩ := hf
      refine h_ki X hI (h_runV (As := [.int p1, .int p2]) X hI (h_recv X hI hO (show jC.1[0]? = some (RX0, TX0, 20) from rfl)) (mhX0_valueOf l Z D j Λ fr lo E a0 p1 p2 G5 _ hf H.size) (cwV 2 hts (lw_V q1879 q1881 qs27 q167 q1882) rfl rfl rfl (by decide +kernel) (by show fr + 2 + 1 ≤ fr + 3 ∧ 8 + (3 + 11) + (lo + 63) ≤ lo + 85; omega)) rfl hl.1 (Nat.le_of_ble_eq_true rfl) dX0_with_31 ⟨Nat.le_refl _, Nat.le_refl _⟩ rfl) (fun x9 G8 H locs hf hI => ?_)
      clear hO
      refine lv_isub hx hb dX0_with_34 ?_
      refine lv_aload_n hx hb dX0_with_35 rfl (lv_at hl 0 rfl) ?_
      refine lv_iload_n hx hb dX0_with_36 rfl (lv_at hl 2 rfl) ?_
      obtain ⟨_, _, hO, hf⟩ := hf
      refine h_ki X hI (h_runV (As := [.int p2]) X hI (h_recv X hI hO (show jC.1[0]? = some (RX0, TX0, 20) from rfl)) (mhX0_unit l Z D j Λ fr lo E a0 p2 G8 _ hf H.size) (cwV 1 hts (lw_V q1883 q1885 qs28 q167 q1886) rfl rfl rfl (by decide +kernel) (by show fr + 1 + 1 ≤ fr + 3 ∧ 8 + (4 + 11) + (lo + 40) ≤ lo + 85; omega)) rfl hl.1 (Nat.le_of_ble_eq_true rfl) dX0_with_37 ⟨Nat.le_refl _, Nat.le_refl _⟩ rfl) (fun x11 G10 H locs hf hI => ?_)
      clear hO
      refine lv_imul hx hb dX0_with_40 ?_
      refine lv_iadd hx hb dX0_with_41 ?_
      exact hret hf hI dX0_with_42 (Nat.le_refl _) (Nat.le_refl _)
    · have hf := hf.1 c7
      exact J22 G5 hf H locs hI ls (lv_sub hl [] rfl)
/-! MergeJudge.lambda$stepOf$9(III)I -/
def hX0_lambda_stepOf_9 (j : JX) (Λ : JLam) (a0 : Nat) (p1 : Int32) (p2 : Int32) (p3 : Int32) (G : HG) (post : Int32 → HG → Prop) : Prop :=
  isO G a0 0 (hX0_valueOf j Λ a0 p3 p1 G fun x2 G1 => isO G1 a0 0 (hX0_with j Λ a0 p3 p1 (x2 + p2) G1 fun x4 G3 => post x4 G3))
abbrev rhX0_lambda_stepOf_9 (fr lo : Nat) : Room := { frames := fr + 4, cells := 0, slots := 0, locals := lo + 108 }
theorem mhX0_lambda_stepOf_9 (l : Launch) (Z : (Nat → Prop) → State → Heap → Prop) (D : va_G) (j : JX) (Λ : JLam) (fr lo : Nat) (E : JE l Z D j Λ fr lo) (a0 : Nat) (p1 : Int32) (p2 : Int32) (p3 : Int32) (G : HG) (post : Int32 → HG → Prop) (hf : hX0_lambda_stepOf_9 j Λ a0 p1 p2 p3 G post) : HMi l yX0_lambda_stepOf_9 (ws_ yX0_lambda_stepOf_9 cX0_lambda_stepOf_9 4 (some .int)) (rhX0_lambda_stepOf_9 fr lo) D jC (jty j.1) Z G [.ref a0, .int p1, .int p2, .int p3] post 0 0 := by
  refine h_openi E.1 (by decide) (by exact Nat.le_of_ble_eq_true rfl) (fun p e s m args below meth c ls A0 Q X hI hnd hnm hl hret => ?_)
  have X : XC p s m args meth c cX0_lambda_stepOf_9 4 RX0 D jC (jty j.1) A0 Z := X
  have hx := X.1
  have hb := X.2.1
  have hown := X.2.2.2.1
  have hts := X.2.2.2.2.1
  have hl : lv_has ls 4 [(0, .ref a0), (1, .int p1), (2, .int p2), (3, .int p3)] := by exact hl
  unfold hX0_lambda_stepOf_9 at hf
  obtain ⟨H, eH⟩ : ∃ H, H = s.heap := ⟨_, rfl⟩
  obtain ⟨locs, eL⟩ : ∃ locs : List Loc, locs = [] := ⟨_, rfl⟩
  have hI : HI D jC G A0 s.heap H locs := by rw [eH, eL]; exact hI
  rw [← eL]
  suffices h : W p l e (rhX0_lambda_stepOf_9 fr lo) s m args below meth c H locs 0 0 Q (F0 m 0 ls []) by rw [eH] at h; exact h
  clear eH eL
  refine lv_aload_n hx hb dX0_lambda_stepOf_9_0 rfl (lv_at hl 0 rfl) ?_
  refine lv_iload_n hx hb dX0_lambda_stepOf_9_1 rfl (lv_at hl 3 rfl) ?_
  refine lv_iload_n hx hb dX0_lambda_stepOf_9_2 rfl (lv_at hl 1 rfl) ?_
  refine lv_aload_n hx hb dX0_lambda_stepOf_9_3 rfl (lv_at hl 0 rfl) ?_
  refine lv_iload_n hx hb dX0_lambda_stepOf_9_4 rfl (lv_at hl 3 rfl) ?_
  refine lv_iload_n hx hb dX0_lambda_stepOf_9_5 rfl (lv_at hl 1 rfl) ?_
  obtain ⟨_, _, hO, hf⟩ := hf
  refine h_ki X hI (h_runV (As := [.int p3, .int p1]) X hI (h_recv X hI hO (show jC.1[0]? = some (RX0, TX0, 20) from rfl)) (mhX0_valueOf l Z D j Λ fr lo E a0 p3 p1 G _ hf H.size) (cwV 2 hts (lw_V q1879 q1881 qs27 q167 q1882) rfl rfl rfl (by decide +kernel) (by show fr + 2 + 1 ≤ fr + 4 ∧ 8 + (3 + 11) + (lo + 63) ≤ lo + 108; omega)) rfl hl.1 (Nat.le_of_ble_eq_true rfl) dX0_lambda_stepOf_9_6 ⟨Nat.le_refl _, Nat.le_refl _⟩ rfl) (fun x2 G1 H locs hf hI => ?_)
  clear hO
  refine lv_iload_n hx hb dX0_lambda_stepOf_9_9 rfl (lv_at hl 2 rfl) ?_
  refine lv_iadd hx hb dX0_lambda_stepOf_9_10 ?_
  obtain ⟨_, _, hO, hf⟩ := hf
  refine h_ki X hI (h_runV (As := [.int p3, .int p1, .int (x2 + p2)]) X hI (h_recv X hI hO (show jC.1[0]? = some (RX0, TX0, 20) from rfl)) (mhX0_with l Z D j Λ fr lo E a0 p3 p1 (x2 + p2) G1 _ hf H.size) (cwV 3 hts (lw_V q1919 q1921 qs36 q167 q1922) rfl rfl rfl (by decide +kernel) (by show fr + 3 + 1 ≤ fr + 4 ∧ 8 + (4 + 11) + (lo + 85) ≤ lo + 108; omega)) rfl hl.1 (Nat.le_of_ble_eq_true rfl) dX0_lambda_stepOf_9_11 ⟨Nat.le_refl _, Nat.le_refl _⟩ rfl) (fun x4 G3 H locs hf hI => ?_)
  clear hO
  exact hret hf hI dX0_lambda_stepOf_9_14 (Nat.le_refl _) (Nat.le_refl _)
/-! MergeJudge.lambda$stepOf$10(III)I -/
def hX0_lambda_stepOf_10 (j : JX) (Λ : JLam) (a0 : Nat) (p1 : Int32) (p2 : Int32) (p3 : Int32) (G : HG) (post : Int32 → HG → Prop) : Prop :=
  isO G a0 0 (hX0_valueOf j Λ a0 p3 p1 G fun x2 G1 => isO G1 a0 0 (hX0_with j Λ a0 p3 p1 (x2 - p2) G1 fun x4 G3 => post x4 G3))
abbrev rhX0_lambda_stepOf_10 (fr lo : Nat) : Room := { frames := fr + 4, cells := 0, slots := 0, locals := lo + 108 }
theorem mhX0_lambda_stepOf_10 (l : Launch) (Z : (Nat → Prop) → State → Heap → Prop) (D : va_G) (j : JX) (Λ : JLam) (fr lo : Nat) (E : JE l Z D j Λ fr lo) (a0 : Nat) (p1 : Int32) (p2 : Int32) (p3 : Int32) (G : HG) (post : Int32 → HG → Prop) (hf : hX0_lambda_stepOf_10 j Λ a0 p1 p2 p3 G post) : HMi l yX0_lambda_stepOf_10 (ws_ yX0_lambda_stepOf_10 cX0_lambda_stepOf_10 4 (some .int)) (rhX0_lambda_stepOf_10 fr lo) D jC (jty j.1) Z G [.ref a0, .int p1, .int p2, .int p3] post 0 0 := by
  refine h_openi E.1 (by decide) (by exact Nat.le_of_ble_eq_true rfl) (fun p e s m args below meth c ls A0 Q X hI hnd hnm hl hret => ?_)
  have X : XC p s m args meth c cX0_lambda_stepOf_10 4 RX0 D jC (jty j.1) A0 Z := X
  have hx := X.1
  have hb := X.2.1
  have hown := X.2.2.2.1
  have hts := X.2.2.2.2.1
  have hl : lv_has ls 4 [(0, .ref a0), (1, .int p1), (2, .int p2), (3, .int p3)] := by exact hl
  unfold hX0_lambda_stepOf_10 at hf
  obtain ⟨H, eH⟩ : ∃ H, H = s.heap := ⟨_, rfl⟩
  obtain ⟨locs, eL⟩ : ∃ locs : List Loc, locs = [] := ⟨_, rfl⟩
  have hI : HI D jC G A0 s.heap H locs := by rw [eH, eL]; exact hI
  rw [← eL]
  suffices h : W p l e (rhX0_lambda_stepOf_10 fr lo) s m args below meth c H locs 0 0 Q (F0 m 0 ls []) by rw [eH] at h; exact h
  clear eH eL
  refine lv_aload_n hx hb dX0_lambda_stepOf_10_0 rfl (lv_at hl 0 rfl) ?_
  refine lv_iload_n hx hb dX0_lambda_stepOf_10_1 rfl (lv_at hl 3 rfl) ?_
  refine lv_iload_n hx hb dX0_lambda_stepOf_10_2 rfl (lv_at hl 1 rfl) ?_
  refine lv_aload_n hx hb dX0_lambda_stepOf_10_3 rfl (lv_at hl 0 rfl) ?_
  refine lv_iload_n hx hb dX0_lambda_stepOf_10_4 rfl (lv_at hl 3 rfl) ?_
  refine lv_iload_n hx hb dX0_lambda_stepOf_10_5 rfl (lv_at hl 1 rfl) ?_
  obtain ⟨_, _, hO, hf⟩ := hf
  refine h_ki X hI (h_runV (As := [.int p3, .int p1]) X hI (h_recv X hI hO (show jC.1[0]? = some (RX0, TX0, 20) from rfl)) (mhX0_valueOf l Z D j Λ fr lo E a0 p3 p1 G _ hf H.size) (cwV 2 hts (lw_V q1879 q1881 qs27 q167 q1882) rfl rfl rfl (by decide +kernel) (by show fr + 2 + 1 ≤ fr + 4 ∧ 8 + (3 + 11) + (lo + 63) ≤ lo + 108; omega)) rfl hl.1 (Nat.le_of_ble_eq_true rfl) dX0_lambda_stepOf_10_6 ⟨Nat.le_refl _, Nat.le_refl _⟩ rfl) (fun x2 G1 H locs hf hI => ?_)
  clear hO
  refine lv_iload_n hx hb dX0_lambda_stepOf_10_9 rfl (lv_at hl 2 rfl) ?_
  refine lv_isub hx hb dX0_lambda_stepOf_10_10 ?_
  obtain ⟨_, _, hO, hf⟩ := hf
  refine h_ki X hI (h_runV (As := [.int p3, .int p1, .int (x2 - p2)]) X hI (h_recv X hI hO (show jC.1[0]? = some (RX0, TX0, 20) from rfl)) (mhX0_with l Z D j Λ fr lo E a0 p3 p1 (x2 - p2) G1 _ hf H.size) (cwV 3 hts (lw_V q1919 q1921 qs36 q167 q1922) rfl rfl rfl (by decide +kernel) (by show fr + 3 + 1 ≤ fr + 4 ∧ 8 + (4 + 11) + (lo + 85) ≤ lo + 108; omega)) rfl hl.1 (Nat.le_of_ble_eq_true rfl) dX0_lambda_stepOf_10_11 ⟨Nat.le_refl _, Nat.le_refl _⟩ rfl) (fun x4 G3 H locs hf hI => ?_)
  clear hO
  exact hret hf hI dX0_lambda_stepOf_10_14 (Nat.le_refl _) (Nat.le_refl _)
/-! MergeJudge.lambda$stepOf$11(III)I -/
def hX0_lambda_stepOf_11 (j : JX) (Λ : JLam) (a0 : Nat) (p1 : Int32) (p2 : Int32) (p3 : Int32) (G : HG) (post : Int32 → HG → Prop) : Prop :=
  isO G a0 0 (hX0_with j Λ a0 p3 p1 p2 G fun x2 G1 => post x2 G1)
abbrev rhX0_lambda_stepOf_11 (fr lo : Nat) : Room := { frames := fr + 4, cells := 0, slots := 0, locals := lo + 108 }
theorem mhX0_lambda_stepOf_11 (l : Launch) (Z : (Nat → Prop) → State → Heap → Prop) (D : va_G) (j : JX) (Λ : JLam) (fr lo : Nat) (E : JE l Z D j Λ fr lo) (a0 : Nat) (p1 : Int32) (p2 : Int32) (p3 : Int32) (G : HG) (post : Int32 → HG → Prop) (hf : hX0_lambda_stepOf_11 j Λ a0 p1 p2 p3 G post) : HMi l yX0_lambda_stepOf_11 (ws_ yX0_lambda_stepOf_11 cX0_lambda_stepOf_11 4 (some .int)) (rhX0_lambda_stepOf_11 fr lo) D jC (jty j.1) Z G [.ref a0, .int p1, .int p2, .int p3] post 0 0 := by
  refine h_openi E.1 (by decide) (by exact Nat.le_of_ble_eq_true rfl) (fun p e s m args below meth c ls A0 Q X hI hnd hnm hl hret => ?_)
  have X : XC p s m args meth c cX0_lambda_stepOf_11 4 RX0 D jC (jty j.1) A0 Z := X
  have hx := X.1
  have hb := X.2.1
  have hown := X.2.2.2.1
  have hts := X.2.2.2.2.1
  have hl : lv_has ls 4 [(0, .ref a0), (1, .int p1), (2, .int p2), (3, .int p3)] := by exact hl
  unfold hX0_lambda_stepOf_11 at hf
  obtain ⟨H, eH⟩ : ∃ H, H = s.heap := ⟨_, rfl⟩
  obtain ⟨locs, eL⟩ : ∃ locs : List Loc, locs = [] := ⟨_, rfl⟩
  have hI : HI D jC G A0 s.heap H locs := by rw [eH, eL]; exact hI
  rw [← eL]
  suffices h : W p l e (rhX0_lambda_stepOf_11 fr lo) s m args below meth c H locs 0 0 Q (F0 m 0 ls []) by rw [eH] at h; exact h
  clear eH eL
  refine lv_aload_n hx hb dX0_lambda_stepOf_11_0 rfl (lv_at hl 0 rfl) ?_
  refine lv_iload_n hx hb dX0_lambda_stepOf_11_1 rfl (lv_at hl 3 rfl) ?_
  refine lv_iload_n hx hb dX0_lambda_stepOf_11_2 rfl (lv_at hl 1 rfl) ?_
  refine lv_iload_n hx hb dX0_lambda_stepOf_11_3 rfl (lv_at hl 2 rfl) ?_
  obtain ⟨_, _, hO, hf⟩ := hf
  refine h_ki X hI (h_runV (As := [.int p3, .int p1, .int p2]) X hI (h_recv X hI hO (show jC.1[0]? = some (RX0, TX0, 20) from rfl)) (mhX0_with l Z D j Λ fr lo E a0 p3 p1 p2 G _ hf H.size) (cwV 3 hts (lw_V q1919 q1921 qs36 q167 q1922) rfl rfl rfl (by decide +kernel) (by show fr + 3 + 1 ≤ fr + 4 ∧ 8 + (4 + 11) + (lo + 85) ≤ lo + 108; omega)) rfl hl.1 (Nat.le_of_ble_eq_true rfl) dX0_lambda_stepOf_11_4 ⟨Nat.le_refl _, Nat.le_refl _⟩ rfl) (fun x2 G1 H locs hf hI => ?_)
  clear hO
  exact hret hf hI dX0_lambda_stepOf_11_7 (Nat.le_refl _) (Nat.le_refl _)
/-! MergeJudge.lambda$stepOf$12(IIII)I -/
def hX0_lambda_stepOf_12 (j : JX) (Λ : JLam) (a0 : Nat) (p1 : Int32) (p2 : Int32) (p3 : Int32) (p4 : Int32) (G : HG) (post : Int32 → HG → Prop) : Prop :=
  isO G a0 0 (hX0_valueOf j Λ a0 p4 p1 G fun x2 G1 => isO G1 a0 0 (hX0_with j Λ a0 p4 p1 (x2 - p2) G1 fun x4 G3 => isO G3 a0 0 (hX0_valueOf j Λ a0 p4 p3 G3 fun x6 G5 => isO G5 a0 0 (hX0_with j Λ a0 x4 p3 (x6 + p2) G5 fun x8 G7 => post x8 G7))))
abbrev rhX0_lambda_stepOf_12 (fr lo : Nat) : Room := { frames := fr + 4, cells := 0, slots := 0, locals := lo + 108 }
theorem mhX0_lambda_stepOf_12 (l : Launch) (Z : (Nat → Prop) → State → Heap → Prop) (D : va_G) (j : JX) (Λ : JLam) (fr lo : Nat) (E : JE l Z D j Λ fr lo) (a0 : Nat) (p1 : Int32) (p2 : Int32) (p3 : Int32) (p4 : Int32) (G : HG) (post : Int32 → HG → Prop) (hf : hX0_lambda_stepOf_12 j Λ a0 p1 p2 p3 p4 G post) : HMi l yX0_lambda_stepOf_12 (ws_ yX0_lambda_stepOf_12 cX0_lambda_stepOf_12 5 (some .int)) (rhX0_lambda_stepOf_12 fr lo) D jC (jty j.1) Z G [.ref a0, .int p1, .int p2, .int p3, .int p4] post 0 0 := by
  refine h_openi E.1 (by decide) (by exact Nat.le_of_ble_eq_true rfl) (fun p e s m args below meth c ls A0 Q X hI hnd hnm hl hret => ?_)
  have X : XC p s m args meth c cX0_lambda_stepOf_12 5 RX0 D jC (jty j.1) A0 Z := X
  have hx := X.1
  have hb := X.2.1
  have hown := X.2.2.2.1
  have hts := X.2.2.2.2.1
  have hl : lv_has ls 5 [(0, .ref a0), (1, .int p1), (2, .int p2), (3, .int p3), (4, .int p4)] := by exact hl
  unfold hX0_lambda_stepOf_12 at hf
  obtain ⟨H, eH⟩ : ∃ H, H = s.heap := ⟨_, rfl⟩
  obtain ⟨locs, eL⟩ : ∃ locs : List Loc, locs = [] := ⟨_, rfl⟩
  have hI : HI D jC G A0 s.heap H locs := by rw [eH, eL]; exact hI
  rw [← eL]
  suffices h : W p l e (rhX0_lambda_stepOf_12 fr lo) s m args below meth c H locs 0 0 Q (F0 m 0 ls []) by rw [eH] at h; exact h
  clear eH eL
  refine lv_aload_n hx hb dX0_lambda_stepOf_12_0 rfl (lv_at hl 0 rfl) ?_
  refine lv_aload_n hx hb dX0_lambda_stepOf_12_1 rfl (lv_at hl 0 rfl) ?_
  refine lv_iload hx hb dX0_lambda_stepOf_12_2 (lv_at hl 4 rfl) ?_
  refine lv_iload_n hx hb dX0_lambda_stepOf_12_4 rfl (lv_at hl 1 rfl) ?_
  refine lv_aload_n hx hb dX0_lambda_stepOf_12_5 rfl (lv_at hl 0 rfl) ?_
  refine lv_iload hx hb dX0_lambda_stepOf_12_6 (lv_at hl 4 rfl) ?_
  refine lv_iload_n hx hb dX0_lambda_stepOf_12_8 rfl (lv_at hl 1 rfl) ?_
  obtain ⟨_, _, hO, hf⟩ := hf
  refine h_ki X hI (h_runV (As := [.int p4, .int p1]) X hI (h_recv X hI hO (show jC.1[0]? = some (RX0, TX0, 20) from rfl)) (mhX0_valueOf l Z D j Λ fr lo E a0 p4 p1 G _ hf H.size) (cwV 2 hts (lw_V q1879 q1881 qs27 q167 q1882) rfl rfl rfl (by decide +kernel) (by show fr + 2 + 1 ≤ fr + 4 ∧ 8 + (3 + 11) + (lo + 63) ≤ lo + 108; omega)) rfl hl.1 (Nat.le_of_ble_eq_true rfl) dX0_lambda_stepOf_12_9 ⟨Nat.le_refl _, Nat.le_refl _⟩ rfl) (fun x2 G1 H locs hf hI => ?_)
  clear hO
  refine lv_iload_n hx hb dX0_lambda_stepOf_12_12 rfl (lv_at hl 2 rfl) ?_
  refine lv_isub hx hb dX0_lambda_stepOf_12_13 ?_
  obtain ⟨_, _, hO, hf⟩ := hf
  refine h_ki X hI (h_runV (As := [.int p4, .int p1, .int (x2 - p2)]) X hI (h_recv X hI hO (show jC.1[0]? = some (RX0, TX0, 20) from rfl)) (mhX0_with l Z D j Λ fr lo E a0 p4 p1 (x2 - p2) G1 _ hf H.size) (cwV 3 hts (lw_V q1919 q1921 qs36 q167 q1922) rfl rfl rfl (by decide +kernel) (by show fr + 3 + 1 ≤ fr + 4 ∧ 8 + (4 + 11) + (lo + 85) ≤ lo + 108; omega)) rfl hl.1 (Nat.le_of_ble_eq_true rfl) dX0_lambda_stepOf_12_14 ⟨Nat.le_refl _, Nat.le_refl _⟩ rfl) (fun x4 G3 H locs hf hI => ?_)
  clear hO
  refine lv_iload_n hx hb dX0_lambda_stepOf_12_17 rfl (lv_at hl 3 rfl) ?_
  refine lv_aload_n hx hb dX0_lambda_stepOf_12_18 rfl (lv_at hl 0 rfl) ?_
  refine lv_iload hx hb dX0_lambda_stepOf_12_19 (lv_at hl 4 rfl) ?_
  refine lv_iload_n hx hb dX0_lambda_stepOf_12_21 rfl (lv_at hl 3 rfl) ?_
  obtain ⟨_, _, hO, hf⟩ := hf
  refine h_ki X hI (h_runV (As := [.int p4, .int p3]) X hI (h_recv X hI hO (show jC.1[0]? = some (RX0, TX0, 20) from rfl)) (mhX0_valueOf l Z D j Λ fr lo E a0 p4 p3 G3 _ hf H.size) (cwV 2 hts (lw_V q1879 q1881 qs27 q167 q1882) rfl rfl rfl (by decide +kernel) (by show fr + 2 + 1 ≤ fr + 4 ∧ 8 + (3 + 11) + (lo + 63) ≤ lo + 108; omega)) rfl hl.1 (Nat.le_of_ble_eq_true rfl) dX0_lambda_stepOf_12_22 ⟨Nat.le_refl _, Nat.le_refl _⟩ rfl) (fun x6 G5 H locs hf hI => ?_)
  clear hO
  refine lv_iload_n hx hb dX0_lambda_stepOf_12_25 rfl (lv_at hl 2 rfl) ?_
  refine lv_iadd hx hb dX0_lambda_stepOf_12_26 ?_
  obtain ⟨_, _, hO, hf⟩ := hf
  refine h_ki X hI (h_runV (As := [.int x4, .int p3, .int (x6 + p2)]) X hI (h_recv X hI hO (show jC.1[0]? = some (RX0, TX0, 20) from rfl)) (mhX0_with l Z D j Λ fr lo E a0 x4 p3 (x6 + p2) G5 _ hf H.size) (cwV 3 hts (lw_V q1919 q1921 qs36 q167 q1922) rfl rfl rfl (by decide +kernel) (by show fr + 3 + 1 ≤ fr + 4 ∧ 8 + (4 + 11) + (lo + 85) ≤ lo + 108; omega)) rfl hl.1 (Nat.le_of_ble_eq_true rfl) dX0_lambda_stepOf_12_27 ⟨Nat.le_refl _, Nat.le_refl _⟩ rfl) (fun x8 G7 H locs hf hI => ?_)
  clear hO
  exact hret hf hI dX0_lambda_stepOf_12_30 (Nat.le_refl _) (Nat.le_refl _)
/-! MergeJudge.fault(I)I -/
def hX0_fault (j : JX) (Λ : JLam) (a0 : Nat) (p1 : Int32) (G : HG) (post : Int32 → HG → Prop) : Prop :=
  (p1 = 0 → (gtI G a0 0 7 fun x4 => post x4 G)) ∧ (¬ p1 = 0 → ((p1 = (1 : Int32) → (gtI G a0 0 8 fun x3 => post x3 G)) ∧ (¬ p1 = (1 : Int32) → (post ((-1) : Int32) G))))
abbrev rhX0_fault (fr lo : Nat) : Room := { frames := fr + 1, cells := 0, slots := 0, locals := lo + 40 }
theorem mhX0_fault (l : Launch) (Z : (Nat → Prop) → State → Heap → Prop) (D : va_G) (j : JX) (Λ : JLam) (fr lo : Nat) (E : JE l Z D j Λ fr lo) (a0 : Nat) (p1 : Int32) (G : HG) (post : Int32 → HG → Prop) (hf : hX0_fault j Λ a0 p1 G post) : HMi l yX0_fault (ws_ yX0_fault cX0_fault 2 (some .int)) (rhX0_fault fr lo) D jC (jty j.1) Z G [.ref a0, .int p1] post 0 0 := by
  refine h_openi E.1 (by decide) (by exact Nat.le_of_ble_eq_true rfl) (fun p e s m args below meth c ls A0 Q X hI hnd hnm hl hret => ?_)
  have X : XC p s m args meth c cX0_fault 2 RX0 D jC (jty j.1) A0 Z := X
  have hx := X.1
  have hb := X.2.1
  have hown := X.2.2.2.1
  have hts := X.2.2.2.2.1
  have hl : lv_has ls 2 [(0, .ref a0), (1, .int p1)] := by exact hl
  unfold hX0_fault at hf
  obtain ⟨H, eH⟩ : ∃ H, H = s.heap := ⟨_, rfl⟩
  obtain ⟨locs, eL⟩ : ∃ locs : List Loc, locs = [] := ⟨_, rfl⟩
  have hI : HI D jC G A0 s.heap H locs := by rw [eH, eL]; exact hI
  rw [← eL]
  suffices h : W p l e (rhX0_fault fr lo) s m args below meth c H locs 0 0 Q (F0 m 0 ls []) by rw [eH] at h; exact h
  clear eH eL
  refine lv_iload_n hx hb dX0_fault_0 rfl (lv_at hl 1 rfl) ?_
  refine lv_if_ne (tgt := 11) hx hb dX0_fault_1 (by decide) (fun c1 => ?_) (fun c1 => ?_)
  · have hf := hf.2 c1
    refine lv_iload_n hx hb dX0_fault_11 rfl (lv_at hl 1 rfl) ?_
    refine lv_iconst (v := 1) hx hb dX0_fault_12 (by decide) ?_
    refine lv_icmp_ne (tgt := 23) hx hb dX0_fault_13 (by decide) (fun c2 => ?_) (fun c2 => ?_)
    · have hf := hf.2 c2
      refine lv_iconst (v := -1) hx hb dX0_fault_23 (by decide) ?_
      exact hret hf hI dX0_fault_24 (Nat.le_refl _) (Nat.le_refl _)
    · have hf := hf.1 c2
      refine lv_aload_n hx hb dX0_fault_16 rfl (lv_at hl 0 rfl) ?_
      refine hr_gtI X hI (rfl : jC.1[0]? = some (RX0, TX0, 20)) in_X0 8 (Nat.le_of_ble_eq_true rfl) hf q660 (fun _ h => h) dX0_fault_17 (fun x3 hf => ?_)
      refine lv_goto (tgt := 24) hx hb dX0_fault_20 (by decide) ?_
      exact hret hf hI dX0_fault_24 (Nat.le_refl _) (Nat.le_refl _)
  · have hf := hf.1 c1
    refine lv_aload_n hx hb dX0_fault_4 rfl (lv_at hl 0 rfl) ?_
    refine hr_gtI X hI (rfl : jC.1[0]? = some (RX0, TX0, 20)) in_X0 7 (Nat.le_of_ble_eq_true rfl) hf q659 (fun _ h => h) dX0_fault_5 (fun x4 hf => ?_)
    refine lv_goto (tgt := 24) hx hb dX0_fault_8 (by decide) ?_
    exact hret hf hI dX0_fault_24 (Nat.le_refl _) (Nat.le_refl _)
/-! MergeJudge$Base.is()Z -/
def hX2_is (j : JX) (Λ : JLam) (a0 : Nat) (G : HG) (post : Int32 → HG → Prop) : Prop :=
  gtI G a0 2 10 fun x1 => (x1 ≤ 0 → (post (0 : Int32) G)) ∧ (¬ x1 ≤ 0 → (post (1 : Int32) G))
abbrev rhX2_is (fr lo : Nat) : Room := { frames := fr + 1, cells := 0, slots := 0, locals := lo + 40 }
theorem mhX2_is (l : Launch) (Z : (Nat → Prop) → State → Heap → Prop) (D : va_G) (j : JX) (Λ : JLam) (fr lo : Nat) (E : JE l Z D j Λ fr lo) (a0 : Nat) (G : HG) (post : Int32 → HG → Prop) (hf : hX2_is j Λ a0 G post) : HMi l yX2_is (ws_ yX2_is cX2_is 1 (some .boolean)) (rhX2_is fr lo) D jC (jty j.1) Z G [.ref a0] post 0 0 := by
  refine h_openz E.1 (by decide) (by exact Nat.le_of_ble_eq_true rfl) (fun p e s m args below meth c ls A0 Q X hI hnd hnm hl hret => ?_)
  have X : XC p s m args meth c cX2_is 1 RX2 D jC (jty j.1) A0 Z := X
  have hx := X.1
  have hb := X.2.1
  have hown := X.2.2.2.1
  have hts := X.2.2.2.2.1
  have hl : lv_has ls 1 [(0, .ref a0)] := by exact hl
  unfold hX2_is at hf
  obtain ⟨H, eH⟩ : ∃ H, H = s.heap := ⟨_, rfl⟩
  obtain ⟨locs, eL⟩ : ∃ locs : List Loc, locs = [] := ⟨_, rfl⟩
  have hI : HI D jC G A0 s.heap H locs := by rw [eH, eL]; exact hI
  rw [← eL]
  suffices h : W p l e (rhX2_is fr lo) s m args below meth c H locs 0 0 Q (F0 m 0 ls []) by rw [eH] at h; exact h
  clear eH eL
  refine lv_aload_n hx hb dX2_is_0 rfl (lv_at hl 0 rfl) ?_
  refine hr_gtI X hI (rfl : jC.1[2]? = some (RX2, TX2, 11)) in_X2 10 (Nat.le_of_ble_eq_true rfl) hf q506 (fun _ h => h) dX2_is_1 (fun x1 hf => ?_)
  refine lv_if_le (tgt := 11) hx hb dX2_is_4 (by decide) (fun c2 => ?_) (fun c2 => ?_)
  · have hf := hf.1 c2
    refine lv_iconst (v := 0) hx hb dX2_is_11 (by decide) ?_
    exact hret rfl hf hI dX2_is_12 (Nat.le_refl _) (Nat.le_refl _)
  · have hf := hf.2 c2
    refine lv_iconst (v := 1) hx hb dX2_is_7 (by decide) ?_
    refine lv_goto (tgt := 12) hx hb dX2_is_8 (by decide) ?_
    exact hret rfl hf hI dX2_is_12 (Nat.le_refl _) (Nat.le_refl _)
/-! MergeJudge.isState(J)Z -/
def hX0_isState (j : JX) (Λ : JLam) (a0 : Nat) (p1 : Int64) (G : HG) (post : Int32 → HG → Prop) : Prop :=
  gtQ G a0 0 1 fun q1 => nnq q1 fun a2 => isO G a2 2 (hX2_is j Λ a2 G fun x4 G3 => (x4 = 0 → (post (0 : Int32) G3)) ∧ (¬ x4 = 0 → (isO G3 a0 0 (hX0_states0 j Λ a0 G3 fun x7 G6 => hX0_in j Λ p1 (0 : Int64) ((x7 - 1).toInt64) G6 fun x9 G8 => (x9 = 0 → (post (0 : Int32) G8)) ∧ (¬ x9 = 0 → (post (1 : Int32) G8))))))
abbrev rhX0_isState (fr lo : Nat) : Room := { frames := fr + 2, cells := 0, slots := 0, locals := lo + 65 }
theorem mhX0_isState (l : Launch) (Z : (Nat → Prop) → State → Heap → Prop) (D : va_G) (j : JX) (Λ : JLam) (fr lo : Nat) (E : JE l Z D j Λ fr lo) (a0 : Nat) (p1 : Int64) (G : HG) (post : Int32 → HG → Prop) (hf : hX0_isState j Λ a0 p1 G post) : HMi l yX0_isState (ws_ yX0_isState cX0_isState 3 (some .boolean)) (rhX0_isState fr lo) D jC (jty j.1) Z G [.ref a0, .long p1] post 0 0 := by
  refine h_openz E.1 (by decide) (by exact Nat.le_of_ble_eq_true rfl) (fun p e s m args below meth c ls A0 Q X hI hnd hnm hl hret => ?_)
  have X : XC p s m args meth c cX0_isState 3 RX0 D jC (jty j.1) A0 Z := X
  have hx := X.1
  have hb := X.2.1
  have hown := X.2.2.2.1
  have hts := X.2.2.2.2.1
  have hl : lv_has ls 3 [(0, .ref a0), (1, .long p1)] := by exact hl
  unfold hX0_isState at hf
  obtain ⟨H, eH⟩ : ∃ H, H = s.heap := ⟨_, rfl⟩
  obtain ⟨locs, eL⟩ : ∃ locs : List Loc, locs = [] := ⟨_, rfl⟩
  have hI : HI D jC G A0 s.heap H locs := by rw [eH, eL]; exact hI
  rw [← eL]
  suffices h : W p l e (rhX0_isState fr lo) s m args below meth c H locs 0 0 Q (F0 m 0 ls []) by rw [eH] at h; exact h
  clear eH eL
  refine lv_aload_n hx hb dX0_isState_0 rfl (lv_at hl 0 rfl) ?_
  refine hr_gtQ X hI (rfl : jC.1[0]? = some (RX0, TX0, 20)) in_X0 1 (Nat.le_of_ble_eq_true rfl) hf q653 (fun _ h => h) dX0_isState_1 (fun q1 hf => ?_)
  obtain ⟨a2, ea2, hf⟩ := hf
  revert hl hf
  subst ea2
  intro hl hf
  have hl : lv_has ls 3 [(0, .ref a0), (1, .long p1)] := hl
  obtain ⟨_, _, hO, hf⟩ := hf
  refine h_ki X hI (h_runV (As := []) X hI (h_recv X hI hO (show jC.1[2]? = some (RX2, TX2, 11) from rfl)) (mhX2_is l Z D j Λ fr lo E a2 G _ hf H.size) (cwV 0 hts (lw_V q1839 q1840 q1841 q169 q1842) rfl rfl rfl (by decide +kernel) (by show fr + 1 + 1 ≤ fr + 2 ∧ 8 + (1 + 11) + (lo + 40) ≤ lo + 65; omega)) rfl hl.1 (Nat.le_of_ble_eq_true rfl) dX0_isState_4 ⟨Nat.le_refl _, Nat.le_refl _⟩ rfl) (fun x4 G3 H locs hf hI => ?_)
  clear hO
  refine lv_if_eq (tgt := 29) hx hb dX0_isState_7 (by decide) (fun c5 => ?_) (fun c5 => ?_)
  · have hf := hf.1 c5
    refine lv_iconst (v := 0) hx hb dX0_isState_29 (by decide) ?_
    exact hret rfl hf hI dX0_isState_30 (Nat.le_refl _) (Nat.le_refl _)
  · have hf := hf.2 c5
    refine lv_lload_n hx hb dX0_isState_10 rfl (lv_at hl 1 rfl) ?_
    refine lv_lconst (v := 0) hx hb dX0_isState_11 (by decide) ?_
    refine lv_aload_n hx hb dX0_isState_12 rfl (lv_at hl 0 rfl) ?_
    obtain ⟨_, _, hO, hf⟩ := hf
    refine h_ki X hI (h_runV (As := []) X hI (h_recv X hI hO (show jC.1[0]? = some (RX0, TX0, 20) from rfl)) (mhX0_states0 l Z D j Λ fr lo E a0 G3 _ hf H.size) (cwV 0 hts (lw_V q1945 q1947 qs41 q167 q1948) rfl rfl rfl (by decide +kernel) (by show fr + 1 + 1 ≤ fr + 2 ∧ 8 + (3 + 11) + (lo + 40) ≤ lo + 65; omega)) rfl hl.1 (Nat.le_of_ble_eq_true rfl) dX0_isState_13 ⟨Nat.le_refl _, Nat.le_refl _⟩ rfl) (fun x7 G6 H locs hf hI => ?_)
    clear hO
    refine lv_iconst (v := 1) hx hb dX0_isState_16 (by decide) ?_
    refine lv_isub hx hb dX0_isState_17 ?_
    refine lv_i2l hx hb dX0_isState_18 rfl ?_
    refine h_ki X hI (h_runS (As := [.long p1, .long 0, .long ((x7 - 1).toInt64)]) X hI (mhX0_in l Z D j Λ fr lo E p1 (0 : Int64) ((x7 - 1).toInt64) G6 _ hf H.size) (va_cwS 3 hts (lw_S q226 q227 q167 q228) rfl rfl rfl (by decide +kernel) (by show fr + 1 + 1 ≤ fr + 2 ∧ 8 + (6 + 11) + (lo + 40) ≤ lo + 65; omega)) rfl hl.1 (Nat.le_of_ble_eq_true rfl) dX0_isState_19 ⟨Nat.le_refl _, Nat.le_refl _⟩ rfl) (fun x9 G8 H locs hf hI => ?_)
    refine lv_if_eq (tgt := 29) hx hb dX0_isState_22 (by decide) (fun c10 => ?_) (fun c10 => ?_)
    · have hf := hf.1 c10
      refine lv_iconst (v := 0) hx hb dX0_isState_29 (by decide) ?_
      exact hret rfl hf hI dX0_isState_30 (Nat.le_refl _) (Nat.le_refl _)
    · have hf := hf.2 c10
      refine lv_iconst (v := 1) hx hb dX0_isState_25 (by decide) ?_
      refine lv_goto (tgt := 30) hx hb dX0_isState_26 (by decide) ?_
      exact hret rfl hf hI dX0_isState_30 (Nat.le_refl _) (Nat.le_refl _)
/-! MergeJudge.weight(I)I -/
def hX0_weight_b16 (j : JX) (Λ : JLam) (a0 : Nat) (p1 : Int32) (post : Int32 → HG → Prop) (K16 : Int32 → Int32 → HG → Prop) (lx2 : Int32) (lx3 : Int32) (G : HG) : Prop :=
  gtQ G a0 0 1 fun q4 => nnq q4 fun a5 => gtI G a5 2 7 fun x6 => (x6 ≤ lx3 → (post lx2 G)) ∧ (¬ x6 ≤ lx3 → (isO G a0 0 (hX0_valueOf j Λ a0 p1 lx3 G fun x9 G8 => K16 (lx2 + x9) (lx3 + 1) G8)))
def hX0_weight_l16 (j : JX) (Λ : JLam) (a0 : Nat) (p1 : Int32) (post : Int32 → HG → Prop) : Nat → Int32 → Int32 → HG → Prop
  | 0 => fun _ _ _ => False
  | n + 1 => fun lx2 lx3 G => hX0_weight_b16 j Λ a0 p1 post (hX0_weight_l16 j Λ a0 p1 post n) lx2 lx3 G
def hX0_weight (j : JX) (Λ : JLam) (a0 : Nat) (p1 : Int32) (G : HG) (post : Int32 → HG → Prop) : Prop :=
  isO G a0 0 (hX0_isState j Λ a0 p1.toInt64 G fun x2 G1 => (x2 = 0 → (post ((-2) : Int32) G1)) ∧ (¬ x2 = 0 → (∃ n, hX0_weight_l16 j Λ a0 p1 post n (0 : Int32) (0 : Int32) G1)))
abbrev rhX0_weight (fr lo : Nat) : Room := { frames := fr + 3, cells := 0, slots := 0, locals := lo + 87 }
theorem mhX0_weight (l : Launch) (Z : (Nat → Prop) → State → Heap → Prop) (D : va_G) (j : JX) (Λ : JLam) (fr lo : Nat) (E : JE l Z D j Λ fr lo) (a0 : Nat) (p1 : Int32) (G : HG) (post : Int32 → HG → Prop) (hf : hX0_weight j Λ a0 p1 G post) : HMi l yX0_weight (ws_ yX0_weight cX0_weight 4 (some .int)) (rhX0_weight fr lo) D jC (jty j.1) Z G [.ref a0, .int p1] post 0 0 := by
  refine h_openi E.1 (by decide) (by exact Nat.le_of_ble_eq_true rfl) (fun p e s m args below meth c ls A0 Q X hI hnd hnm hl hret => ?_)
  have X : XC p s m args meth c cX0_weight 4 RX0 D jC (jty j.1) A0 Z := X
  have hx := X.1
  have hb := X.2.1
  have hown := X.2.2.2.1
  have hts := X.2.2.2.2.1
  have L16 : ∀ (n : Nat) (lx2 : Int32) (lx3 : Int32) (G : HG), hX0_weight_l16 j Λ a0 p1 post n lx2 lx3 G → ∀ (H : Heap) (locs : List Loc), HI D jC G A0 s.heap H locs → ∀ (ls : Array Slot), lv_has ls 4 [(0, .ref a0), (1, .int p1), (2, .int lx2), (3, .int lx3)] → W p l e (rhX0_weight fr lo) s m args below meth c H locs 0 0 Q (F0 m 16 ls []) := by
    intro n16
    induction n16 with
    | zero => intro lx2 lx3 G hf; exact hf.elim
    | succ n16 ih16 =>
      intro lx2 lx3 G hf H locs hI ls hl
      have hf : hX0_weight_b16 j Λ a0 p1 post (hX0_weight_l16 j Λ a0 p1 post n16) lx2 lx3 G := hf
      unfold hX0_weight_b16 at hf
      refine lv_iload_n hx hb dX0_weight_16 rfl (lv_at hl 3 rfl) ?_
      refine lv_aload_n hx hb dX0_weight_17 rfl (lv_at hl 0 rfl) ?_
      refine hr_gtQ X hI (rfl : jC.1[0]? = some (RX0, TX0, 20)) in_X0 1 (Nat.le_of_ble_eq_true rfl) hf q653 (fun _ h => h) dX0_weight_18 (fun q4 hf => ?_)
      obtain ⟨a5, ea5, hf⟩ := hf
      revert hl hf
      subst ea5
      intro hl hf
      have hl : lv_has ls 4 [(0, .ref a0), (1, .int p1), (2, .int lx2), (3, .int lx3)] := hl
      refine hr_gtIN X hI (rfl : jC.1[2]? = some (RX2, TX2, 11)) in_X2 7 (Nat.le_of_ble_eq_true rfl) hf (E.nw X q500 rfl) (fun _ h => h) dX0_weight_21 (fun x6 hf => ?_)
      refine lv_icmp_ge (tgt := 42) hx hb dX0_weight_24 (by decide) (fun c7 => ?_) (fun c7 => ?_)
      · have hf := hf.1 c7
        refine lv_iload_n hx hb dX0_weight_42 rfl (lv_at hl 2 rfl) ?_
        exact hret hf hI dX0_weight_43 (Nat.le_refl _) (Nat.le_refl _)
      · have hf := hf.2 c7
        refine lv_iload_n hx hb dX0_weight_27 rfl (lv_at hl 2 rfl) ?_
        refine lv_aload_n hx hb dX0_weight_28 rfl (lv_at hl 0 rfl) ?_
        refine lv_iload_n hx hb dX0_weight_29 rfl (lv_at hl 1 rfl) ?_
        refine lv_iload_n hx hb dX0_weight_30 rfl (lv_at hl 3 rfl) ?_
        obtain ⟨_, _, hO, hf⟩ := hf
        refine h_ki X hI (h_runV (As := [.int p1, .int lx3]) X hI (h_recv X hI hO (show jC.1[0]? = some (RX0, TX0, 20) from rfl)) (mhX0_valueOf l Z D j Λ fr lo E a0 p1 lx3 G _ hf H.size) (cwV 2 hts (lw_V q1879 q1881 qs27 q167 q1882) rfl rfl rfl (by decide +kernel) (by show fr + 2 + 1 ≤ fr + 3 ∧ 8 + (3 + 11) + (lo + 63) ≤ lo + 87; omega)) rfl hl.1 (Nat.le_of_ble_eq_true rfl) dX0_weight_31 ⟨Nat.le_refl _, Nat.le_refl _⟩ rfl) (fun x9 G8 H locs hf hI => ?_)
        clear hO
        refine lv_iadd hx hb dX0_weight_34 ?_
        refine lv_istore_n (lv' := [(2, .int (lx2 + x9)), (0, .ref a0), (1, .int p1), (3, .int lx3)]) hx hb dX0_weight_35 rfl hl (by decide) rfl (fun ls hl => ?_)
        refine lv_iinc (v := lx3 + 1) (lv' := [(3, .int (lx3 + 1)), (2, .int (lx2 + x9)), (0, .ref a0), (1, .int p1)]) hx hb dX0_weight_36 hl (k := 3) rfl rfl (by decide) rfl (fun ls hl => ?_)
        refine lv_goto (tgt := 16) hx hb dX0_weight_39 (by decide) ?_
        exact ih16 (lx2 + x9) (lx3 + 1) G8 hf H locs hI ls (lv_sub hl [2, 3, 1, 0] rfl)
  have hl : lv_has ls 4 [(0, .ref a0), (1, .int p1)] := by exact hl
  unfold hX0_weight at hf
  obtain ⟨H, eH⟩ : ∃ H, H = s.heap := ⟨_, rfl⟩
  obtain ⟨locs, eL⟩ : ∃ locs : List Loc, locs = [] := ⟨_, rfl⟩
  have hI : HI D jC G A0 s.heap H locs := by rw [eH, eL]; exact hI
  rw [← eL]
  suffices h : W p l e (rhX0_weight fr lo) s m args below meth c H locs 0 0 Q (F0 m 0 ls []) by rw [eH] at h; exact h
  clear eH eL
  refine lv_aload_n hx hb dX0_weight_0 rfl (lv_at hl 0 rfl) ?_
  refine lv_iload_n hx hb dX0_weight_1 rfl (lv_at hl 1 rfl) ?_
  refine lv_i2l hx hb dX0_weight_2 rfl ?_
  obtain ⟨_, _, hO, hf⟩ := hf
  refine h_ki X hI (h_runV (As := [.long p1.toInt64]) X hI (h_recv X hI hO (show jC.1[0]? = some (RX0, TX0, 20) from rfl)) (mhX0_isState l Z D j Λ fr lo E a0 p1.toInt64 G _ hf H.size) (cwV 1 hts (lw_V q1968 q1970 qs43 q167 q1971) rfl rfl rfl (by decide +kernel) (by show fr + 2 + 1 ≤ fr + 3 ∧ 8 + (3 + 11) + (lo + 65) ≤ lo + 87; omega)) rfl hl.1 (Nat.le_of_ble_eq_true rfl) dX0_weight_3 ⟨Nat.le_refl _, Nat.le_refl _⟩ rfl) (fun x2 G1 H locs hf hI => ?_)
  clear hO
  refine lv_if_ne (tgt := 12) hx hb dX0_weight_6 (by decide) (fun c3 => ?_) (fun c3 => ?_)
  · have hf := hf.2 c3
    refine lv_iconst (v := 0) hx hb dX0_weight_12 (by decide) ?_
    refine lv_istore_n (lv' := [(2, .int 0), (0, .ref a0), (1, .int p1)]) hx hb dX0_weight_13 rfl hl (by decide) rfl (fun ls hl => ?_)
    refine lv_iconst (v := 0) hx hb dX0_weight_14 (by decide) ?_
    refine lv_istore_n (lv' := [(3, .int 0), (2, .int 0), (0, .ref a0), (1, .int p1)]) hx hb dX0_weight_15 rfl hl (by decide) rfl (fun ls hl => ?_)
    obtain ⟨n, hf⟩ := hf
    exact L16 n (0 : Int32) (0 : Int32) G1 hf H locs hI ls (lv_sub hl [2, 3, 1, 0] rfl)
  · have hf := hf.1 c3
    refine lv_bipush (v := -2) hx hb dX0_weight_9 (by decide) ?_
    exact hret hf hI dX0_weight_11 (Nat.le_refl _) (Nat.le_refl _)
/-! MergeJudge.isDeep(I)Z -/
def hX0_isDeep (j : JX) (Λ : JLam) (a0 : Nat) (p1 : Int32) (G : HG) (post : Int32 → HG → Prop) : Prop :=
  gtQ G a0 0 1 fun q1 => nnq q1 fun a2 => isO G a2 2 (hX2_is j Λ a2 G fun x4 G3 => (x4 = 0 → (post (0 : Int32) G3)) ∧ (¬ x4 = 0 → (hX0_in j Λ p1.toInt64 (0 : Int64) (3 : Int64) G3 fun x7 G6 => (x7 = 0 → (post (0 : Int32) G6)) ∧ (¬ x7 = 0 → (post (1 : Int32) G6)))))
abbrev rhX0_isDeep (fr lo : Nat) : Room := { frames := fr + 2, cells := 0, slots := 0, locals := lo + 65 }
theorem mhX0_isDeep (l : Launch) (Z : (Nat → Prop) → State → Heap → Prop) (D : va_G) (j : JX) (Λ : JLam) (fr lo : Nat) (E : JE l Z D j Λ fr lo) (a0 : Nat) (p1 : Int32) (G : HG) (post : Int32 → HG → Prop) (hf : hX0_isDeep j Λ a0 p1 G post) : HMi l yX0_isDeep (ws_ yX0_isDeep cX0_isDeep 2 (some .boolean)) (rhX0_isDeep fr lo) D jC (jty j.1) Z G [.ref a0, .int p1] post 0 0 := by
  refine h_openz E.1 (by decide) (by exact Nat.le_of_ble_eq_true rfl) (fun p e s m args below meth c ls A0 Q X hI hnd hnm hl hret => ?_)
  have X : XC p s m args meth c cX0_isDeep 2 RX0 D jC (jty j.1) A0 Z := X
  have hx := X.1
  have hb := X.2.1
  have hown := X.2.2.2.1
  have hts := X.2.2.2.2.1
  have hl : lv_has ls 2 [(0, .ref a0), (1, .int p1)] := by exact hl
  unfold hX0_isDeep at hf
  obtain ⟨H, eH⟩ : ∃ H, H = s.heap := ⟨_, rfl⟩
  obtain ⟨locs, eL⟩ : ∃ locs : List Loc, locs = [] := ⟨_, rfl⟩
  have hI : HI D jC G A0 s.heap H locs := by rw [eH, eL]; exact hI
  rw [← eL]
  suffices h : W p l e (rhX0_isDeep fr lo) s m args below meth c H locs 0 0 Q (F0 m 0 ls []) by rw [eH] at h; exact h
  clear eH eL
  refine lv_aload_n hx hb dX0_isDeep_0 rfl (lv_at hl 0 rfl) ?_
  refine hr_gtQ X hI (rfl : jC.1[0]? = some (RX0, TX0, 20)) in_X0 1 (Nat.le_of_ble_eq_true rfl) hf q653 (fun _ h => h) dX0_isDeep_1 (fun q1 hf => ?_)
  obtain ⟨a2, ea2, hf⟩ := hf
  revert hl hf
  subst ea2
  intro hl hf
  have hl : lv_has ls 2 [(0, .ref a0), (1, .int p1)] := hl
  obtain ⟨_, _, hO, hf⟩ := hf
  refine h_ki X hI (h_runV (As := []) X hI (h_recv X hI hO (show jC.1[2]? = some (RX2, TX2, 11) from rfl)) (mhX2_is l Z D j Λ fr lo E a2 G _ hf H.size) (cwV 0 hts (lw_V q1839 q1840 q1841 q169 q1842) rfl rfl rfl (by decide +kernel) (by show fr + 1 + 1 ≤ fr + 2 ∧ 8 + (1 + 11) + (lo + 40) ≤ lo + 65; omega)) rfl hl.1 (Nat.le_of_ble_eq_true rfl) dX0_isDeep_4 ⟨Nat.le_refl _, Nat.le_refl _⟩ rfl) (fun x4 G3 H locs hf hI => ?_)
  clear hO
  refine lv_if_eq (tgt := 26) hx hb dX0_isDeep_7 (by decide) (fun c5 => ?_) (fun c5 => ?_)
  · have hf := hf.1 c5
    refine lv_iconst (v := 0) hx hb dX0_isDeep_26 (by decide) ?_
    exact hret rfl hf hI dX0_isDeep_27 (Nat.le_refl _) (Nat.le_refl _)
  · have hf := hf.2 c5
    refine lv_iload_n hx hb dX0_isDeep_10 rfl (lv_at hl 1 rfl) ?_
    refine lv_i2l hx hb dX0_isDeep_11 rfl ?_
    refine lv_lconst (v := 0) hx hb dX0_isDeep_12 (by decide) ?_
    refine lv_ldc2 (v := 3) hx hb hown (hts _ q225) dX0_isDeep_13 ?_
    refine h_ki X hI (h_runS (As := [.long p1.toInt64, .long 0, .long 3]) X hI (mhX0_in l Z D j Λ fr lo E p1.toInt64 (0 : Int64) (3 : Int64) G3 _ hf H.size) (va_cwS 3 hts (lw_S q226 q227 q167 q228) rfl rfl rfl (by decide +kernel) (by show fr + 1 + 1 ≤ fr + 2 ∧ 8 + (6 + 11) + (lo + 40) ≤ lo + 65; omega)) rfl hl.1 (Nat.le_of_ble_eq_true rfl) dX0_isDeep_16 ⟨Nat.le_refl _, Nat.le_refl _⟩ rfl) (fun x7 G6 H locs hf hI => ?_)
    refine lv_if_eq (tgt := 26) hx hb dX0_isDeep_19 (by decide) (fun c8 => ?_) (fun c8 => ?_)
    · have hf := hf.1 c8
      refine lv_iconst (v := 0) hx hb dX0_isDeep_26 (by decide) ?_
      exact hret rfl hf hI dX0_isDeep_27 (Nat.le_refl _) (Nat.le_refl _)
    · have hf := hf.2 c8
      refine lv_iconst (v := 1) hx hb dX0_isDeep_22 (by decide) ?_
      refine lv_goto (tgt := 27) hx hb dX0_isDeep_23 (by decide) ?_
      exact hret rfl hf hI dX0_isDeep_27 (Nat.le_refl _) (Nat.le_refl _)
/-! MergeJudge$Side.comes(III)V -/
def hX3_comes (j : JX) (Λ : JLam) (a0 : Nat) (p1 : Int32) (p2 : Int32) (p3 : Int32) (G : HG) (post : HG → Prop) : Prop :=
  gtQ G a0 3 0 fun q1 => nnq q1 fun a2 => stI G a2 (j.1 0) p1 p2 fun G3 => gtQ G3 a0 3 1 fun q4 => nnq q4 fun a5 => stI G3 a5 (j.1 0) p1 p3 fun G6 => gtQ G6 a0 3 2 fun q7 => gtI G6 a0 3 3 fun x8 => nnq q7 fun a9 => stI G6 a9 (j.1 0) x8 p1 fun G10 => gtI G10 a0 3 3 fun x11 => ptV G10 a0 3 3 (.int (x11 + 1)) fun G12 => post G12
abbrev rhX3_comes (fr lo : Nat) : Room := { frames := fr + 1, cells := 0, slots := 0, locals := lo + 40 }
theorem mhX3_comes (l : Launch) (Z : (Nat → Prop) → State → Heap → Prop) (D : va_G) (j : JX) (Λ : JLam) (fr lo : Nat) (E : JE l Z D j Λ fr lo) (a0 : Nat) (p1 : Int32) (p2 : Int32) (p3 : Int32) (G : HG) (post : HG → Prop) (hf : hX3_comes j Λ a0 p1 p2 p3 G post) : HMv l yX3_comes (ws_ yX3_comes cX3_comes 4 none) (rhX3_comes fr lo) D jC (jty j.1) Z G [.ref a0, .int p1, .int p2, .int p3] post 0 0 := by
  refine h_openv E.1 (by decide) (by exact Nat.le_of_ble_eq_true rfl) (fun p e s m args below meth c ls A0 Q X hI hnd hnm hl hret => ?_)
  have X : XC p s m args meth c cX3_comes 4 RX3 D jC (jty j.1) A0 Z := X
  have hx := X.1
  have hb := X.2.1
  have hown := X.2.2.2.1
  have hts := X.2.2.2.2.1
  have hl : lv_has ls 4 [(0, .ref a0), (1, .int p1), (2, .int p2), (3, .int p3)] := by exact hl
  unfold hX3_comes at hf
  obtain ⟨H, eH⟩ : ∃ H, H = s.heap := ⟨_, rfl⟩
  obtain ⟨locs, eL⟩ : ∃ locs : List Loc, locs = [] := ⟨_, rfl⟩
  have hI : HI D jC G A0 s.heap H locs := by rw [eH, eL]; exact hI
  rw [← eL]
  suffices h : W p l e (rhX3_comes fr lo) s m args below meth c H locs 0 0 Q (F0 m 0 ls []) by rw [eH] at h; exact h
  clear eH eL
  refine lv_aload_n hx hb dX3_comes_0 rfl (lv_at hl 0 rfl) ?_
  refine hr_gtQ X hI (rfl : jC.1[3]? = some (RX3, TX3, 5)) in_X3 0 (Nat.le_of_ble_eq_true rfl) hf q560 (fun _ h => h) dX3_comes_1 (fun q1 hf => ?_)
  refine lv_iload_n hx hb dX3_comes_4 rfl (lv_at hl 1 rfl) ?_
  refine lv_iload_n hx hb dX3_comes_5 rfl (lv_at hl 2 rfl) ?_
  obtain ⟨a2, ea2, hf⟩ := hf
  revert hl hf
  subst ea2
  intro hl hf
  have hl : lv_has ls 4 [(0, .ref a0), (1, .int p1), (2, .int p2), (3, .int p3)] := hl
  refine hr_ist X hI 0 rfl hf dX3_comes_6 (fun G3 H locs hf hI => ?_)
  refine lv_aload_n hx hb dX3_comes_7 rfl (lv_at hl 0 rfl) ?_
  refine hr_gtQ X hI (rfl : jC.1[3]? = some (RX3, TX3, 5)) in_X3 1 (Nat.le_of_ble_eq_true rfl) hf q563 (fun _ h => h) dX3_comes_8 (fun q4 hf => ?_)
  refine lv_iload_n hx hb dX3_comes_11 rfl (lv_at hl 1 rfl) ?_
  refine lv_iload_n hx hb dX3_comes_12 rfl (lv_at hl 3 rfl) ?_
  obtain ⟨a5, ea5, hf⟩ := hf
  revert hl hf
  subst ea5
  intro hl hf
  have hl : lv_has ls 4 [(0, .ref a0), (1, .int p1), (2, .int p2), (3, .int p3)] := hl
  refine hr_ist X hI 0 rfl hf dX3_comes_13 (fun G6 H locs hf hI => ?_)
  refine lv_aload_n hx hb dX3_comes_14 rfl (lv_at hl 0 rfl) ?_
  refine hr_gtQ X hI (rfl : jC.1[3]? = some (RX3, TX3, 5)) in_X3 2 (Nat.le_of_ble_eq_true rfl) hf q565 (fun _ h => h) dX3_comes_15 (fun q7 hf => ?_)
  refine lv_aload_n hx hb dX3_comes_18 rfl (lv_at hl 0 rfl) ?_
  refine hr_gtI X hI (rfl : jC.1[3]? = some (RX3, TX3, 5)) in_X3 3 (Nat.le_of_ble_eq_true rfl) hf q566 (fun _ h => h) dX3_comes_19 (fun x8 hf => ?_)
  refine lv_iload_n hx hb dX3_comes_22 rfl (lv_at hl 1 rfl) ?_
  obtain ⟨a9, ea9, hf⟩ := hf
  revert hl hf
  subst ea9
  intro hl hf
  have hl : lv_has ls 4 [(0, .ref a0), (1, .int p1), (2, .int p2), (3, .int p3)] := hl
  refine hr_ist X hI 0 rfl hf dX3_comes_23 (fun G10 H locs hf hI => ?_)
  refine lv_aload_n hx hb dX3_comes_24 rfl (lv_at hl 0 rfl) ?_
  refine lv_dup hx hb dX3_comes_25 rfl ?_
  refine hr_gtI X hI (rfl : jC.1[3]? = some (RX3, TX3, 5)) in_X3 3 (Nat.le_of_ble_eq_true rfl) hf q566 (fun _ h => h) dX3_comes_26 (fun x11 hf => ?_)
  refine lv_iconst (v := 1) hx hb dX3_comes_29 (by decide) ?_
  refine lv_iadd hx hb dX3_comes_30 ?_
  refine hr_pt X hI (rfl : jC.1[3]? = some (RX3, TX3, 5)) in_X3 3 (Nat.le_of_ble_eq_true rfl) tyX3 tyX3_ok nmX3 hf q566 (fun _ h => h) rfl rfl rfl dX3_comes_31 (fun G12 H locs hf hI => ?_)
  exact hret hf hI dX3_comes_34 (Nat.le_refl _) (Nat.le_refl _)
/-! MergeJudge.stepIn(II)I -/
def hX0_stepIn_b30 (j : JX) (Λ : JLam) (a0 : Nat) (p1 : Int32) (p2 : Int32) (post : Int32 → HG → Prop) (G : HG) : Prop :=
  post ((-1) : Int32) G
def hX0_stepIn (j : JX) (Λ : JLam) (a0 : Nat) (p1 : Int32) (p2 : Int32) (G : HG) (post : Int32 → HG → Prop) : Prop :=
  gtQ G a0 0 10 fun q1 => nnq q1 fun a2 => ldQ (jty j.1) G a2 p1 fun q3 => nnq q3 fun a4 => gtQ G a4 12 0 fun q5 => nnq q5 fun a6 => Λ.2.2.1 a6 p2 G fun x8 G7 => (x8 = ((-1) : Int32) → (hX0_stepIn_b30 j Λ a0 p1 p2 post G7)) ∧ (¬ x8 = ((-1) : Int32) → (gtQ G7 a0 0 11 fun q10 => nnq q10 fun a11 => ldI G7 a11 (j.1 1) x8 fun x12 => (x12 = 0 → (hX0_stepIn_b30 j Λ a0 p1 p2 post G7)) ∧ (¬ x12 = 0 → (post x8 G7))))
abbrev rhX0_stepIn (fr lo : Nat) : Room := { frames := fr + 1, cells := 0, slots := 0, locals := lo + 40 }
theorem mhX0_stepIn (l : Launch) (Z : (Nat → Prop) → State → Heap → Prop) (D : va_G) (j : JX) (Λ : JLam) (fr lo : Nat) (E : JE l Z D j Λ fr lo) (a0 : Nat) (p1 : Int32) (p2 : Int32) (G : HG) (post : Int32 → HG → Prop) (hf : hX0_stepIn j Λ a0 p1 p2 G post) : HMi l yX0_stepIn (ws_ yX0_stepIn cX0_stepIn 4 (some .int)) (rhX0_stepIn fr lo) D jC (jty j.1) Z G [.ref a0, .int p1, .int p2] post 0 0 := by
  refine h_openi E.1 (by decide) (by exact Nat.le_of_ble_eq_true rfl) (fun p e s m args below meth c ls A0 Q X hI hnd hnm hl hret => ?_)
  have X : XC p s m args meth c cX0_stepIn 4 RX0 D jC (jty j.1) A0 Z := X
  have hx := X.1
  have hb := X.2.1
  have hown := X.2.2.2.1
  have hts := X.2.2.2.2.1
  have J30 : ∀ (G : HG), hX0_stepIn_b30 j Λ a0 p1 p2 post G → ∀ (H : Heap) (locs : List Loc), HI D jC G A0 s.heap H locs → ∀ (ls : Array Slot), lv_has ls 4 [] → W p l e (rhX0_stepIn fr lo) s m args below meth c H locs 0 0 Q (F0 m 30 ls []) := by
    intro G hf H locs hI ls hl
    unfold hX0_stepIn_b30 at hf
    refine lv_iconst (v := -1) hx hb dX0_stepIn_30 (by decide) ?_
    refine lv_goto (tgt := 35) hx hb dX0_stepIn_31 (by decide) ?_
    exact hret hf hI dX0_stepIn_35 (Nat.le_refl _) (Nat.le_refl _)
  have hl : lv_has ls 4 [(0, .ref a0), (1, .int p1), (2, .int p2)] := by exact hl
  unfold hX0_stepIn at hf
  obtain ⟨H, eH⟩ : ∃ H, H = s.heap := ⟨_, rfl⟩
  obtain ⟨locs, eL⟩ : ∃ locs : List Loc, locs = [] := ⟨_, rfl⟩
  have hI : HI D jC G A0 s.heap H locs := by rw [eH, eL]; exact hI
  rw [← eL]
  suffices h : W p l e (rhX0_stepIn fr lo) s m args below meth c H locs 0 0 Q (F0 m 0 ls []) by rw [eH] at h; exact h
  clear eH eL
  refine lv_aload_n hx hb dX0_stepIn_0 rfl (lv_at hl 0 rfl) ?_
  refine hr_gtQ X hI (rfl : jC.1[0]? = some (RX0, TX0, 20)) in_X0 10 (Nat.le_of_ble_eq_true rfl) hf q662 (fun _ h => h) dX0_stepIn_1 (fun q1 hf => ?_)
  refine lv_iload_n hx hb dX0_stepIn_4 rfl (lv_at hl 1 rfl) ?_
  obtain ⟨a2, ea2, hf⟩ := hf
  revert hl hf
  subst ea2
  intro hl hf
  have hl : lv_has ls 4 [(0, .ref a0), (1, .int p1), (2, .int p2)] := hl
  refine hr_qld X hI hf dX0_stepIn_5 (fun q3 hf => ?_)
  obtain ⟨a4, ea4, hf⟩ := hf
  revert hl hf
  subst ea4
  intro hl hf
  have hl : lv_has ls 4 [(0, .ref a0), (1, .int p1), (2, .int p2)] := hl
  refine hr_gtQN X hI (rfl : jC.1[12]? = some (RX12, TX12, 1)) in_X12 0 (Nat.le_of_ble_eq_true rfl) hf (E.nw X q1937 rfl) (fun _ h => h) dX0_stepIn_6 (fun q5 hf => ?_)
  refine lv_iload_n hx hb dX0_stepIn_9 rfl (lv_at hl 2 rfl) ?_
  obtain ⟨a6, ea6, hf⟩ := hf
  revert hl hf
  subst ea6
  intro hl hf
  have hl : lv_has ls 4 [(0, .ref a0), (1, .int p1), (2, .int p2)] := hl
  refine hr_step E X hI hf q2014 hl.1 (Nat.le_of_ble_eq_true rfl) ⟨Nat.le_add_right _ _, Nat.le_add_right _ _⟩ ⟨Nat.le_refl _, Nat.le_refl _⟩ dX0_stepIn_10 (fun x8 G7 H locs hf hI => ?_)
  refine lv_istore_n (lv' := [(3, .int x8), (0, .ref a0), (1, .int p1), (2, .int p2)]) hx hb dX0_stepIn_15 rfl hl (by decide) rfl (fun ls hl => ?_)
  refine lv_iload_n hx hb dX0_stepIn_16 rfl (lv_at hl 0 rfl) ?_
  refine lv_iconst (v := -1) hx hb dX0_stepIn_17 (by decide) ?_
  refine lv_icmp_eq (tgt := 30) hx hb dX0_stepIn_18 (by decide) (fun c9 => ?_) (fun c9 => ?_)
  · have hf := hf.1 c9
    exact J30 G7 hf H locs hI ls (lv_sub hl [] rfl)
  · have hf := hf.2 c9
    refine lv_aload_n hx hb dX0_stepIn_21 rfl (lv_at hl 1 rfl) ?_
    refine hr_gtQ X hI (rfl : jC.1[0]? = some (RX0, TX0, 20)) in_X0 11 (Nat.le_of_ble_eq_true rfl) hf q664 (fun _ h => h) dX0_stepIn_22 (fun q10 hf => ?_)
    refine lv_iload_n hx hb dX0_stepIn_25 rfl (lv_at hl 0 rfl) ?_
    obtain ⟨a11, ea11, hf⟩ := hf
    revert hl hf
    subst ea11
    intro hl hf
    have hl : lv_has ls 4 [(3, .int x8), (0, .ref a0), (1, .int p1), (2, .int p2)] := hl
    refine hr_zld X hI 1 rfl hf dX0_stepIn_26 (fun x12 hf => ?_)
    refine lv_if_ne (tgt := 34) hx hb dX0_stepIn_27 (by decide) (fun c13 => ?_) (fun c13 => ?_)
    · have hf := hf.2 c13
      refine lv_iload_n hx hb dX0_stepIn_34 rfl (lv_at hl 0 rfl) ?_
      exact hret hf hI dX0_stepIn_35 (Nat.le_refl _) (Nat.le_refl _)
    · have hf := hf.1 c13
      exact J30 G7 hf H locs hI ls (lv_sub hl [] rfl)
/-! MergeJudge$Side.of(III)LMergeJudge$Side; -/
def hX3_of_b175 (j : JX) (Λ : JLam) (a0 : Nat) (p1 : Int32) (p2 : Int32) (p3 : Int32) (post : Option Nat → HG → Prop) (K37 : Int32 → HG → Prop) (K65 : Int32 → Int32 → HG → Prop) (lx4 : Int32) (lx5 : Int32) (G : HG) : Prop :=
  K65 lx4 (lx5 + 1) G
def hX3_of_b172 (j : JX) (Λ : JLam) (a0 : Nat) (p1 : Int32) (p2 : Int32) (p3 : Int32) (post : Option Nat → HG → Prop) (K37 : Int32 → HG → Prop) (K65 : Int32 → Int32 → HG → Prop) (lx4 : Int32) (lx5 : Int32) (z0 : Nat) (z1 : Int32) (z2 : Int32) (z3 : Int32) (G : HG) : Prop :=
  isO G z0 3 (hX3_comes j Λ z0 z1 z2 z3 G fun G57 => hX3_of_b175 j Λ a0 p1 p2 p3 post K37 K65 lx4 lx5 G57)
def hX3_of_b114 (j : JX) (Λ : JLam) (a0 : Nat) (p1 : Int32) (p2 : Int32) (p3 : Int32) (post : Option Nat → HG → Prop) (K37 : Int32 → HG → Prop) (K65 : Int32 → Int32 → HG → Prop) (lx4 : Int32) (lx5 : Int32) (z0 : Int32) (G : HG) : Prop :=
  (z0 = ((-1) : Int32) → (hX3_of_b175 j Λ a0 p1 p2 p3 post K37 K65 lx4 lx5 G)) ∧ (¬ z0 = ((-1) : Int32) → (gtQ G a0 3 0 fun q40 => nnq q40 fun a41 => ldI G a41 (j.1 0) z0 fun x42 => (x42 = ((-1) : Int32) → (gtQ G a0 3 0 fun q44 => gtQ G a0 3 2 fun q45 => nnq q45 fun a46 => ldI G a46 (j.1 0) lx4 fun x47 => nnq q44 fun a48 => ldI G a48 (j.1 0) x47 fun x49 => (lx4 = 0 → (hX3_of_b172 j Λ a0 p1 p2 p3 post K37 K65 lx4 lx5 a0 z0 (x49 + 1) lx5 G)) ∧ (¬ lx4 = 0 → (gtQ G a0 3 1 fun q51 => gtQ G a0 3 2 fun q52 => nnq q52 fun a53 => ldI G a53 (j.1 0) lx4 fun x54 => nnq q51 fun a55 => ldI G a55 (j.1 0) x54 fun x56 => hX3_of_b172 j Λ a0 p1 p2 p3 post K37 K65 lx4 lx5 a0 z0 (x49 + 1) x56 G)))) ∧ (¬ x42 = ((-1) : Int32) → (hX3_of_b175 j Λ a0 p1 p2 p3 post K37 K65 lx4 lx5 G))))
def hX3_of_b65 (j : JX) (Λ : JLam) (a0 : Nat) (p1 : Int32) (p2 : Int32) (p3 : Int32) (post : Option Nat → HG → Prop) (K37 : Int32 → HG → Prop) (K65 : Int32 → Int32 → HG → Prop) (lx4 : Int32) (lx5 : Int32) (G : HG) : Prop :=
  gtQ G a0 3 4 fun q20 => nnq q20 fun a21 => gtQ G a21 0 1 fun q22 => nnq q22 fun a23 => gtQ G a23 2 1 fun q24 => nnq q24 fun a25 => isO G a25 15 (hJ2_size j Λ a25 G fun x27 G26 => (x27 ≤ lx5 → (K37 (lx4 + 1) G26)) ∧ (¬ x27 ≤ lx5 → (hX0_isOn j Λ p3 lx5 G26 fun x30 G29 => (x30 = 0 → (gtQ G29 a0 3 4 fun q32 => gtQ G29 a0 3 2 fun q33 => nnq q33 fun a34 => ldI G29 a34 (j.1 0) lx4 fun x35 => nnq q32 fun a36 => isO G29 a36 0 (hX0_stepIn j Λ a36 lx5 x35 G29 fun x38 G37 => hX3_of_b114 j Λ a0 p1 p2 p3 post K37 K65 lx4 lx5 x38 G37))) ∧ (¬ x30 = 0 → (hX3_of_b114 j Λ a0 p1 p2 p3 post K37 K65 lx4 lx5 ((-1) : Int32) G29)))))
def hX3_of_l65 (j : JX) (Λ : JLam) (a0 : Nat) (p1 : Int32) (p2 : Int32) (p3 : Int32) (post : Option Nat → HG → Prop) (K37 : Int32 → HG → Prop) : Nat → Int32 → Int32 → HG → Prop
  | 0 => fun _ _ _ => False
  | n + 1 => fun lx4 lx5 G => hX3_of_b65 j Λ a0 p1 p2 p3 post K37 (hX3_of_l65 j Λ a0 p1 p2 p3 post K37 n) lx4 lx5 G
def hX3_of_b37 (j : JX) (Λ : JLam) (a0 : Nat) (p1 : Int32) (p2 : Int32) (p3 : Int32) (post : Option Nat → HG → Prop) (K37 : Int32 → HG → Prop) (lx4 : Int32) (G : HG) : Prop :=
  gtI G a0 3 3 fun x11 => (x11 ≤ lx4 → (post (some a0) G)) ∧ (¬ x11 ≤ lx4 → (gtQ G a0 3 0 fun q13 => gtQ G a0 3 2 fun q14 => nnq q14 fun a15 => ldI G a15 (j.1 0) lx4 fun x16 => nnq q13 fun a17 => ldI G a17 (j.1 0) x16 fun x18 => (p2 ≤ x18 → (post (some a0) G)) ∧ (¬ p2 ≤ x18 → (∃ n, hX3_of_l65 j Λ a0 p1 p2 p3 post K37 n lx4 (0 : Int32) G))))
def hX3_of_l37 (j : JX) (Λ : JLam) (a0 : Nat) (p1 : Int32) (p2 : Int32) (p3 : Int32) (post : Option Nat → HG → Prop) : Nat → Int32 → HG → Prop
  | 0 => fun _ _ => False
  | n + 1 => fun lx4 G => hX3_of_b37 j Λ a0 p1 p2 p3 post (hX3_of_l37 j Λ a0 p1 p2 p3 post n) lx4 G
def hX3_of (j : JX) (Λ : JLam) (a0 : Nat) (p1 : Int32) (p2 : Int32) (p3 : Int32) (G : HG) (post : Option Nat → HG → Prop) : Prop :=
  gtQ G a0 3 0 fun q1 => hJ26_fill_2 j Λ q1 ((-1) : Int32) G fun G2 => ptV G2 a0 3 3 (.int 0) fun G3 => gtQ G3 a0 3 4 fun q4 => nnq q4 fun a5 => gtQ G3 a5 0 11 fun q6 => nnq q6 fun a7 => ldI G3 a7 (j.1 1) p1 fun x8 => (x8 = 0 → (post (some a0) G3)) ∧ (¬ x8 = 0 → (isO G3 a0 3 (hX3_comes j Λ a0 p1 (0 : Int32) ((-1) : Int32) G3 fun G10 => ∃ n, hX3_of_l37 j Λ a0 p1 p2 p3 post n (0 : Int32) G10)))
abbrev rhX3_of (fr lo : Nat) : Room := { frames := fr + 2, cells := 0, slots := 0, locals := lo + 63 }
theorem mhX3_of (l : Launch) (Z : (Nat → Prop) → State → Heap → Prop) (D : va_G) (j : JX) (Λ : JLam) (fr lo : Nat) (E : JE l Z D j Λ fr lo) (a0 : Nat) (p1 : Int32) (p2 : Int32) (p3 : Int32) (G : HG) (post : Option Nat → HG → Prop) (hf : hX3_of j Λ a0 p1 p2 p3 G post) : HMq l yX3_of (ws_ yX3_of cX3_of 7 (some (.object "MergeJudge$Side"))) (rhX3_of fr lo) D jC (jty j.1) Z G [.ref a0, .int p1, .int p2, .int p3] post 0 0 := by
  refine h_openq (Or.inl ⟨_, rfl⟩) E.1 (by decide) (by exact Nat.le_of_ble_eq_true rfl) (fun p e s m args below meth c ls A0 Q X hI hnd hnm hl hret => ?_)
  have X : XC p s m args meth c cX3_of 7 RX3 D jC (jty j.1) A0 Z := X
  have hx := X.1
  have hb := X.2.1
  have hown := X.2.2.2.1
  have hts := X.2.2.2.2.1
  have L37 : ∀ (n : Nat) (lx4 : Int32) (G : HG), hX3_of_l37 j Λ a0 p1 p2 p3 post n lx4 G → ∀ (H : Heap) (locs : List Loc), HI D jC G A0 s.heap H locs → ∀ (ls : Array Slot), lv_has ls 7 [(0, .ref a0), (2, .int p2), (3, .int p3), (4, .int lx4)] → W p l e (rhX3_of fr lo) s m args below meth c H locs 0 0 Q (F0 m 37 ls []) := by
    intro n37
    induction n37 with
    | zero => intro lx4 G hf; exact hf.elim
    | succ n37 ih37 =>
      have L65 : ∀ (n : Nat) (lx4 : Int32) (lx5 : Int32) (G : HG), hX3_of_l65 j Λ a0 p1 p2 p3 post (hX3_of_l37 j Λ a0 p1 p2 p3 post n37) n lx4 lx5 G → ∀ (H : Heap) (locs : List Loc), HI D jC G A0 s.heap H locs → ∀ (ls : Array Slot), lv_has ls 7 [(0, .ref a0), (2, .int p2), (3, .int p3), (4, .int lx4), (5, .int lx5)] → W p l e (rhX3_of fr lo) s m args below meth c H locs 0 0 Q (F0 m 65 ls []) := by
        intro n65
        induction n65 with
        | zero => intro lx4 lx5 G hf; exact hf.elim
        | succ n65 ih65 =>
          have J175 : ∀ (lx4 : Int32) (lx5 : Int32) (G : HG), hX3_of_b175 j Λ a0 p1 p2 p3 post (hX3_of_l37 j Λ a0 p1 p2 p3 post n37) (hX3_of_l65 j Λ a0 p1 p2 p3 post (hX3_of_l37 j Λ a0 p1 p2 p3 post n37) n65) lx4 lx5 G → ∀ (H : Heap) (locs : List Loc), HI D jC G A0 s.heap H locs → ∀ (ls : Array Slot), lv_has ls 7 [(0, .ref a0), (2, .int p2), (3, .int p3), (4, .int lx4), (5, .int lx5)] → W p l e (rhX3_of fr lo) s m args below meth c H locs 0 0 Q (F0 m 175 ls []) := by
            intro lx4 lx5 G hf H locs hI ls hl
            unfold hX3_of_b175 at hf
            refine lv_iinc (v := lx5 + 1) (lv' := [(5, .int (lx5 + 1)), (0, .ref a0), (2, .int p2), (3, .int p3), (4, .int lx4)]) hx hb dX3_of_175 hl (k := 4) rfl rfl (by decide) rfl (fun ls hl => ?_)
            refine lv_goto (tgt := 65) hx hb dX3_of_178 (by decide) ?_
            exact ih65 lx4 (lx5 + 1) G hf H locs hI ls (lv_sub hl [1, 2, 3, 4, 0] rfl)
          have J172 : ∀ (lx4 : Int32) (lx5 : Int32) (z0 : Nat) (z1 : Int32) (z2 : Int32) (z3 : Int32) (G : HG), hX3_of_b172 j Λ a0 p1 p2 p3 post (hX3_of_l37 j Λ a0 p1 p2 p3 post n37) (hX3_of_l65 j Λ a0 p1 p2 p3 post (hX3_of_l37 j Λ a0 p1 p2 p3 post n37) n65) lx4 lx5 z0 z1 z2 z3 G → ∀ (H : Heap) (locs : List Loc), HI D jC G A0 s.heap H locs → ∀ (ls : Array Slot), lv_has ls 7 [(0, .ref a0), (2, .int p2), (3, .int p3), (4, .int lx4), (5, .int lx5)] → W p l e (rhX3_of fr lo) s m args below meth c H locs 0 0 Q (F0 m 172 ls [.int z3, .int z2, .int z1, .ref z0]) := by
            intro lx4 lx5 z0 z1 z2 z3 G hf H locs hI ls hl
            unfold hX3_of_b172 at hf
            obtain ⟨_, _, hO, hf⟩ := hf
            refine h_kv X hI (h_runV (As := [.int z1, .int z2, .int z3]) X hI (h_recv X hI hO (show jC.1[3]? = some (RX3, TX3, 5) from rfl)) (mhX3_comes l Z D j Λ fr lo E z0 z1 z2 z3 G _ hf H.size) (cwV 3 hts (lw_V q2002 q2004 qs48 q174 q2005) rfl rfl rfl (by decide +kernel) (by show fr + 1 + 1 ≤ fr + 2 ∧ 8 + (4 + 11) + (lo + 40) ≤ lo + 63; omega)) rfl hl.1 (Nat.le_of_ble_eq_true rfl) dX3_of_172 ⟨Nat.le_refl _, Nat.le_refl _⟩ rfl) (fun G57 H locs hf hI => ?_)
            clear hO
            exact J175 lx4 lx5 G57 hf H locs hI ls (lv_sub hl [0, 1, 2, 3, 4] rfl)
          have J114 : ∀ (lx4 : Int32) (lx5 : Int32) (z0 : Int32) (G : HG), hX3_of_b114 j Λ a0 p1 p2 p3 post (hX3_of_l37 j Λ a0 p1 p2 p3 post n37) (hX3_of_l65 j Λ a0 p1 p2 p3 post (hX3_of_l37 j Λ a0 p1 p2 p3 post n37) n65) lx4 lx5 z0 G → ∀ (H : Heap) (locs : List Loc), HI D jC G A0 s.heap H locs → ∀ (ls : Array Slot), lv_has ls 7 [(0, .ref a0), (2, .int p2), (3, .int p3), (4, .int lx4), (5, .int lx5)] → W p l e (rhX3_of fr lo) s m args below meth c H locs 0 0 Q (F0 m 114 ls [.int z0]) := by
            intro lx4 lx5 z0 G hf H locs hI ls hl
            unfold hX3_of_b114 at hf
            refine lv_istore (lv' := [(6, .int z0), (0, .ref a0), (2, .int p2), (3, .int p3), (4, .int lx4), (5, .int lx5)]) hx hb dX3_of_114 hl (by decide) rfl (fun ls hl => ?_)
            refine lv_iload hx hb dX3_of_116 (lv_at hl 0 rfl) ?_
            refine lv_iconst (v := -1) hx hb dX3_of_118 (by decide) ?_
            refine lv_icmp_eq (tgt := 175) hx hb dX3_of_119 (by decide) (fun c39 => ?_) (fun c39 => ?_)
            · have hf := hf.1 c39
              exact J175 lx4 lx5 G hf H locs hI ls (lv_sub hl [1, 2, 3, 4, 5] rfl)
            · have hf := hf.2 c39
              refine lv_aload_n hx hb dX3_of_122 rfl (lv_at hl 1 rfl) ?_
              refine hr_gtQ X hI (rfl : jC.1[3]? = some (RX3, TX3, 5)) in_X3 0 (Nat.le_of_ble_eq_true rfl) hf q560 (fun _ h => h) dX3_of_123 (fun q40 hf => ?_)
              refine lv_iload hx hb dX3_of_126 (lv_at hl 0 rfl) ?_
              obtain ⟨a41, ea41, hf⟩ := hf
              revert hl hf
              subst ea41
              intro hl hf
              have hl : lv_has ls 7 [(6, .int z0), (0, .ref a0), (2, .int p2), (3, .int p3), (4, .int lx4), (5, .int lx5)] := hl
              refine hr_ild X hI 0 rfl hf dX3_of_128 (fun x42 hf => ?_)
              refine lv_iconst (v := -1) hx hb dX3_of_129 (by decide) ?_
              refine lv_icmp_ne (tgt := 175) hx hb dX3_of_130 (by decide) (fun c43 => ?_) (fun c43 => ?_)
              · have hf := hf.2 c43
                exact J175 lx4 lx5 G hf H locs hI ls (lv_sub hl [1, 2, 3, 4, 5] rfl)
              · have hf := hf.1 c43
                refine lv_aload_n hx hb dX3_of_133 rfl (lv_at hl 1 rfl) ?_
                refine lv_iload hx hb dX3_of_134 (lv_at hl 0 rfl) ?_
                refine lv_aload_n hx hb dX3_of_136 rfl (lv_at hl 1 rfl) ?_
                refine hr_gtQ X hI (rfl : jC.1[3]? = some (RX3, TX3, 5)) in_X3 0 (Nat.le_of_ble_eq_true rfl) hf q560 (fun _ h => h) dX3_of_137 (fun q44 hf => ?_)
                refine lv_aload_n hx hb dX3_of_140 rfl (lv_at hl 1 rfl) ?_
                refine hr_gtQ X hI (rfl : jC.1[3]? = some (RX3, TX3, 5)) in_X3 2 (Nat.le_of_ble_eq_true rfl) hf q565 (fun _ h => h) dX3_of_141 (fun q45 hf => ?_)
                refine lv_iload hx hb dX3_of_144 (lv_at hl 4 rfl) ?_
                obtain ⟨a46, ea46, hf⟩ := hf
                revert hl hf
                subst ea46
                intro hl hf
                have hl : lv_has ls 7 [(6, .int z0), (0, .ref a0), (2, .int p2), (3, .int p3), (4, .int lx4), (5, .int lx5)] := hl
                refine hr_ild X hI 0 rfl hf dX3_of_146 (fun x47 hf => ?_)
                obtain ⟨a48, ea48, hf⟩ := hf
                revert hl hf
                subst ea48
                intro hl hf
                have hl : lv_has ls 7 [(6, .int z0), (0, .ref a0), (2, .int p2), (3, .int p3), (4, .int lx4), (5, .int lx5)] := hl
                refine hr_ild X hI 0 rfl hf dX3_of_147 (fun x49 hf => ?_)
                refine lv_iconst (v := 1) hx hb dX3_of_148 (by decide) ?_
                refine lv_iadd hx hb dX3_of_149 ?_
                refine lv_iload hx hb dX3_of_150 (lv_at hl 4 rfl) ?_
                refine lv_if_ne (tgt := 160) hx hb dX3_of_152 (by decide) (fun c50 => ?_) (fun c50 => ?_)
                · have hf := hf.2 c50
                  refine lv_aload_n hx hb dX3_of_160 rfl (lv_at hl 1 rfl) ?_
                  refine hr_gtQ X hI (rfl : jC.1[3]? = some (RX3, TX3, 5)) in_X3 1 (Nat.le_of_ble_eq_true rfl) hf q563 (fun _ h => h) dX3_of_161 (fun q51 hf => ?_)
                  refine lv_aload_n hx hb dX3_of_164 rfl (lv_at hl 1 rfl) ?_
                  refine hr_gtQ X hI (rfl : jC.1[3]? = some (RX3, TX3, 5)) in_X3 2 (Nat.le_of_ble_eq_true rfl) hf q565 (fun _ h => h) dX3_of_165 (fun q52 hf => ?_)
                  refine lv_iload hx hb dX3_of_168 (lv_at hl 4 rfl) ?_
                  obtain ⟨a53, ea53, hf⟩ := hf
                  revert hl hf
                  subst ea53
                  intro hl hf
                  have hl : lv_has ls 7 [(6, .int z0), (0, .ref a0), (2, .int p2), (3, .int p3), (4, .int lx4), (5, .int lx5)] := hl
                  refine hr_ild X hI 0 rfl hf dX3_of_170 (fun x54 hf => ?_)
                  obtain ⟨a55, ea55, hf⟩ := hf
                  revert hl hf
                  subst ea55
                  intro hl hf
                  have hl : lv_has ls 7 [(6, .int z0), (0, .ref a0), (2, .int p2), (3, .int p3), (4, .int lx4), (5, .int lx5)] := hl
                  refine hr_ild X hI 0 rfl hf dX3_of_171 (fun x56 hf => ?_)
                  exact J172 lx4 lx5 a0 z0 (x49 + 1) x56 G hf H locs hI ls (lv_sub hl [1, 2, 3, 4, 5] rfl)
                · have hf := hf.1 c50
                  refine lv_iload hx hb dX3_of_155 (lv_at hl 5 rfl) ?_
                  refine lv_goto (tgt := 172) hx hb dX3_of_157 (by decide) ?_
                  exact J172 lx4 lx5 a0 z0 (x49 + 1) lx5 G hf H locs hI ls (lv_sub hl [1, 2, 3, 4, 5] rfl)
          intro lx4 lx5 G hf H locs hI ls hl
          have hf : hX3_of_b65 j Λ a0 p1 p2 p3 post (hX3_of_l37 j Λ a0 p1 p2 p3 post n37) (hX3_of_l65 j Λ a0 p1 p2 p3 post (hX3_of_l37 j Λ a0 p1 p2 p3 post n37) n65) lx4 lx5 G := hf
          unfold hX3_of_b65 at hf
          refine lv_iload hx hb dX3_of_65 (lv_at hl 4 rfl) ?_
          refine lv_aload_n hx hb dX3_of_67 rfl (lv_at hl 0 rfl) ?_
          refine hr_gtQ X hI (rfl : jC.1[3]? = some (RX3, TX3, 5)) in_X3 4 (Nat.le_of_ble_eq_true rfl) hf q568 (fun _ h => h) dX3_of_68 (fun q20 hf => ?_)
          obtain ⟨a21, ea21, hf⟩ := hf
          revert hl hf
          subst ea21
          intro hl hf
          have hl : lv_has ls 7 [(0, .ref a0), (2, .int p2), (3, .int p3), (4, .int lx4), (5, .int lx5)] := hl
          refine hr_gtQN X hI (rfl : jC.1[0]? = some (RX0, TX0, 20)) in_X0 1 (Nat.le_of_ble_eq_true rfl) hf (E.nw X q652 rfl) (fun _ h => h) dX3_of_71 (fun q22 hf => ?_)
          obtain ⟨a23, ea23, hf⟩ := hf
          revert hl hf
          subst ea23
          intro hl hf
          have hl : lv_has ls 7 [(0, .ref a0), (2, .int p2), (3, .int p3), (4, .int lx4), (5, .int lx5)] := hl
          refine hr_gtQN X hI (rfl : jC.1[2]? = some (RX2, TX2, 11)) in_X2 1 (Nat.le_of_ble_eq_true rfl) hf (E.nw X q481 rfl) (fun _ h => h) dX3_of_74 (fun q24 hf => ?_)
          obtain ⟨a25, ea25, hf⟩ := hf
          revert hl hf
          subst ea25
          intro hl hf
          have hl : lv_has ls 7 [(0, .ref a0), (2, .int p2), (3, .int p3), (4, .int lx4), (5, .int lx5)] := hl
          obtain ⟨_, _, hO, hf⟩ := hf
          refine h_Fki X hI (h_runF (As := []) X hI (X.2.2.2.2.2.1.1 15 _ (show jC.1[15]? = some (RJ2, TJ2, 3) from rfl)).2 (h_recv X hI hO (show jC.1[15]? = some (RJ2, TJ2, 3) from rfl)) (mhJ2_size l Z D j Λ fr lo E a25 G _ hf H.size) (cwF 0 hts q2007 q1771 q1773 q172 q1775 ((E.w X).2.2.1 _ (List.mem_of_getElem? (show jFw[0]? = _ from rfl))) rfl rfl (by decide +kernel) (by show fr + 1 + 1 ≤ fr + 2 ∧ 8 + (1 + 11) + (lo + 40) ≤ lo + 63; omega)) rfl hl.1 (Nat.le_of_ble_eq_true rfl) dX3_of_77 ⟨Nat.le_refl _, Nat.le_refl _⟩ rfl) (fun x27 G26 H locs hf hI => ?_)
          clear hO
          refine lv_icmp_ge (tgt := 181) hx hb dX3_of_82 (by decide) (fun c28 => ?_) (fun c28 => ?_)
          · have hf := hf.1 c28
            refine lv_iinc (v := lx4 + 1) (lv' := [(4, .int (lx4 + 1)), (0, .ref a0), (2, .int p2), (3, .int p3), (5, .int lx5)]) hx hb dX3_of_181 hl (k := 3) rfl rfl (by decide) rfl (fun ls hl => ?_)
            refine lv_goto (tgt := 37) hx hb dX3_of_184 (by decide) ?_
            exact ih37 (lx4 + 1) G26 hf H locs hI ls (lv_sub hl [1, 2, 3, 0] rfl)
          · have hf := hf.2 c28
            refine lv_iload_n hx hb dX3_of_85 rfl (lv_at hl 2 rfl) ?_
            refine lv_iload hx hb dX3_of_86 (lv_at hl 4 rfl) ?_
            refine h_ki X hI (h_runSN (As := [.int p3, .int lx5]) X hI (mhX0_isOn l Z D j Λ fr lo E p3 lx5 G26 _ hf H.size) (cwSn 2 hts (E.nw X q2008 rfl) q1954 q167 q1955 rfl rfl (by decide +kernel) (by show fr + 1 + 1 ≤ fr + 2 ∧ 8 + (2 + 11) + (lo + 40) ≤ lo + 63; omega)) rfl hl.1 (Nat.le_of_ble_eq_true rfl) dX3_of_88 ⟨Nat.le_refl _, Nat.le_refl _⟩ rfl) (fun x30 G29 H locs hf hI => ?_)
            refine lv_if_eq (tgt := 98) hx hb dX3_of_91 (by decide) (fun c31 => ?_) (fun c31 => ?_)
            · have hf := hf.1 c31
              refine lv_aload_n hx hb dX3_of_98 rfl (lv_at hl 0 rfl) ?_
              refine hr_gtQ X hI (rfl : jC.1[3]? = some (RX3, TX3, 5)) in_X3 4 (Nat.le_of_ble_eq_true rfl) hf q568 (fun _ h => h) dX3_of_99 (fun q32 hf => ?_)
              refine lv_iload hx hb dX3_of_102 (lv_at hl 4 rfl) ?_
              refine lv_aload_n hx hb dX3_of_104 rfl (lv_at hl 0 rfl) ?_
              refine hr_gtQ X hI (rfl : jC.1[3]? = some (RX3, TX3, 5)) in_X3 2 (Nat.le_of_ble_eq_true rfl) hf q565 (fun _ h => h) dX3_of_105 (fun q33 hf => ?_)
              refine lv_iload hx hb dX3_of_108 (lv_at hl 3 rfl) ?_
              obtain ⟨a34, ea34, hf⟩ := hf
              revert hl hf
              subst ea34
              intro hl hf
              have hl : lv_has ls 7 [(0, .ref a0), (2, .int p2), (3, .int p3), (4, .int lx4), (5, .int lx5)] := hl
              refine hr_ild X hI 0 rfl hf dX3_of_110 (fun x35 hf => ?_)
              obtain ⟨a36, ea36, hf⟩ := hf
              revert hl hf
              subst ea36
              intro hl hf
              have hl : lv_has ls 7 [(0, .ref a0), (2, .int p2), (3, .int p3), (4, .int lx4), (5, .int lx5)] := hl
              obtain ⟨_, _, hO, hf⟩ := hf
              refine h_ki X hI (h_runVN (As := [.int lx5, .int x35]) X hI (h_recv X hI hO (show jC.1[0]? = some (RX0, TX0, 20) from rfl)) (mhX0_stepIn l Z D j Λ fr lo E a36 lx5 x35 G29 _ hf H.size) (cwVn 2 hts (E.nw X q2009 rfl) q2011 qs49 q167 q2012 rfl rfl (by decide +kernel) (by show fr + 1 + 1 ≤ fr + 2 ∧ 8 + (4 + 11) + (lo + 40) ≤ lo + 63; omega)) rfl hl.1 (Nat.le_of_ble_eq_true rfl) dX3_of_111 ⟨Nat.le_refl _, Nat.le_refl _⟩ rfl) (fun x38 G37 H locs hf hI => ?_)
              clear hO
              exact J114 lx4 lx5 x38 G37 hf H locs hI ls (lv_sub hl [0, 1, 2, 3, 4] rfl)
            · have hf := hf.2 c31
              refine lv_iconst (v := -1) hx hb dX3_of_94 (by decide) ?_
              refine lv_goto (tgt := 114) hx hb dX3_of_95 (by decide) ?_
              exact J114 lx4 lx5 ((-1) : Int32) G29 hf H locs hI ls (lv_sub hl [0, 1, 2, 3, 4] rfl)
      intro lx4 G hf H locs hI ls hl
      have hf : hX3_of_b37 j Λ a0 p1 p2 p3 post (hX3_of_l37 j Λ a0 p1 p2 p3 post n37) lx4 G := hf
      unfold hX3_of_b37 at hf
      refine lv_iload hx hb dX3_of_37 (lv_at hl 3 rfl) ?_
      refine lv_aload_n hx hb dX3_of_39 rfl (lv_at hl 0 rfl) ?_
      refine hr_gtI X hI (rfl : jC.1[3]? = some (RX3, TX3, 5)) in_X3 3 (Nat.le_of_ble_eq_true rfl) hf q566 (fun _ h => h) dX3_of_40 (fun x11 hf => ?_)
      refine lv_icmp_ge (tgt := 187) hx hb dX3_of_43 (by decide) (fun c12 => ?_) (fun c12 => ?_)
      · have hf := hf.1 c12
        refine lv_aload_n hx hb dX3_of_187 rfl (lv_at hl 0 rfl) ?_
        exact hret (v := (some a0)) hf hI dX3_of_188 (Nat.le_refl _) (Nat.le_refl _)
      · have hf := hf.2 c12
        refine lv_aload_n hx hb dX3_of_46 rfl (lv_at hl 0 rfl) ?_
        refine hr_gtQ X hI (rfl : jC.1[3]? = some (RX3, TX3, 5)) in_X3 0 (Nat.le_of_ble_eq_true rfl) hf q560 (fun _ h => h) dX3_of_47 (fun q13 hf => ?_)
        refine lv_aload_n hx hb dX3_of_50 rfl (lv_at hl 0 rfl) ?_
        refine hr_gtQ X hI (rfl : jC.1[3]? = some (RX3, TX3, 5)) in_X3 2 (Nat.le_of_ble_eq_true rfl) hf q565 (fun _ h => h) dX3_of_51 (fun q14 hf => ?_)
        refine lv_iload hx hb dX3_of_54 (lv_at hl 3 rfl) ?_
        obtain ⟨a15, ea15, hf⟩ := hf
        revert hl hf
        subst ea15
        intro hl hf
        have hl : lv_has ls 7 [(0, .ref a0), (2, .int p2), (3, .int p3), (4, .int lx4)] := hl
        refine hr_ild X hI 0 rfl hf dX3_of_56 (fun x16 hf => ?_)
        obtain ⟨a17, ea17, hf⟩ := hf
        revert hl hf
        subst ea17
        intro hl hf
        have hl : lv_has ls 7 [(0, .ref a0), (2, .int p2), (3, .int p3), (4, .int lx4)] := hl
        refine hr_ild X hI 0 rfl hf dX3_of_57 (fun x18 hf => ?_)
        refine lv_iload_n hx hb dX3_of_58 rfl (lv_at hl 1 rfl) ?_
        refine lv_icmp_ge (tgt := 187) hx hb dX3_of_59 (by decide) (fun c19 => ?_) (fun c19 => ?_)
        · have hf := hf.1 c19
          refine lv_aload_n hx hb dX3_of_187 rfl (lv_at hl 0 rfl) ?_
          exact hret (v := (some a0)) hf hI dX3_of_188 (Nat.le_refl _) (Nat.le_refl _)
        · have hf := hf.2 c19
          refine lv_iconst (v := 0) hx hb dX3_of_62 (by decide) ?_
          refine lv_istore (lv' := [(5, .int 0), (0, .ref a0), (2, .int p2), (3, .int p3), (4, .int lx4)]) hx hb dX3_of_63 hl (by decide) rfl (fun ls hl => ?_)
          obtain ⟨n, hf⟩ := hf
          exact L65 n lx4 (0 : Int32) G hf H locs hI ls (lv_sub hl [1, 2, 3, 4, 0] rfl)
  have hl : lv_has ls 7 [(0, .ref a0), (1, .int p1), (2, .int p2), (3, .int p3)] := by exact hl
  unfold hX3_of at hf
  obtain ⟨H, eH⟩ : ∃ H, H = s.heap := ⟨_, rfl⟩
  obtain ⟨locs, eL⟩ : ∃ locs : List Loc, locs = [] := ⟨_, rfl⟩
  have hI : HI D jC G A0 s.heap H locs := by rw [eH, eL]; exact hI
  rw [← eL]
  suffices h : W p l e (rhX3_of fr lo) s m args below meth c H locs 0 0 Q (F0 m 0 ls []) by rw [eH] at h; exact h
  clear eH eL
  refine lv_aload_n hx hb dX3_of_0 rfl (lv_at hl 0 rfl) ?_
  refine hr_gtQ X hI (rfl : jC.1[3]? = some (RX3, TX3, 5)) in_X3 0 (Nat.le_of_ble_eq_true rfl) hf q560 (fun _ h => h) dX3_of_1 (fun q1 hf => ?_)
  refine lv_iconst (v := -1) hx hb dX3_of_4 (by decide) ?_
  refine h_kv X hI (h_runS (As := [va_rf q1, .int (-1)]) X hI (mhJ26_fill_2 l Z D j Λ fr lo E q1 ((-1) : Int32) G _ hf H.size) (va_cwS 2 hts (lw_S q1999 q2000 q204 q2001) rfl rfl rfl (by decide +kernel) (by show fr + 1 + 1 ≤ fr + 2 ∧ 8 + (4 + 11) + (lo + 40) ≤ lo + 63; omega)) rfl hl.1 (Nat.le_of_ble_eq_true rfl) dX3_of_5 ⟨Nat.le_refl _, Nat.le_refl _⟩ rfl) (fun G2 H locs hf hI => ?_)
  refine lv_aload_n hx hb dX3_of_8 rfl (lv_at hl 0 rfl) ?_
  refine lv_iconst (v := 0) hx hb dX3_of_9 (by decide) ?_
  refine hr_pt X hI (rfl : jC.1[3]? = some (RX3, TX3, 5)) in_X3 3 (Nat.le_of_ble_eq_true rfl) tyX3 tyX3_ok nmX3 hf q566 (fun _ h => h) rfl rfl rfl dX3_of_10 (fun G3 H locs hf hI => ?_)
  refine lv_aload_n hx hb dX3_of_13 rfl (lv_at hl 0 rfl) ?_
  refine hr_gtQ X hI (rfl : jC.1[3]? = some (RX3, TX3, 5)) in_X3 4 (Nat.le_of_ble_eq_true rfl) hf q568 (fun _ h => h) dX3_of_14 (fun q4 hf => ?_)
  obtain ⟨a5, ea5, hf⟩ := hf
  revert hl hf
  subst ea5
  intro hl hf
  have hl : lv_has ls 7 [(0, .ref a0), (1, .int p1), (2, .int p2), (3, .int p3)] := hl
  refine hr_gtQN X hI (rfl : jC.1[0]? = some (RX0, TX0, 20)) in_X0 11 (Nat.le_of_ble_eq_true rfl) hf (E.nw X q663 rfl) (fun _ h => h) dX3_of_17 (fun q6 hf => ?_)
  refine lv_iload_n hx hb dX3_of_20 rfl (lv_at hl 1 rfl) ?_
  obtain ⟨a7, ea7, hf⟩ := hf
  revert hl hf
  subst ea7
  intro hl hf
  have hl : lv_has ls 7 [(0, .ref a0), (1, .int p1), (2, .int p2), (3, .int p3)] := hl
  refine hr_zld X hI 1 rfl hf dX3_of_21 (fun x8 hf => ?_)
  refine lv_if_ne (tgt := 27) hx hb dX3_of_22 (by decide) (fun c9 => ?_) (fun c9 => ?_)
  · have hf := hf.2 c9
    refine lv_aload_n hx hb dX3_of_27 rfl (lv_at hl 0 rfl) ?_
    refine lv_iload_n hx hb dX3_of_28 rfl (lv_at hl 1 rfl) ?_
    refine lv_iconst (v := 0) hx hb dX3_of_29 (by decide) ?_
    refine lv_iconst (v := -1) hx hb dX3_of_30 (by decide) ?_
    obtain ⟨_, _, hO, hf⟩ := hf
    refine h_kv X hI (h_runV (As := [.int p1, .int 0, .int (-1)]) X hI (h_recv X hI hO (show jC.1[3]? = some (RX3, TX3, 5) from rfl)) (mhX3_comes l Z D j Λ fr lo E a0 p1 (0 : Int32) ((-1) : Int32) G3 _ hf H.size) (cwV 3 hts (lw_V q2002 q2004 qs48 q174 q2005) rfl rfl rfl (by decide +kernel) (by show fr + 1 + 1 ≤ fr + 2 ∧ 8 + (4 + 11) + (lo + 40) ≤ lo + 63; omega)) rfl hl.1 (Nat.le_of_ble_eq_true rfl) dX3_of_31 ⟨Nat.le_refl _, Nat.le_refl _⟩ rfl) (fun G10 H locs hf hI => ?_)
    clear hO
    refine lv_iconst (v := 0) hx hb dX3_of_34 (by decide) ?_
    refine lv_istore (lv' := [(4, .int 0), (0, .ref a0), (1, .int p1), (2, .int p2), (3, .int p3)]) hx hb dX3_of_35 hl (by decide) rfl (fun ls hl => ?_)
    obtain ⟨n, hf⟩ := hf
    exact L37 n (0 : Int32) G10 hf H locs hI ls (lv_sub hl [1, 3, 4, 0] rfl)
  · have hf := hf.1 c9
    refine lv_aload_n hx hb dX3_of_25 rfl (lv_at hl 0 rfl) ?_
    exact hret (v := (some a0)) hf hI dX3_of_26 (Nat.le_refl _) (Nat.le_refl _)
/-! MergeJudge.mergeOf(III)I -/
def hX0_mergeOf_b6 (j : JX) (Λ : JLam) (a0 : Nat) (p1 : Int32) (p2 : Int32) (p3 : Int32) (post : Int32 → HG → Prop) (K6 : Int32 → Int32 → HG → Prop) (lx4 : Int32) (lx5 : Int32) (G : HG) : Prop :=
  gtQ G a0 0 1 fun q1 => nnq q1 fun a2 => gtI G a2 2 7 fun x3 => (x3 ≤ lx5 → (post lx4 G)) ∧ (¬ x3 ≤ lx5 → (isO G a0 0 (hX0_unit j Λ a0 lx5 G fun x6 G5 => gtQ G5 a0 0 3 fun q7 => gtQ G5 a0 0 1 fun q8 => nnq q8 fun a9 => gtQ G5 a9 2 3 fun q10 => nnq q10 fun a11 => ldI G5 a11 (j.1 0) lx5 fun x12 => nnq q7 fun a13 => ldQ (jty j.1) G5 a13 x12 fun q14 => nnq q14 fun a15 => gtQ G5 a15 6 0 fun q16 => isO G5 a0 0 (hX0_valueOf j Λ a0 p1 lx5 G5 fun x18 G17 => isO G17 a0 0 (hX0_valueOf j Λ a0 p2 lx5 G17 fun x20 G19 => isO G19 a0 0 (hX0_valueOf j Λ a0 p3 lx5 G19 fun x22 G21 => nnq q16 fun a23 => Λ.1 a23 x18 x20 x22 G21 fun x25 G24 => K6 (lx4 + (x6 * x25)) (lx5 + 1) G24))))))
def hX0_mergeOf_l6 (j : JX) (Λ : JLam) (a0 : Nat) (p1 : Int32) (p2 : Int32) (p3 : Int32) (post : Int32 → HG → Prop) : Nat → Int32 → Int32 → HG → Prop
  | 0 => fun _ _ _ => False
  | n + 1 => fun lx4 lx5 G => hX0_mergeOf_b6 j Λ a0 p1 p2 p3 post (hX0_mergeOf_l6 j Λ a0 p1 p2 p3 post n) lx4 lx5 G
def hX0_mergeOf (j : JX) (Λ : JLam) (a0 : Nat) (p1 : Int32) (p2 : Int32) (p3 : Int32) (G : HG) (post : Int32 → HG → Prop) : Prop :=
  ∃ n, hX0_mergeOf_l6 j Λ a0 p1 p2 p3 post n (0 : Int32) (0 : Int32) G
abbrev rhX0_mergeOf (fr lo : Nat) : Room := { frames := fr + 3, cells := 0, slots := 0, locals := lo + 85 }
theorem mhX0_mergeOf (l : Launch) (Z : (Nat → Prop) → State → Heap → Prop) (D : va_G) (j : JX) (Λ : JLam) (fr lo : Nat) (E : JE l Z D j Λ fr lo) (a0 : Nat) (p1 : Int32) (p2 : Int32) (p3 : Int32) (G : HG) (post : Int32 → HG → Prop) (hf : hX0_mergeOf j Λ a0 p1 p2 p3 G post) : HMi l yX0_mergeOf (ws_ yX0_mergeOf cX0_mergeOf 6 (some .int)) (rhX0_mergeOf fr lo) D jC (jty j.1) Z G [.ref a0, .int p1, .int p2, .int p3] post 0 0 := by
  refine h_openi E.1 (by decide) (by exact Nat.le_of_ble_eq_true rfl) (fun p e s m args below meth c ls A0 Q X hI hnd hnm hl hret => ?_)
  have X : XC p s m args meth c cX0_mergeOf 6 RX0 D jC (jty j.1) A0 Z := X
  have hx := X.1
  have hb := X.2.1
  have hown := X.2.2.2.1
  have hts := X.2.2.2.2.1
  have L6 : ∀ (n : Nat) (lx4 : Int32) (lx5 : Int32) (G : HG), hX0_mergeOf_l6 j Λ a0 p1 p2 p3 post n lx4 lx5 G → ∀ (H : Heap) (locs : List Loc), HI D jC G A0 s.heap H locs → ∀ (ls : Array Slot), lv_has ls 6 [(0, .ref a0), (1, .int p1), (2, .int p2), (3, .int p3), (4, .int lx4), (5, .int lx5)] → W p l e (rhX0_mergeOf fr lo) s m args below meth c H locs 0 0 Q (F0 m 6 ls []) := by
    intro n6
    induction n6 with
    | zero => intro lx4 lx5 G hf; exact hf.elim
    | succ n6 ih6 =>
      intro lx4 lx5 G hf H locs hI ls hl
      have hf : hX0_mergeOf_b6 j Λ a0 p1 p2 p3 post (hX0_mergeOf_l6 j Λ a0 p1 p2 p3 post n6) lx4 lx5 G := hf
      unfold hX0_mergeOf_b6 at hf
      refine lv_iload hx hb dX0_mergeOf_6 (lv_at hl 5 rfl) ?_
      refine lv_aload_n hx hb dX0_mergeOf_8 rfl (lv_at hl 0 rfl) ?_
      refine hr_gtQ X hI (rfl : jC.1[0]? = some (RX0, TX0, 20)) in_X0 1 (Nat.le_of_ble_eq_true rfl) hf q653 (fun _ h => h) dX0_mergeOf_9 (fun q1 hf => ?_)
      obtain ⟨a2, ea2, hf⟩ := hf
      revert hl hf
      subst ea2
      intro hl hf
      have hl : lv_has ls 6 [(0, .ref a0), (1, .int p1), (2, .int p2), (3, .int p3), (4, .int lx4), (5, .int lx5)] := hl
      refine hr_gtIN X hI (rfl : jC.1[2]? = some (RX2, TX2, 11)) in_X2 7 (Nat.le_of_ble_eq_true rfl) hf (E.nw X q500 rfl) (fun _ h => h) dX0_mergeOf_12 (fun x3 hf => ?_)
      refine lv_icmp_ge (tgt := 80) hx hb dX0_mergeOf_15 (by decide) (fun c4 => ?_) (fun c4 => ?_)
      · have hf := hf.1 c4
        refine lv_iload hx hb dX0_mergeOf_80 (lv_at hl 4 rfl) ?_
        exact hret hf hI dX0_mergeOf_82 (Nat.le_refl _) (Nat.le_refl _)
      · have hf := hf.2 c4
        refine lv_iload hx hb dX0_mergeOf_18 (lv_at hl 4 rfl) ?_
        refine lv_aload_n hx hb dX0_mergeOf_20 rfl (lv_at hl 0 rfl) ?_
        refine lv_iload hx hb dX0_mergeOf_21 (lv_at hl 5 rfl) ?_
        obtain ⟨_, _, hO, hf⟩ := hf
        refine h_ki X hI (h_runV (As := [.int lx5]) X hI (h_recv X hI hO (show jC.1[0]? = some (RX0, TX0, 20) from rfl)) (mhX0_unit l Z D j Λ fr lo E a0 lx5 G _ hf H.size) (cwV 1 hts (lw_V q1883 q1885 qs28 q167 q1886) rfl rfl rfl (by decide +kernel) (by show fr + 1 + 1 ≤ fr + 3 ∧ 8 + (4 + 11) + (lo + 40) ≤ lo + 85; omega)) rfl hl.1 (Nat.le_of_ble_eq_true rfl) dX0_mergeOf_23 ⟨Nat.le_refl _, Nat.le_refl _⟩ rfl) (fun x6 G5 H locs hf hI => ?_)
        clear hO
        refine lv_aload_n hx hb dX0_mergeOf_26 rfl (lv_at hl 0 rfl) ?_
        refine hr_gtQ X hI (rfl : jC.1[0]? = some (RX0, TX0, 20)) in_X0 3 (Nat.le_of_ble_eq_true rfl) hf q655 (fun _ h => h) dX0_mergeOf_27 (fun q7 hf => ?_)
        refine lv_aload_n hx hb dX0_mergeOf_30 rfl (lv_at hl 0 rfl) ?_
        refine hr_gtQ X hI (rfl : jC.1[0]? = some (RX0, TX0, 20)) in_X0 1 (Nat.le_of_ble_eq_true rfl) hf q653 (fun _ h => h) dX0_mergeOf_31 (fun q8 hf => ?_)
        obtain ⟨a9, ea9, hf⟩ := hf
        revert hl hf
        subst ea9
        intro hl hf
        have hl : lv_has ls 6 [(0, .ref a0), (1, .int p1), (2, .int p2), (3, .int p3), (4, .int lx4), (5, .int lx5)] := hl
        refine hr_gtQN X hI (rfl : jC.1[2]? = some (RX2, TX2, 11)) in_X2 3 (Nat.le_of_ble_eq_true rfl) hf (E.nw X q488 rfl) (fun _ h => h) dX0_mergeOf_34 (fun q10 hf => ?_)
        refine lv_iload hx hb dX0_mergeOf_37 (lv_at hl 5 rfl) ?_
        obtain ⟨a11, ea11, hf⟩ := hf
        revert hl hf
        subst ea11
        intro hl hf
        have hl : lv_has ls 6 [(0, .ref a0), (1, .int p1), (2, .int p2), (3, .int p3), (4, .int lx4), (5, .int lx5)] := hl
        refine hr_ild X hI 0 rfl hf dX0_mergeOf_39 (fun x12 hf => ?_)
        obtain ⟨a13, ea13, hf⟩ := hf
        revert hl hf
        subst ea13
        intro hl hf
        have hl : lv_has ls 6 [(0, .ref a0), (1, .int p1), (2, .int p2), (3, .int p3), (4, .int lx4), (5, .int lx5)] := hl
        refine hr_qld X hI hf dX0_mergeOf_40 (fun q14 hf => ?_)
        obtain ⟨a15, ea15, hf⟩ := hf
        revert hl hf
        subst ea15
        intro hl hf
        have hl : lv_has ls 6 [(0, .ref a0), (1, .int p1), (2, .int p2), (3, .int p3), (4, .int lx4), (5, .int lx5)] := hl
        refine hr_gtQN X hI (rfl : jC.1[6]? = some (RX6, TX6, 1)) in_X6 0 (Nat.le_of_ble_eq_true rfl) hf (E.nw X q631 rfl) (fun _ h => h) dX0_mergeOf_41 (fun q16 hf => ?_)
        refine lv_aload_n hx hb dX0_mergeOf_44 rfl (lv_at hl 0 rfl) ?_
        refine lv_iload_n hx hb dX0_mergeOf_45 rfl (lv_at hl 1 rfl) ?_
        refine lv_iload hx hb dX0_mergeOf_46 (lv_at hl 5 rfl) ?_
        obtain ⟨_, _, hO, hf⟩ := hf
        refine h_ki X hI (h_runV (As := [.int p1, .int lx5]) X hI (h_recv X hI hO (show jC.1[0]? = some (RX0, TX0, 20) from rfl)) (mhX0_valueOf l Z D j Λ fr lo E a0 p1 lx5 G5 _ hf H.size) (cwV 2 hts (lw_V q1879 q1881 qs27 q167 q1882) rfl rfl rfl (by decide +kernel) (by show fr + 2 + 1 ≤ fr + 3 ∧ 8 + (3 + 11) + (lo + 63) ≤ lo + 85; omega)) rfl hl.1 (by cases q16 <;> exact Nat.le_of_ble_eq_true rfl) dX0_mergeOf_48 ⟨Nat.le_refl _, Nat.le_refl _⟩ rfl) (fun x18 G17 H locs hf hI => ?_)
        clear hO
        refine lv_aload_n hx hb dX0_mergeOf_51 rfl (lv_at hl 0 rfl) ?_
        refine lv_iload_n hx hb dX0_mergeOf_52 rfl (lv_at hl 2 rfl) ?_
        refine lv_iload hx hb dX0_mergeOf_53 (lv_at hl 5 rfl) ?_
        obtain ⟨_, _, hO, hf⟩ := hf
        refine h_ki X hI (h_runV (As := [.int p2, .int lx5]) X hI (h_recv X hI hO (show jC.1[0]? = some (RX0, TX0, 20) from rfl)) (mhX0_valueOf l Z D j Λ fr lo E a0 p2 lx5 G17 _ hf H.size) (cwV 2 hts (lw_V q1879 q1881 qs27 q167 q1882) rfl rfl rfl (by decide +kernel) (by show fr + 2 + 1 ≤ fr + 3 ∧ 8 + (3 + 11) + (lo + 63) ≤ lo + 85; omega)) rfl hl.1 (by cases q16 <;> exact Nat.le_of_ble_eq_true rfl) dX0_mergeOf_55 ⟨Nat.le_refl _, Nat.le_refl _⟩ rfl) (fun x20 G19 H locs hf hI => ?_)
        clear hO
        refine lv_aload_n hx hb dX0_mergeOf_58 rfl (lv_at hl 0 rfl) ?_
        refine lv_iload_n hx hb dX0_mergeOf_59 rfl (lv_at hl 3 rfl) ?_
        refine lv_iload hx hb dX0_mergeOf_60 (lv_at hl 5 rfl) ?_
        obtain ⟨_, _, hO, hf⟩ := hf
        refine h_ki X hI (h_runV (As := [.int p3, .int lx5]) X hI (h_recv X hI hO (show jC.1[0]? = some (RX0, TX0, 20) from rfl)) (mhX0_valueOf l Z D j Λ fr lo E a0 p3 lx5 G19 _ hf H.size) (cwV 2 hts (lw_V q1879 q1881 qs27 q167 q1882) rfl rfl rfl (by decide +kernel) (by show fr + 2 + 1 ≤ fr + 3 ∧ 8 + (3 + 11) + (lo + 63) ≤ lo + 85; omega)) rfl hl.1 (by cases q16 <;> exact Nat.le_of_ble_eq_true rfl) dX0_mergeOf_62 ⟨Nat.le_refl _, Nat.le_refl _⟩ rfl) (fun x22 G21 H locs hf hI => ?_)
        clear hO
        obtain ⟨a23, ea23, hf⟩ := hf
        revert hl hf
        subst ea23
        intro hl hf
        have hl : lv_has ls 6 [(0, .ref a0), (1, .int p1), (2, .int p2), (3, .int p3), (4, .int lx4), (5, .int lx5)] := hl
        refine hr_merge E X hI hf q647 hl.1 (Nat.le_of_ble_eq_true rfl) ⟨Nat.le_add_right _ _, Nat.le_add_right _ _⟩ ⟨Nat.le_refl _, Nat.le_refl _⟩ dX0_mergeOf_65 (fun x25 G24 H locs hf hI => ?_)
        refine lv_imul hx hb dX0_mergeOf_70 ?_
        refine lv_iadd hx hb dX0_mergeOf_71 ?_
        refine lv_istore (lv' := [(4, .int (lx4 + (x6 * x25))), (0, .ref a0), (1, .int p1), (2, .int p2), (3, .int p3), (5, .int lx5)]) hx hb dX0_mergeOf_72 hl (by decide) rfl (fun ls hl => ?_)
        refine lv_iinc (v := lx5 + 1) (lv' := [(5, .int (lx5 + 1)), (4, .int (lx4 + (x6 * x25))), (0, .ref a0), (1, .int p1), (2, .int p2), (3, .int p3)]) hx hb dX0_mergeOf_74 hl (k := 5) rfl rfl (by decide) rfl (fun ls hl => ?_)
        refine lv_goto (tgt := 6) hx hb dX0_mergeOf_77 (by decide) ?_
        exact ih6 (lx4 + (x6 * x25)) (lx5 + 1) G24 hf H locs hI ls (lv_sub hl [2, 3, 4, 5, 1, 0] rfl)
  have hl : lv_has ls 6 [(0, .ref a0), (1, .int p1), (2, .int p2), (3, .int p3)] := by exact hl
  unfold hX0_mergeOf at hf
  obtain ⟨H, eH⟩ : ∃ H, H = s.heap := ⟨_, rfl⟩
  obtain ⟨locs, eL⟩ : ∃ locs : List Loc, locs = [] := ⟨_, rfl⟩
  have hI : HI D jC G A0 s.heap H locs := by rw [eH, eL]; exact hI
  rw [← eL]
  suffices h : W p l e (rhX0_mergeOf fr lo) s m args below meth c H locs 0 0 Q (F0 m 0 ls []) by rw [eH] at h; exact h
  clear eH eL
  refine lv_iconst (v := 0) hx hb dX0_mergeOf_0 (by decide) ?_
  refine lv_istore (lv' := [(4, .int 0), (0, .ref a0), (1, .int p1), (2, .int p2), (3, .int p3)]) hx hb dX0_mergeOf_1 hl (by decide) rfl (fun ls hl => ?_)
  refine lv_iconst (v := 0) hx hb dX0_mergeOf_3 (by decide) ?_
  refine lv_istore (lv' := [(5, .int 0), (4, .int 0), (0, .ref a0), (1, .int p1), (2, .int p2), (3, .int p3)]) hx hb dX0_mergeOf_4 hl (by decide) rfl (fun ls hl => ?_)
  obtain ⟨n, hf⟩ := hf
  exact L6 n (0 : Int32) (0 : Int32) G hf H locs hI ls (lv_sub hl [2, 3, 4, 5, 1, 0] rfl)
/-! MergeJudge.breaksFrom(IILMergeJudge$Break;)I -/
def hX0_breaksFrom_b158 (j : JX) (Λ : JLam) (a0 : Nat) (p1 : Int32) (p2 : Int32) (p3 : Nat) (post : Int32 → HG → Prop) (K31 : Int32 → Int32 → Nat → Nat → HG → Prop) (lx4 : Int32) (lx5 : Int32) (mc ms : Nat) (G : HG) : Prop :=
  K31 lx4 (lx5 + 1) mc ms G
def hX0_breaksFrom_b152 (j : JX) (Λ : JLam) (a0 : Nat) (p1 : Int32) (p2 : Int32) (p3 : Nat) (post : Int32 → HG → Prop) (K31 : Int32 → Int32 → Nat → Nat → HG → Prop) (K44 : Int32 → Int32 → Int32 → Nat → Nat → HG → Prop) (lx4 : Int32) (lx5 : Int32) (lx6 : Int32) (mc ms : Nat) (G : HG) : Prop :=
  K44 lx4 lx5 (lx6 + 1) mc ms G
def hX0_breaksFrom_b112 (j : JX) (Λ : JLam) (a0 : Nat) (p1 : Int32) (p2 : Int32) (p3 : Nat) (post : Int32 → HG → Prop) (K31 : Int32 → Int32 → Nat → Nat → HG → Prop) (K44 : Int32 → Int32 → Int32 → Nat → Nat → HG → Prop) (lx4 : Int32) (lx5 : Int32) (lx6 : Int32) (mc ms : Nat) (G : HG) : Prop :=
  isO G a0 0 (hX0_mergeOf j Λ a0 p1 lx5 lx6 G fun x41 G40 => gtQ G40 a0 0 11 fun q42 => nnq q42 fun a43 => ldI G40 a43 (j.1 1) x41 fun x44 => (x44 = 0 → (∃ m47 m48 : Nat, m47 ≤ mc ∧ m48 ≤ ms ∧ Λ.2.2.2.1 p3 p1 lx5 lx6 x41 m47 m48 G40 fun G46 => hX0_breaksFrom_b152 j Λ a0 p1 p2 p3 post K31 K44 (lx4 + 1) lx5 lx6 (mc - m47) (ms - m48) G46)) ∧ (¬ x44 = 0 → (hX0_breaksFrom_b152 j Λ a0 p1 p2 p3 post K31 K44 lx4 lx5 lx6 mc ms G40)))
def hX0_breaksFrom_b44 (j : JX) (Λ : JLam) (a0 : Nat) (p1 : Int32) (p2 : Int32) (p3 : Nat) (post : Int32 → HG → Prop) (K31 : Int32 → Int32 → Nat → Nat → HG → Prop) (K44 : Int32 → Int32 → Int32 → Nat → Nat → HG → Prop) (lx4 : Int32) (lx5 : Int32) (lx6 : Int32) (mc ms : Nat) (G : HG) : Prop :=
  isO G a0 0 (hX0_states0 j Λ a0 G fun x14 G13 => (x14 ≤ lx6 → (hX0_breaksFrom_b158 j Λ a0 p1 p2 p3 post K31 lx4 lx5 mc ms G13)) ∧ (¬ x14 ≤ lx6 → (gtQ G13 a0 0 14 fun q16 => nnq q16 fun a17 => gtQ G13 a17 3 0 fun q18 => nnq q18 fun a19 => ldI G13 a19 (j.1 0) lx5 fun x20 => (x20 = ((-1) : Int32) → (hX0_breaksFrom_b158 j Λ a0 p1 p2 p3 post K31 lx4 lx5 mc ms G13)) ∧ (¬ x20 = ((-1) : Int32) → (gtQ G13 a0 0 14 fun q22 => nnq q22 fun a23 => gtQ G13 a23 3 0 fun q24 => nnq q24 fun a25 => ldI G13 a25 (j.1 0) lx6 fun x26 => (x26 = ((-1) : Int32) → (hX0_breaksFrom_b152 j Λ a0 p1 p2 p3 post K31 K44 lx4 lx5 lx6 mc ms G13)) ∧ (¬ x26 = ((-1) : Int32) → (gtQ G13 a0 0 15 fun q28 => nnq q28 fun a29 => gtQ G13 a29 3 0 fun q30 => nnq q30 fun a31 => ldI G13 a31 (j.1 0) lx5 fun x32 => (x32 = ((-1) : Int32) → (gtQ G13 a0 0 15 fun q34 => nnq q34 fun a35 => gtQ G13 a35 3 0 fun q36 => nnq q36 fun a37 => ldI G13 a37 (j.1 0) lx6 fun x38 => (x38 = ((-1) : Int32) → (hX0_breaksFrom_b152 j Λ a0 p1 p2 p3 post K31 K44 lx4 lx5 lx6 mc ms G13)) ∧ (¬ x38 = ((-1) : Int32) → (hX0_breaksFrom_b112 j Λ a0 p1 p2 p3 post K31 K44 lx4 lx5 lx6 mc ms G13)))) ∧ (¬ x32 = ((-1) : Int32) → (hX0_breaksFrom_b112 j Λ a0 p1 p2 p3 post K31 K44 lx4 lx5 lx6 mc ms G13)))))))))
def hX0_breaksFrom_l44 (j : JX) (Λ : JLam) (a0 : Nat) (p1 : Int32) (p2 : Int32) (p3 : Nat) (post : Int32 → HG → Prop) (K31 : Int32 → Int32 → Nat → Nat → HG → Prop) : Nat → Int32 → Int32 → Int32 → Nat → Nat → HG → Prop
  | 0 => fun _ _ _ _ _ _ => False
  | n + 1 => fun lx4 lx5 lx6 mc ms G => hX0_breaksFrom_b44 j Λ a0 p1 p2 p3 post K31 (hX0_breaksFrom_l44 j Λ a0 p1 p2 p3 post K31 n) lx4 lx5 lx6 mc ms G
def hX0_breaksFrom_b31 (j : JX) (Λ : JLam) (a0 : Nat) (p1 : Int32) (p2 : Int32) (p3 : Nat) (post : Int32 → HG → Prop) (K31 : Int32 → Int32 → Nat → Nat → HG → Prop) (lx4 : Int32) (lx5 : Int32) (mc ms : Nat) (G : HG) : Prop :=
  isO G a0 0 (hX0_states0 j Λ a0 G fun x11 G10 => (x11 ≤ lx5 → (post lx4 G10)) ∧ (¬ x11 ≤ lx5 → (∃ n, hX0_breaksFrom_l44 j Λ a0 p1 p2 p3 post K31 n lx4 lx5 lx5 mc ms G10)))
def hX0_breaksFrom_l31 (j : JX) (Λ : JLam) (a0 : Nat) (p1 : Int32) (p2 : Int32) (p3 : Nat) (post : Int32 → HG → Prop) : Nat → Int32 → Int32 → Nat → Nat → HG → Prop
  | 0 => fun _ _ _ _ _ => False
  | n + 1 => fun lx4 lx5 mc ms G => hX0_breaksFrom_b31 j Λ a0 p1 p2 p3 post (hX0_breaksFrom_l31 j Λ a0 p1 p2 p3 post n) lx4 lx5 mc ms G
def hX0_breaksFrom (j : JX) (Λ : JLam) (a0 : Nat) (p1 : Int32) (p2 : Int32) (p3 : Nat) (mc ms : Nat) (G : HG) (post : Int32 → HG → Prop) : Prop :=
  gtQ G a0 0 14 fun q1 => nnq q1 fun a2 => isO G a2 3 (hX3_of j Λ a2 p1 p2 (0 : Int32) G fun q4 G3 => gtQ G3 a0 0 15 fun q5 => gtI G3 a0 0 13 fun x6 => nnq q5 fun a7 => isO G3 a7 3 (hX3_of j Λ a7 p1 p2 x6 G3 fun q9 G8 => ∃ n, hX0_breaksFrom_l31 j Λ a0 p1 p2 p3 post n (0 : Int32) (0 : Int32) mc ms G8))
abbrev rhX0_breaksFrom (fr lo mc ms : Nat) : Room := { frames := fr + 4, cells := mc, slots := ms, locals := lo + 110 }
theorem mhX0_breaksFrom (l : Launch) (Z : (Nat → Prop) → State → Heap → Prop) (D : va_G) (j : JX) (Λ : JLam) (fr lo : Nat) (E : JE l Z D j Λ fr lo) (a0 : Nat) (p1 : Int32) (p2 : Int32) (p3 : Nat) (mc ms : Nat) (G : HG) (post : Int32 → HG → Prop) (hf : hX0_breaksFrom j Λ a0 p1 p2 p3 mc ms G post) : HMi l yX0_breaksFrom (ws_ yX0_breaksFrom cX0_breaksFrom 8 (some .int)) (rhX0_breaksFrom fr lo mc ms) D jC (jty j.1) Z G [.ref a0, .int p1, .int p2, .ref p3] post mc ms := by
  obtain ⟨MC, eMC⟩ : ∃ MC, MC = mc := ⟨_, rfl⟩
  obtain ⟨MS, eMS⟩ : ∃ MS, MS = ms := ⟨_, rfl⟩
  suffices goal : HMi l yX0_breaksFrom (ws_ yX0_breaksFrom cX0_breaksFrom 8 (some .int)) (rhX0_breaksFrom fr lo MC MS) D jC (jty j.1) Z G [.ref a0, .int p1, .int p2, .ref p3] post MC MS by rw [eMC, eMS] at goal; exact goal
  have hm0_ : 0 + mc ≤ MC ∧ 0 + ms ≤ MS := by omega
  clear eMC eMS
  refine h_openi E.1 (by decide) (by exact Nat.le_of_ble_eq_true rfl) (fun p e s m args below meth c ls A0 Q X hI hnd hnm hl hret => ?_)
  have X : XC p s m args meth c cX0_breaksFrom 8 RX0 D jC (jty j.1) A0 Z := X
  have hx := X.1
  have hb := X.2.1
  have hown := X.2.2.2.1
  have hts := X.2.2.2.2.1
  have L31 : ∀ (n : Nat) (lx4 : Int32) (lx5 : Int32) (mc ms : Nat) (G : HG), hX0_breaksFrom_l31 j Λ a0 p1 p2 p3 post n lx4 lx5 mc ms G → ∀ (cells slots : Nat), cells + mc ≤ MC ∧ slots + ms ≤ MS → ∀ (H : Heap) (locs : List Loc), HI D jC G A0 s.heap H locs → ∀ (ls : Array Slot), lv_has ls 8 [(0, .ref a0), (1, .int p1), (3, .ref p3), (4, .int lx4), (5, .int lx5)] → W p l e (rhX0_breaksFrom fr lo MC MS) s m args below meth c H locs cells slots Q (F0 m 31 ls []) := by
    intro n31
    induction n31 with
    | zero => intro lx4 lx5 mc ms G hf; exact hf.elim
    | succ n31 ih31 =>
      have J158 : ∀ (lx4 : Int32) (lx5 : Int32) (mc ms : Nat) (G : HG), hX0_breaksFrom_b158 j Λ a0 p1 p2 p3 post (hX0_breaksFrom_l31 j Λ a0 p1 p2 p3 post n31) lx4 lx5 mc ms G → ∀ (cells slots : Nat), cells + mc ≤ MC ∧ slots + ms ≤ MS → ∀ (H : Heap) (locs : List Loc), HI D jC G A0 s.heap H locs → ∀ (ls : Array Slot), lv_has ls 8 [(0, .ref a0), (1, .int p1), (3, .ref p3), (4, .int lx4), (5, .int lx5)] → W p l e (rhX0_breaksFrom fr lo MC MS) s m args below meth c H locs cells slots Q (F0 m 158 ls []) := by
        intro lx4 lx5 mc ms G hf cells slots hm H locs hI ls hl
        unfold hX0_breaksFrom_b158 at hf
        refine lv_iinc (v := lx5 + 1) (lv' := [(5, .int (lx5 + 1)), (0, .ref a0), (1, .int p1), (3, .ref p3), (4, .int lx4)]) hx hb dX0_breaksFrom_158 hl (k := 4) rfl rfl (by decide) rfl (fun ls hl => ?_)
        refine lv_goto (tgt := 31) hx hb dX0_breaksFrom_161 (by decide) ?_
        exact ih31 lx4 (lx5 + 1) mc ms G hf _ _ hm H locs hI ls (lv_sub hl [1, 2, 3, 4, 0] rfl)
      have L44 : ∀ (n : Nat) (lx4 : Int32) (lx5 : Int32) (lx6 : Int32) (mc ms : Nat) (G : HG), hX0_breaksFrom_l44 j Λ a0 p1 p2 p3 post (hX0_breaksFrom_l31 j Λ a0 p1 p2 p3 post n31) n lx4 lx5 lx6 mc ms G → ∀ (cells slots : Nat), cells + mc ≤ MC ∧ slots + ms ≤ MS → ∀ (H : Heap) (locs : List Loc), HI D jC G A0 s.heap H locs → ∀ (ls : Array Slot), lv_has ls 8 [(0, .ref a0), (1, .int p1), (3, .ref p3), (4, .int lx4), (5, .int lx5), (6, .int lx6)] → W p l e (rhX0_breaksFrom fr lo MC MS) s m args below meth c H locs cells slots Q (F0 m 44 ls []) := by
        intro n44
        induction n44 with
        | zero => intro lx4 lx5 lx6 mc ms G hf; exact hf.elim
        | succ n44 ih44 =>
          have J152 : ∀ (lx4 : Int32) (lx5 : Int32) (lx6 : Int32) (mc ms : Nat) (G : HG), hX0_breaksFrom_b152 j Λ a0 p1 p2 p3 post (hX0_breaksFrom_l31 j Λ a0 p1 p2 p3 post n31) (hX0_breaksFrom_l44 j Λ a0 p1 p2 p3 post (hX0_breaksFrom_l31 j Λ a0 p1 p2 p3 post n31) n44) lx4 lx5 lx6 mc ms G → ∀ (cells slots : Nat), cells + mc ≤ MC ∧ slots + ms ≤ MS → ∀ (H : Heap) (locs : List Loc), HI D jC G A0 s.heap H locs → ∀ (ls : Array Slot), lv_has ls 8 [(0, .ref a0), (1, .int p1), (3, .ref p3), (4, .int lx4), (5, .int lx5), (6, .int lx6)] → W p l e (rhX0_breaksFrom fr lo MC MS) s m args below meth c H locs cells slots Q (F0 m 152 ls []) := by
            intro lx4 lx5 lx6 mc ms G hf cells slots hm H locs hI ls hl
            unfold hX0_breaksFrom_b152 at hf
            refine lv_iinc (v := lx6 + 1) (lv' := [(6, .int (lx6 + 1)), (0, .ref a0), (1, .int p1), (3, .ref p3), (4, .int lx4), (5, .int lx5)]) hx hb dX0_breaksFrom_152 hl (k := 5) rfl rfl (by decide) rfl (fun ls hl => ?_)
            refine lv_goto (tgt := 44) hx hb dX0_breaksFrom_155 (by decide) ?_
            exact ih44 lx4 lx5 (lx6 + 1) mc ms G hf _ _ hm H locs hI ls (lv_sub hl [1, 2, 3, 4, 5, 0] rfl)
          have J112 : ∀ (lx4 : Int32) (lx5 : Int32) (lx6 : Int32) (mc ms : Nat) (G : HG), hX0_breaksFrom_b112 j Λ a0 p1 p2 p3 post (hX0_breaksFrom_l31 j Λ a0 p1 p2 p3 post n31) (hX0_breaksFrom_l44 j Λ a0 p1 p2 p3 post (hX0_breaksFrom_l31 j Λ a0 p1 p2 p3 post n31) n44) lx4 lx5 lx6 mc ms G → ∀ (cells slots : Nat), cells + mc ≤ MC ∧ slots + ms ≤ MS → ∀ (H : Heap) (locs : List Loc), HI D jC G A0 s.heap H locs → ∀ (ls : Array Slot), lv_has ls 8 [(0, .ref a0), (1, .int p1), (3, .ref p3), (4, .int lx4), (5, .int lx5), (6, .int lx6)] → W p l e (rhX0_breaksFrom fr lo MC MS) s m args below meth c H locs cells slots Q (F0 m 112 ls []) := by
            intro lx4 lx5 lx6 mc ms G hf cells slots hm H locs hI ls hl
            unfold hX0_breaksFrom_b112 at hf
            refine lv_aload_n hx hb dX0_breaksFrom_112 rfl (lv_at hl 0 rfl) ?_
            refine lv_iload_n hx hb dX0_breaksFrom_113 rfl (lv_at hl 1 rfl) ?_
            refine lv_iload hx hb dX0_breaksFrom_114 (lv_at hl 4 rfl) ?_
            refine lv_iload hx hb dX0_breaksFrom_116 (lv_at hl 5 rfl) ?_
            obtain ⟨_, _, hO, hf⟩ := hf
            refine h_ki X hI (h_runV (As := [.int p1, .int lx5, .int lx6]) X hI (h_recv X hI hO (show jC.1[0]? = some (RX0, TX0, 20) from rfl)) (mhX0_mergeOf l Z D j Λ fr lo E a0 p1 lx5 lx6 G _ hf H.size) (cwV 3 hts (lw_V q2017 q2019 qs50 q167 q2020) rfl rfl rfl (by decide +kernel) (by show fr + 3 + 1 ≤ fr + 4 ∧ 8 + (6 + 11) + (lo + 85) ≤ lo + 110; omega)) rfl hl.1 (Nat.le_of_ble_eq_true rfl) dX0_breaksFrom_118 ⟨hm0 hm.1, hm0 hm.2⟩ rfl) (fun x41 G40 H locs hf hI => ?_)
            clear hO
            refine lv_istore (lv' := [(7, .int x41), (0, .ref a0), (1, .int p1), (3, .ref p3), (4, .int lx4), (5, .int lx5), (6, .int lx6)]) hx hb dX0_breaksFrom_121 hl (by decide) rfl (fun ls hl => ?_)
            refine lv_aload_n hx hb dX0_breaksFrom_123 rfl (lv_at hl 1 rfl) ?_
            refine hr_gtQ X hI (rfl : jC.1[0]? = some (RX0, TX0, 20)) in_X0 11 (Nat.le_of_ble_eq_true rfl) hf q664 (fun _ h => h) dX0_breaksFrom_124 (fun q42 hf => ?_)
            refine lv_iload hx hb dX0_breaksFrom_127 (lv_at hl 0 rfl) ?_
            obtain ⟨a43, ea43, hf⟩ := hf
            revert hl hf
            subst ea43
            intro hl hf
            have hl : lv_has ls 8 [(7, .int x41), (0, .ref a0), (1, .int p1), (3, .ref p3), (4, .int lx4), (5, .int lx5), (6, .int lx6)] := hl
            refine hr_zld X hI 1 rfl hf dX0_breaksFrom_129 (fun x44 hf => ?_)
            refine lv_if_eq (tgt := 136) hx hb dX0_breaksFrom_130 (by decide) (fun c45 => ?_) (fun c45 => ?_)
            · have hf := hf.1 c45
              refine lv_aload_n hx hb dX0_breaksFrom_136 rfl (lv_at hl 3 rfl) ?_
              refine lv_iload_n hx hb dX0_breaksFrom_137 rfl (lv_at hl 2 rfl) ?_
              refine lv_iload hx hb dX0_breaksFrom_138 (lv_at hl 5 rfl) ?_
              refine lv_iload hx hb dX0_breaksFrom_140 (lv_at hl 6 rfl) ?_
              refine lv_iload hx hb dX0_breaksFrom_142 (lv_at hl 0 rfl) ?_
              obtain ⟨m47, m48, hb1, hb2, hf⟩ := hf
              refine hr_break E X hI hf q2022 hl.1 (Nat.le_of_ble_eq_true rfl) ⟨Nat.le_add_right _ _, Nat.le_add_right _ _⟩ ⟨hmA hm.1 hb1, hmA hm.2 hb2⟩ dX0_breaksFrom_144 (fun G46 H locs hf hI => ?_)
              have hm := And.intro (hmB hm.1 hb1) (hmB hm.2 hb2)
              clear hb1 hb2
              refine lv_iinc (v := lx4 + 1) (lv' := [(4, .int (lx4 + 1)), (7, .int x41), (0, .ref a0), (1, .int p1), (3, .ref p3), (5, .int lx5), (6, .int lx6)]) hx hb dX0_breaksFrom_149 hl (k := 4) rfl rfl (by decide) rfl (fun ls hl => ?_)
              exact J152 (lx4 + 1) lx5 lx6 (mc - m47) (ms - m48) G46 hf _ _ hm H locs hI ls (lv_sub hl [2, 3, 4, 0, 5, 6] rfl)
            · have hf := hf.2 c45
              refine lv_goto (tgt := 152) hx hb dX0_breaksFrom_133 (by decide) ?_
              exact J152 lx4 lx5 lx6 mc ms G40 hf _ _ hm H locs hI ls (lv_sub hl [1, 2, 3, 4, 5, 6] rfl)
          intro lx4 lx5 lx6 mc ms G hf cells slots hm H locs hI ls hl
          have hf : hX0_breaksFrom_b44 j Λ a0 p1 p2 p3 post (hX0_breaksFrom_l31 j Λ a0 p1 p2 p3 post n31) (hX0_breaksFrom_l44 j Λ a0 p1 p2 p3 post (hX0_breaksFrom_l31 j Λ a0 p1 p2 p3 post n31) n44) lx4 lx5 lx6 mc ms G := hf
          unfold hX0_breaksFrom_b44 at hf
          refine lv_iload hx hb dX0_breaksFrom_44 (lv_at hl 5 rfl) ?_
          refine lv_aload_n hx hb dX0_breaksFrom_46 rfl (lv_at hl 0 rfl) ?_
          obtain ⟨_, _, hO, hf⟩ := hf
          refine h_ki X hI (h_runV (As := []) X hI (h_recv X hI hO (show jC.1[0]? = some (RX0, TX0, 20) from rfl)) (mhX0_states0 l Z D j Λ fr lo E a0 G _ hf H.size) (cwV 0 hts (lw_V q1945 q1947 qs41 q167 q1948) rfl rfl rfl (by decide +kernel) (by show fr + 1 + 1 ≤ fr + 4 ∧ 8 + (3 + 11) + (lo + 40) ≤ lo + 110; omega)) rfl hl.1 (Nat.le_of_ble_eq_true rfl) dX0_breaksFrom_47 ⟨hm0 hm.1, hm0 hm.2⟩ rfl) (fun x14 G13 H locs hf hI => ?_)
          clear hO
          refine lv_icmp_ge (tgt := 158) hx hb dX0_breaksFrom_50 (by decide) (fun c15 => ?_) (fun c15 => ?_)
          · have hf := hf.1 c15
            exact J158 lx4 lx5 mc ms G13 hf _ _ hm H locs hI ls (lv_sub hl [0, 1, 2, 3, 4] rfl)
          · have hf := hf.2 c15
            refine lv_aload_n hx hb dX0_breaksFrom_53 rfl (lv_at hl 0 rfl) ?_
            refine hr_gtQ X hI (rfl : jC.1[0]? = some (RX0, TX0, 20)) in_X0 14 (Nat.le_of_ble_eq_true rfl) hf q669 (fun _ h => h) dX0_breaksFrom_54 (fun q16 hf => ?_)
            obtain ⟨a17, ea17, hf⟩ := hf
            revert hl hf
            subst ea17
            intro hl hf
            have hl : lv_has ls 8 [(0, .ref a0), (1, .int p1), (3, .ref p3), (4, .int lx4), (5, .int lx5), (6, .int lx6)] := hl
            refine hr_gtQN X hI (rfl : jC.1[3]? = some (RX3, TX3, 5)) in_X3 0 (Nat.le_of_ble_eq_true rfl) hf (E.nw X q562 rfl) (fun _ h => h) dX0_breaksFrom_57 (fun q18 hf => ?_)
            refine lv_iload hx hb dX0_breaksFrom_60 (lv_at hl 4 rfl) ?_
            obtain ⟨a19, ea19, hf⟩ := hf
            revert hl hf
            subst ea19
            intro hl hf
            have hl : lv_has ls 8 [(0, .ref a0), (1, .int p1), (3, .ref p3), (4, .int lx4), (5, .int lx5), (6, .int lx6)] := hl
            refine hr_ild X hI 0 rfl hf dX0_breaksFrom_62 (fun x20 hf => ?_)
            refine lv_iconst (v := -1) hx hb dX0_breaksFrom_63 (by decide) ?_
            refine lv_icmp_eq (tgt := 158) hx hb dX0_breaksFrom_64 (by decide) (fun c21 => ?_) (fun c21 => ?_)
            · have hf := hf.1 c21
              exact J158 lx4 lx5 mc ms G13 hf _ _ hm H locs hI ls (lv_sub hl [0, 1, 2, 3, 4] rfl)
            · have hf := hf.2 c21
              refine lv_aload_n hx hb dX0_breaksFrom_67 rfl (lv_at hl 0 rfl) ?_
              refine hr_gtQ X hI (rfl : jC.1[0]? = some (RX0, TX0, 20)) in_X0 14 (Nat.le_of_ble_eq_true rfl) hf q669 (fun _ h => h) dX0_breaksFrom_68 (fun q22 hf => ?_)
              obtain ⟨a23, ea23, hf⟩ := hf
              revert hl hf
              subst ea23
              intro hl hf
              have hl : lv_has ls 8 [(0, .ref a0), (1, .int p1), (3, .ref p3), (4, .int lx4), (5, .int lx5), (6, .int lx6)] := hl
              refine hr_gtQN X hI (rfl : jC.1[3]? = some (RX3, TX3, 5)) in_X3 0 (Nat.le_of_ble_eq_true rfl) hf (E.nw X q562 rfl) (fun _ h => h) dX0_breaksFrom_71 (fun q24 hf => ?_)
              refine lv_iload hx hb dX0_breaksFrom_74 (lv_at hl 5 rfl) ?_
              obtain ⟨a25, ea25, hf⟩ := hf
              revert hl hf
              subst ea25
              intro hl hf
              have hl : lv_has ls 8 [(0, .ref a0), (1, .int p1), (3, .ref p3), (4, .int lx4), (5, .int lx5), (6, .int lx6)] := hl
              refine hr_ild X hI 0 rfl hf dX0_breaksFrom_76 (fun x26 hf => ?_)
              refine lv_iconst (v := -1) hx hb dX0_breaksFrom_77 (by decide) ?_
              refine lv_icmp_eq (tgt := 152) hx hb dX0_breaksFrom_78 (by decide) (fun c27 => ?_) (fun c27 => ?_)
              · have hf := hf.1 c27
                exact J152 lx4 lx5 lx6 mc ms G13 hf _ _ hm H locs hI ls (lv_sub hl [0, 1, 2, 3, 4, 5] rfl)
              · have hf := hf.2 c27
                refine lv_aload_n hx hb dX0_breaksFrom_81 rfl (lv_at hl 0 rfl) ?_
                refine hr_gtQ X hI (rfl : jC.1[0]? = some (RX0, TX0, 20)) in_X0 15 (Nat.le_of_ble_eq_true rfl) hf q670 (fun _ h => h) dX0_breaksFrom_82 (fun q28 hf => ?_)
                obtain ⟨a29, ea29, hf⟩ := hf
                revert hl hf
                subst ea29
                intro hl hf
                have hl : lv_has ls 8 [(0, .ref a0), (1, .int p1), (3, .ref p3), (4, .int lx4), (5, .int lx5), (6, .int lx6)] := hl
                refine hr_gtQN X hI (rfl : jC.1[3]? = some (RX3, TX3, 5)) in_X3 0 (Nat.le_of_ble_eq_true rfl) hf (E.nw X q562 rfl) (fun _ h => h) dX0_breaksFrom_85 (fun q30 hf => ?_)
                refine lv_iload hx hb dX0_breaksFrom_88 (lv_at hl 4 rfl) ?_
                obtain ⟨a31, ea31, hf⟩ := hf
                revert hl hf
                subst ea31
                intro hl hf
                have hl : lv_has ls 8 [(0, .ref a0), (1, .int p1), (3, .ref p3), (4, .int lx4), (5, .int lx5), (6, .int lx6)] := hl
                refine hr_ild X hI 0 rfl hf dX0_breaksFrom_90 (fun x32 hf => ?_)
                refine lv_iconst (v := -1) hx hb dX0_breaksFrom_91 (by decide) ?_
                refine lv_icmp_ne (tgt := 112) hx hb dX0_breaksFrom_92 (by decide) (fun c33 => ?_) (fun c33 => ?_)
                · have hf := hf.2 c33
                  exact J112 lx4 lx5 lx6 mc ms G13 hf _ _ hm H locs hI ls (lv_sub hl [0, 1, 2, 3, 4, 5] rfl)
                · have hf := hf.1 c33
                  refine lv_aload_n hx hb dX0_breaksFrom_95 rfl (lv_at hl 0 rfl) ?_
                  refine hr_gtQ X hI (rfl : jC.1[0]? = some (RX0, TX0, 20)) in_X0 15 (Nat.le_of_ble_eq_true rfl) hf q670 (fun _ h => h) dX0_breaksFrom_96 (fun q34 hf => ?_)
                  obtain ⟨a35, ea35, hf⟩ := hf
                  revert hl hf
                  subst ea35
                  intro hl hf
                  have hl : lv_has ls 8 [(0, .ref a0), (1, .int p1), (3, .ref p3), (4, .int lx4), (5, .int lx5), (6, .int lx6)] := hl
                  refine hr_gtQN X hI (rfl : jC.1[3]? = some (RX3, TX3, 5)) in_X3 0 (Nat.le_of_ble_eq_true rfl) hf (E.nw X q562 rfl) (fun _ h => h) dX0_breaksFrom_99 (fun q36 hf => ?_)
                  refine lv_iload hx hb dX0_breaksFrom_102 (lv_at hl 5 rfl) ?_
                  obtain ⟨a37, ea37, hf⟩ := hf
                  revert hl hf
                  subst ea37
                  intro hl hf
                  have hl : lv_has ls 8 [(0, .ref a0), (1, .int p1), (3, .ref p3), (4, .int lx4), (5, .int lx5), (6, .int lx6)] := hl
                  refine hr_ild X hI 0 rfl hf dX0_breaksFrom_104 (fun x38 hf => ?_)
                  refine lv_iconst (v := -1) hx hb dX0_breaksFrom_105 (by decide) ?_
                  refine lv_icmp_ne (tgt := 112) hx hb dX0_breaksFrom_106 (by decide) (fun c39 => ?_) (fun c39 => ?_)
                  · have hf := hf.2 c39
                    exact J112 lx4 lx5 lx6 mc ms G13 hf _ _ hm H locs hI ls (lv_sub hl [0, 1, 2, 3, 4, 5] rfl)
                  · have hf := hf.1 c39
                    refine lv_goto (tgt := 152) hx hb dX0_breaksFrom_109 (by decide) ?_
                    exact J152 lx4 lx5 lx6 mc ms G13 hf _ _ hm H locs hI ls (lv_sub hl [0, 1, 2, 3, 4, 5] rfl)
      intro lx4 lx5 mc ms G hf cells slots hm H locs hI ls hl
      have hf : hX0_breaksFrom_b31 j Λ a0 p1 p2 p3 post (hX0_breaksFrom_l31 j Λ a0 p1 p2 p3 post n31) lx4 lx5 mc ms G := hf
      unfold hX0_breaksFrom_b31 at hf
      refine lv_iload hx hb dX0_breaksFrom_31 (lv_at hl 4 rfl) ?_
      refine lv_aload_n hx hb dX0_breaksFrom_33 rfl (lv_at hl 0 rfl) ?_
      obtain ⟨_, _, hO, hf⟩ := hf
      refine h_ki X hI (h_runV (As := []) X hI (h_recv X hI hO (show jC.1[0]? = some (RX0, TX0, 20) from rfl)) (mhX0_states0 l Z D j Λ fr lo E a0 G _ hf H.size) (cwV 0 hts (lw_V q1945 q1947 qs41 q167 q1948) rfl rfl rfl (by decide +kernel) (by show fr + 1 + 1 ≤ fr + 4 ∧ 8 + (3 + 11) + (lo + 40) ≤ lo + 110; omega)) rfl hl.1 (Nat.le_of_ble_eq_true rfl) dX0_breaksFrom_34 ⟨hm0 hm.1, hm0 hm.2⟩ rfl) (fun x11 G10 H locs hf hI => ?_)
      clear hO
      refine lv_icmp_ge (tgt := 164) hx hb dX0_breaksFrom_37 (by decide) (fun c12 => ?_) (fun c12 => ?_)
      · have hf := hf.1 c12
        refine lv_iload hx hb dX0_breaksFrom_164 (lv_at hl 3 rfl) ?_
        exact hret hf hI dX0_breaksFrom_166 (hmC hm.1) (hmC hm.2)
      · have hf := hf.2 c12
        refine lv_iload hx hb dX0_breaksFrom_40 (lv_at hl 4 rfl) ?_
        refine lv_istore (lv' := [(6, .int lx5), (0, .ref a0), (1, .int p1), (3, .ref p3), (4, .int lx4), (5, .int lx5)]) hx hb dX0_breaksFrom_42 hl (by decide) rfl (fun ls hl => ?_)
        obtain ⟨n, hf⟩ := hf
        exact L44 n lx4 lx5 lx5 mc ms G10 hf _ _ hm H locs hI ls (lv_sub hl [1, 2, 3, 4, 5, 0] rfl)
  have hl : lv_has ls 8 [(0, .ref a0), (1, .int p1), (2, .int p2), (3, .ref p3)] := by exact hl
  unfold hX0_breaksFrom at hf
  obtain ⟨H, eH⟩ : ∃ H, H = s.heap := ⟨_, rfl⟩
  obtain ⟨locs, eL⟩ : ∃ locs : List Loc, locs = [] := ⟨_, rfl⟩
  have hI : HI D jC G A0 s.heap H locs := by rw [eH, eL]; exact hI
  rw [← eL]
  obtain ⟨cells, eC⟩ : ∃ n : Nat, n = 0 := ⟨_, rfl⟩
  obtain ⟨slots, eS⟩ : ∃ n : Nat, n = 0 := ⟨_, rfl⟩
  have hm : cells + mc ≤ MC ∧ slots + ms ≤ MS := by rw [eC, eS]; exact hm0_
  suffices h : W p l e (rhX0_breaksFrom fr lo MC MS) s m args below meth c H locs cells slots Q (F0 m 0 ls []) by rw [eH, eC, eS] at h; exact h
  clear eH eL eC eS
  refine lv_aload_n hx hb dX0_breaksFrom_0 rfl (lv_at hl 0 rfl) ?_
  refine hr_gtQ X hI (rfl : jC.1[0]? = some (RX0, TX0, 20)) in_X0 14 (Nat.le_of_ble_eq_true rfl) hf q669 (fun _ h => h) dX0_breaksFrom_1 (fun q1 hf => ?_)
  refine lv_iload_n hx hb dX0_breaksFrom_4 rfl (lv_at hl 1 rfl) ?_
  refine lv_iload_n hx hb dX0_breaksFrom_5 rfl (lv_at hl 2 rfl) ?_
  refine lv_iconst (v := 0) hx hb dX0_breaksFrom_6 (by decide) ?_
  obtain ⟨a2, ea2, hf⟩ := hf
  revert hl hf
  subst ea2
  intro hl hf
  have hl : lv_has ls 8 [(0, .ref a0), (1, .int p1), (2, .int p2), (3, .ref p3)] := hl
  obtain ⟨_, _, hO, hf⟩ := hf
  refine h_kq X hI (h_runV (As := [.int p1, .int p2, .int 0]) X hI (h_recv X hI hO (show jC.1[3]? = some (RX3, TX3, 5) from rfl)) (mhX3_of l Z D j Λ fr lo E a2 p1 p2 (0 : Int32) G _ hf H.size) (cwV 3 hts (lw_V q1995 q1996 q1997 q174 q1998) rfl rfl rfl (by decide +kernel) (by show fr + 2 + 1 ≤ fr + 4 ∧ 8 + (7 + 11) + (lo + 63) ≤ lo + 110; omega)) rfl hl.1 (Nat.le_of_ble_eq_true rfl) dX0_breaksFrom_7 ⟨hm0 hm.1, hm0 hm.2⟩ rfl) (fun q4 G3 H locs hf hI => ?_)
  clear hO
  refine lv_pop hx hb dX0_breaksFrom_10 (h_catq _) ?_
  refine lv_aload_n hx hb dX0_breaksFrom_11 rfl (lv_at hl 0 rfl) ?_
  refine hr_gtQ X hI (rfl : jC.1[0]? = some (RX0, TX0, 20)) in_X0 15 (Nat.le_of_ble_eq_true rfl) hf q670 (fun _ h => h) dX0_breaksFrom_12 (fun q5 hf => ?_)
  refine lv_iload_n hx hb dX0_breaksFrom_15 rfl (lv_at hl 1 rfl) ?_
  refine lv_iload_n hx hb dX0_breaksFrom_16 rfl (lv_at hl 2 rfl) ?_
  refine lv_aload_n hx hb dX0_breaksFrom_17 rfl (lv_at hl 0 rfl) ?_
  refine hr_gtI X hI (rfl : jC.1[0]? = some (RX0, TX0, 20)) in_X0 13 (Nat.le_of_ble_eq_true rfl) hf q667 (fun _ h => h) dX0_breaksFrom_18 (fun x6 hf => ?_)
  obtain ⟨a7, ea7, hf⟩ := hf
  revert hl hf
  subst ea7
  intro hl hf
  have hl : lv_has ls 8 [(0, .ref a0), (1, .int p1), (2, .int p2), (3, .ref p3)] := hl
  obtain ⟨_, _, hO, hf⟩ := hf
  refine h_kq X hI (h_runV (As := [.int p1, .int p2, .int x6]) X hI (h_recv X hI hO (show jC.1[3]? = some (RX3, TX3, 5) from rfl)) (mhX3_of l Z D j Λ fr lo E a7 p1 p2 x6 G3 _ hf H.size) (cwV 3 hts (lw_V q1995 q1996 q1997 q174 q1998) rfl rfl rfl (by decide +kernel) (by show fr + 2 + 1 ≤ fr + 4 ∧ 8 + (7 + 11) + (lo + 63) ≤ lo + 110; omega)) rfl hl.1 (Nat.le_of_ble_eq_true rfl) dX0_breaksFrom_21 ⟨hm0 hm.1, hm0 hm.2⟩ rfl) (fun q9 G8 H locs hf hI => ?_)
  clear hO
  refine lv_pop hx hb dX0_breaksFrom_24 (h_catq _) ?_
  refine lv_iconst (v := 0) hx hb dX0_breaksFrom_25 (by decide) ?_
  refine lv_istore (lv' := [(4, .int 0), (0, .ref a0), (1, .int p1), (2, .int p2), (3, .ref p3)]) hx hb dX0_breaksFrom_26 hl (by decide) rfl (fun ls hl => ?_)
  refine lv_iconst (v := 0) hx hb dX0_breaksFrom_28 (by decide) ?_
  refine lv_istore (lv' := [(5, .int 0), (4, .int 0), (0, .ref a0), (1, .int p1), (2, .int p2), (3, .ref p3)]) hx hb dX0_breaksFrom_29 hl (by decide) rfl (fun ls hl => ?_)
  obtain ⟨n, hf⟩ := hf
  exact L31 n (0 : Int32) (0 : Int32) mc ms G8 hf _ _ hm H locs hI ls (lv_sub hl [2, 3, 5, 1, 0] rfl)
/-! MergeJudge.bad(II)I -/
def hX0_bad (j : JX) (Λ : JLam) (a0 : Nat) (p1 : Int32) (p2 : Int32) (mc ms : Nat) (G : HG) (post : Int32 → HG → Prop) : Prop :=
  isO G a0 0 (hX0_isState j Λ a0 p1.toInt64 G fun x2 G1 => (x2 = 0 → (post ((-2) : Int32) G1)) ∧ (¬ x2 = 0 → (isO G1 a0 0 (hX0_isDeep j Λ a0 p2 G1 fun x5 G4 => (x5 = 0 → (post ((-2) : Int32) G4)) ∧ (¬ x5 = 0 → (1 ≤ mc ∧ 1 ≤ ms ∧ mkO G4 (.inr (41, .ref a0 :: ([] : List Int32).map .int)) fun a7 G8 => isO G8 a0 0 (∃ m9 m10 : Nat, m9 ≤ mc - 1 ∧ m10 ≤ ms - 1 ∧ hX0_breaksFrom j Λ a0 p1 p2 a7 m9 m10 G8 fun x12 G11 => post x12 G11)))))))
abbrev rhX0_bad (fr lo mc ms : Nat) : Room := { frames := fr + 5, cells := mc, slots := ms, locals := lo + 3200 }
theorem mhX0_bad (l : Launch) (Z : (Nat → Prop) → State → Heap → Prop) (D : va_G) (j : JX) (Λ : JLam) (fr lo : Nat) (E : JE l Z D j Λ fr lo) (a0 : Nat) (p1 : Int32) (p2 : Int32) (mc ms : Nat) (G : HG) (post : Int32 → HG → Prop) (hf : hX0_bad j Λ a0 p1 p2 mc ms G post) : HMi l yX0_bad (ws_ yX0_bad cX0_bad 3 (some .int)) (rhX0_bad fr lo mc ms) D jC (jty j.1) Z G [.ref a0, .int p1, .int p2] post mc ms := by
  obtain ⟨MC, eMC⟩ : ∃ MC, MC = mc := ⟨_, rfl⟩
  obtain ⟨MS, eMS⟩ : ∃ MS, MS = ms := ⟨_, rfl⟩
  suffices goal : HMi l yX0_bad (ws_ yX0_bad cX0_bad 3 (some .int)) (rhX0_bad fr lo MC MS) D jC (jty j.1) Z G [.ref a0, .int p1, .int p2] post MC MS by rw [eMC, eMS] at goal; exact goal
  have hm0_ : 0 + mc ≤ MC ∧ 0 + ms ≤ MS := by omega
  clear eMC eMS
  refine h_openi E.1 (by decide) (by exact Nat.le_of_ble_eq_true rfl) (fun p e s m args below meth c ls A0 Q X hI hnd hnm hl hret => ?_)
  have X : XC p s m args meth c cX0_bad 3 RX0 D jC (jty j.1) A0 Z := X
  have hx := X.1
  have hb := X.2.1
  have hown := X.2.2.2.1
  have hts := X.2.2.2.2.1
  have hl : lv_has ls 3 [(0, .ref a0), (1, .int p1), (2, .int p2)] := by exact hl
  unfold hX0_bad at hf
  obtain ⟨H, eH⟩ : ∃ H, H = s.heap := ⟨_, rfl⟩
  obtain ⟨locs, eL⟩ : ∃ locs : List Loc, locs = [] := ⟨_, rfl⟩
  have hI : HI D jC G A0 s.heap H locs := by rw [eH, eL]; exact hI
  rw [← eL]
  obtain ⟨cells, eC⟩ : ∃ n : Nat, n = 0 := ⟨_, rfl⟩
  obtain ⟨slots, eS⟩ : ∃ n : Nat, n = 0 := ⟨_, rfl⟩
  have hm : cells + mc ≤ MC ∧ slots + ms ≤ MS := by rw [eC, eS]; exact hm0_
  suffices h : W p l e (rhX0_bad fr lo MC MS) s m args below meth c H locs cells slots Q (F0 m 0 ls []) by rw [eH, eC, eS] at h; exact h
  clear eH eL eC eS
  refine lv_aload_n hx hb dX0_bad_0 rfl (lv_at hl 0 rfl) ?_
  refine lv_iload_n hx hb dX0_bad_1 rfl (lv_at hl 1 rfl) ?_
  refine lv_i2l hx hb dX0_bad_2 rfl ?_
  obtain ⟨_, _, hO, hf⟩ := hf
  refine h_ki X hI (h_runV (As := [.long p1.toInt64]) X hI (h_recv X hI hO (show jC.1[0]? = some (RX0, TX0, 20) from rfl)) (mhX0_isState l Z D j Λ fr lo E a0 p1.toInt64 G _ hf H.size) (cwV 1 hts (lw_V q1968 q1970 qs43 q167 q1971) rfl rfl rfl (by decide +kernel) (by show fr + 2 + 1 ≤ fr + 5 ∧ 8 + (3 + 11) + (lo + 65) ≤ lo + 3200; omega)) rfl hl.1 (Nat.le_of_ble_eq_true rfl) dX0_bad_3 ⟨hm0 hm.1, hm0 hm.2⟩ rfl) (fun x2 G1 H locs hf hI => ?_)
  clear hO
  refine lv_if_eq (tgt := 32) hx hb dX0_bad_6 (by decide) (fun c3 => ?_) (fun c3 => ?_)
  · have hf := hf.1 c3
    refine lv_bipush (v := -2) hx hb dX0_bad_32 (by decide) ?_
    exact hret hf hI dX0_bad_34 (hmC hm.1) (hmC hm.2)
  · have hf := hf.2 c3
    refine lv_aload_n hx hb dX0_bad_9 rfl (lv_at hl 0 rfl) ?_
    refine lv_iload_n hx hb dX0_bad_10 rfl (lv_at hl 2 rfl) ?_
    obtain ⟨_, _, hO, hf⟩ := hf
    refine h_ki X hI (h_runV (As := [.int p2]) X hI (h_recv X hI hO (show jC.1[0]? = some (RX0, TX0, 20) from rfl)) (mhX0_isDeep l Z D j Λ fr lo E a0 p2 G1 _ hf H.size) (cwV 1 hts (lw_V q1976 q1978 qs44 q167 q1979) rfl rfl rfl (by decide +kernel) (by show fr + 2 + 1 ≤ fr + 5 ∧ 8 + (2 + 11) + (lo + 65) ≤ lo + 3200; omega)) rfl hl.1 (Nat.le_of_ble_eq_true rfl) dX0_bad_11 ⟨hm0 hm.1, hm0 hm.2⟩ rfl) (fun x5 G4 H locs hf hI => ?_)
    clear hO
    refine lv_if_eq (tgt := 32) hx hb dX0_bad_14 (by decide) (fun c6 => ?_) (fun c6 => ?_)
    · have hf := hf.1 c6
      refine lv_bipush (v := -2) hx hb dX0_bad_32 (by decide) ?_
      exact hret hf hI dX0_bad_34 (hmC hm.1) (hmC hm.2)
    · have hf := hf.2 c6
      refine lv_aload_n hx hb dX0_bad_17 rfl (lv_at hl 0 rfl) ?_
      refine lv_iload_n hx hb dX0_bad_18 rfl (lv_at hl 1 rfl) ?_
      refine lv_iload_n hx hb dX0_bad_19 rfl (lv_at hl 2 rfl) ?_
      refine lv_aload_n hx hb dX0_bad_20 rfl (lv_at hl 0 rfl) ?_
      obtain ⟨hb1, hb2, hf⟩ := hf
      refine E.2.2.2.1 18 yX0_bad 21 391 a0 [] rfl (rest := [.int p2, .int p1, .ref a0]) X hI hnd hl.1 (Nat.le_of_ble_eq_true rfl) dX0_bad_21 (by show 3200 ≤ lo + 3200; omega) (hmA hm.1 hb1) (hmA hm.2 hb2) hf (fun a7 G8 H hf hI => ?_)
      have hm := And.intro (hmB hm.1 hb1) (hmB hm.2 hb2)
      clear hb1 hb2
      obtain ⟨_, _, hO, hf⟩ := hf
      obtain ⟨m9, m10, hb1, hb2, hf⟩ := hf
      refine h_ki X hI (h_runV (As := [.int p1, .int p2, .ref a7]) X hI (h_recv X hI hO (show jC.1[0]? = some (RX0, TX0, 20) from rfl)) (mhX0_breaksFrom l Z D j Λ fr lo E a0 p1 p2 a7 m9 m10 G8 _ hf H.size) (cwV 3 hts (lw_V q1991 q1993 qs47 q167 q1994) rfl rfl rfl (by decide +kernel) (by show fr + 4 + 1 ≤ fr + 5 ∧ 8 + (8 + 11) + (lo + 110) ≤ lo + 3200; omega)) rfl hl.1 (Nat.le_of_ble_eq_true rfl) dX0_bad_26 ⟨hmA hm.1 hb1, hmA hm.2 hb2⟩ rfl) (fun x12 G11 H locs hf hI => ?_)
      have hm := And.intro (hmB hm.1 hb1) (hmB hm.2 hb2)
      clear hb1 hb2
      clear hO
      refine lv_goto (tgt := 34) hx hb dX0_bad_29 (by decide) ?_
      exact hret hf hI dX0_bad_34 (hmC hm.1) (hmC hm.2)
/-! MergeJudge.bare(I)I -/
def hX0_bare_b38 (j : JX) (Λ : JLam) (a0 : Nat) (p1 : Int32) (post : Int32 → HG → Prop) (K15 : Int32 → Int32 → Nat → Nat → HG → Prop) (lx3 : Int32) (z0 : Int32) (z1 : Int32) (mc ms : Nat) (G : HG) : Prop :=
  K15 (z0 + z1) (lx3 + 1) mc ms G
def hX0_bare_b15 (j : JX) (Λ : JLam) (a0 : Nat) (p1 : Int32) (post : Int32 → HG → Prop) (K15 : Int32 → Int32 → Nat → Nat → HG → Prop) (lx2 : Int32) (lx3 : Int32) (mc ms : Nat) (G : HG) : Prop :=
  isO G a0 0 (hX0_states0 j Λ a0 G fun x5 G4 => (x5 ≤ lx3 → (post lx2 G4)) ∧ (¬ x5 ≤ lx3 → (isO G4 a0 0 (∃ m7 m8 : Nat, m7 ≤ mc ∧ m8 ≤ ms ∧ hX0_bad j Λ a0 lx3 p1 m7 m8 G4 fun x10 G9 => (x10 ≤ 0 → (hX0_bare_b38 j Λ a0 p1 post K15 lx3 lx2 (0 : Int32) (mc - m7) (ms - m8) G9)) ∧ (¬ x10 ≤ 0 → (hX0_bare_b38 j Λ a0 p1 post K15 lx3 lx2 (1 : Int32) (mc - m7) (ms - m8) G9))))))
def hX0_bare_l15 (j : JX) (Λ : JLam) (a0 : Nat) (p1 : Int32) (post : Int32 → HG → Prop) : Nat → Int32 → Int32 → Nat → Nat → HG → Prop
  | 0 => fun _ _ _ _ _ => False
  | n + 1 => fun lx2 lx3 mc ms G => hX0_bare_b15 j Λ a0 p1 post (hX0_bare_l15 j Λ a0 p1 post n) lx2 lx3 mc ms G
def hX0_bare (j : JX) (Λ : JLam) (a0 : Nat) (p1 : Int32) (mc ms : Nat) (G : HG) (post : Int32 → HG → Prop) : Prop :=
  isO G a0 0 (hX0_isDeep j Λ a0 p1 G fun x2 G1 => (x2 = 0 → (post ((-2) : Int32) G1)) ∧ (¬ x2 = 0 → (∃ n, hX0_bare_l15 j Λ a0 p1 post n (0 : Int32) (0 : Int32) mc ms G1)))
abbrev rhX0_bare (fr lo mc ms : Nat) : Room := { frames := fr + 6, cells := mc, slots := ms, locals := lo + 3222 }
theorem mhX0_bare (l : Launch) (Z : (Nat → Prop) → State → Heap → Prop) (D : va_G) (j : JX) (Λ : JLam) (fr lo : Nat) (E : JE l Z D j Λ fr lo) (a0 : Nat) (p1 : Int32) (mc ms : Nat) (G : HG) (post : Int32 → HG → Prop) (hf : hX0_bare j Λ a0 p1 mc ms G post) : HMi l yX0_bare (ws_ yX0_bare cX0_bare 4 (some .int)) (rhX0_bare fr lo mc ms) D jC (jty j.1) Z G [.ref a0, .int p1] post mc ms := by
  obtain ⟨MC, eMC⟩ : ∃ MC, MC = mc := ⟨_, rfl⟩
  obtain ⟨MS, eMS⟩ : ∃ MS, MS = ms := ⟨_, rfl⟩
  suffices goal : HMi l yX0_bare (ws_ yX0_bare cX0_bare 4 (some .int)) (rhX0_bare fr lo MC MS) D jC (jty j.1) Z G [.ref a0, .int p1] post MC MS by rw [eMC, eMS] at goal; exact goal
  have hm0_ : 0 + mc ≤ MC ∧ 0 + ms ≤ MS := by omega
  clear eMC eMS
  refine h_openi E.1 (by decide) (by exact Nat.le_of_ble_eq_true rfl) (fun p e s m args below meth c ls A0 Q X hI hnd hnm hl hret => ?_)
  have X : XC p s m args meth c cX0_bare 4 RX0 D jC (jty j.1) A0 Z := X
  have hx := X.1
  have hb := X.2.1
  have hown := X.2.2.2.1
  have hts := X.2.2.2.2.1
  have L15 : ∀ (n : Nat) (lx2 : Int32) (lx3 : Int32) (mc ms : Nat) (G : HG), hX0_bare_l15 j Λ a0 p1 post n lx2 lx3 mc ms G → ∀ (cells slots : Nat), cells + mc ≤ MC ∧ slots + ms ≤ MS → ∀ (H : Heap) (locs : List Loc), HI D jC G A0 s.heap H locs → ∀ (ls : Array Slot), lv_has ls 4 [(0, .ref a0), (1, .int p1), (2, .int lx2), (3, .int lx3)] → W p l e (rhX0_bare fr lo MC MS) s m args below meth c H locs cells slots Q (F0 m 15 ls []) := by
    intro n15
    induction n15 with
    | zero => intro lx2 lx3 mc ms G hf; exact hf.elim
    | succ n15 ih15 =>
      have J38 : ∀ (lx3 : Int32) (z0 : Int32) (z1 : Int32) (mc ms : Nat) (G : HG), hX0_bare_b38 j Λ a0 p1 post (hX0_bare_l15 j Λ a0 p1 post n15) lx3 z0 z1 mc ms G → ∀ (cells slots : Nat), cells + mc ≤ MC ∧ slots + ms ≤ MS → ∀ (H : Heap) (locs : List Loc), HI D jC G A0 s.heap H locs → ∀ (ls : Array Slot), lv_has ls 4 [(0, .ref a0), (1, .int p1), (3, .int lx3)] → W p l e (rhX0_bare fr lo MC MS) s m args below meth c H locs cells slots Q (F0 m 38 ls [.int z1, .int z0]) := by
        intro lx3 z0 z1 mc ms G hf cells slots hm H locs hI ls hl
        unfold hX0_bare_b38 at hf
        refine lv_iadd hx hb dX0_bare_38 ?_
        refine lv_istore_n (lv' := [(2, .int (z0 + z1)), (0, .ref a0), (1, .int p1), (3, .int lx3)]) hx hb dX0_bare_39 rfl hl (by decide) rfl (fun ls hl => ?_)
        refine lv_iinc (v := lx3 + 1) (lv' := [(3, .int (lx3 + 1)), (2, .int (z0 + z1)), (0, .ref a0), (1, .int p1)]) hx hb dX0_bare_40 hl (k := 3) rfl rfl (by decide) rfl (fun ls hl => ?_)
        refine lv_goto (tgt := 15) hx hb dX0_bare_43 (by decide) ?_
        exact ih15 (z0 + z1) (lx3 + 1) mc ms G hf _ _ hm H locs hI ls (lv_sub hl [2, 3, 1, 0] rfl)
      intro lx2 lx3 mc ms G hf cells slots hm H locs hI ls hl
      have hf : hX0_bare_b15 j Λ a0 p1 post (hX0_bare_l15 j Λ a0 p1 post n15) lx2 lx3 mc ms G := hf
      unfold hX0_bare_b15 at hf
      refine lv_iload_n hx hb dX0_bare_15 rfl (lv_at hl 3 rfl) ?_
      refine lv_aload_n hx hb dX0_bare_16 rfl (lv_at hl 0 rfl) ?_
      obtain ⟨_, _, hO, hf⟩ := hf
      refine h_ki X hI (h_runV (As := []) X hI (h_recv X hI hO (show jC.1[0]? = some (RX0, TX0, 20) from rfl)) (mhX0_states0 l Z D j Λ fr lo E a0 G _ hf H.size) (cwV 0 hts (lw_V q1945 q1947 qs41 q167 q1948) rfl rfl rfl (by decide +kernel) (by show fr + 1 + 1 ≤ fr + 6 ∧ 8 + (3 + 11) + (lo + 40) ≤ lo + 3222; omega)) rfl hl.1 (Nat.le_of_ble_eq_true rfl) dX0_bare_17 ⟨hm0 hm.1, hm0 hm.2⟩ rfl) (fun x5 G4 H locs hf hI => ?_)
      clear hO
      refine lv_icmp_ge (tgt := 46) hx hb dX0_bare_20 (by decide) (fun c6 => ?_) (fun c6 => ?_)
      · have hf := hf.1 c6
        refine lv_iload_n hx hb dX0_bare_46 rfl (lv_at hl 2 rfl) ?_
        exact hret hf hI dX0_bare_47 (hmC hm.1) (hmC hm.2)
      · have hf := hf.2 c6
        refine lv_iload_n hx hb dX0_bare_23 rfl (lv_at hl 2 rfl) ?_
        refine lv_aload_n hx hb dX0_bare_24 rfl (lv_at hl 0 rfl) ?_
        refine lv_iload_n hx hb dX0_bare_25 rfl (lv_at hl 3 rfl) ?_
        refine lv_iload_n hx hb dX0_bare_26 rfl (lv_at hl 1 rfl) ?_
        obtain ⟨_, _, hO, hf⟩ := hf
        obtain ⟨m7, m8, hb1, hb2, hf⟩ := hf
        refine h_ki X hI (h_runV (As := [.int lx3, .int p1]) X hI (h_recv X hI hO (show jC.1[0]? = some (RX0, TX0, 20) from rfl)) (mhX0_bad l Z D j Λ fr lo E a0 lx3 p1 m7 m8 G4 _ hf H.size) (cwV 2 hts (lw_V q1980 q1981 q1982 q167 q1983) rfl rfl rfl (by decide +kernel) (by show fr + 5 + 1 ≤ fr + 6 ∧ 8 + (3 + 11) + (lo + 3200) ≤ lo + 3222; omega)) rfl hl.1 (Nat.le_of_ble_eq_true rfl) dX0_bare_27 ⟨hmA hm.1 hb1, hmA hm.2 hb2⟩ rfl) (fun x10 G9 H locs hf hI => ?_)
        have hm := And.intro (hmB hm.1 hb1) (hmB hm.2 hb2)
        clear hb1 hb2
        clear hO
        refine lv_if_le (tgt := 37) hx hb dX0_bare_30 (by decide) (fun c11 => ?_) (fun c11 => ?_)
        · have hf := hf.1 c11
          refine lv_iconst (v := 0) hx hb dX0_bare_37 (by decide) ?_
          exact J38 lx3 lx2 (0 : Int32) (mc - m7) (ms - m8) G9 hf _ _ hm H locs hI ls (lv_sub hl [0, 1, 3] rfl)
        · have hf := hf.2 c11
          refine lv_iconst (v := 1) hx hb dX0_bare_33 (by decide) ?_
          refine lv_goto (tgt := 38) hx hb dX0_bare_34 (by decide) ?_
          exact J38 lx3 lx2 (1 : Int32) (mc - m7) (ms - m8) G9 hf _ _ hm H locs hI ls (lv_sub hl [0, 1, 3] rfl)
  have hl : lv_has ls 4 [(0, .ref a0), (1, .int p1)] := by exact hl
  unfold hX0_bare at hf
  obtain ⟨H, eH⟩ : ∃ H, H = s.heap := ⟨_, rfl⟩
  obtain ⟨locs, eL⟩ : ∃ locs : List Loc, locs = [] := ⟨_, rfl⟩
  have hI : HI D jC G A0 s.heap H locs := by rw [eH, eL]; exact hI
  rw [← eL]
  obtain ⟨cells, eC⟩ : ∃ n : Nat, n = 0 := ⟨_, rfl⟩
  obtain ⟨slots, eS⟩ : ∃ n : Nat, n = 0 := ⟨_, rfl⟩
  have hm : cells + mc ≤ MC ∧ slots + ms ≤ MS := by rw [eC, eS]; exact hm0_
  suffices h : W p l e (rhX0_bare fr lo MC MS) s m args below meth c H locs cells slots Q (F0 m 0 ls []) by rw [eH, eC, eS] at h; exact h
  clear eH eL eC eS
  refine lv_aload_n hx hb dX0_bare_0 rfl (lv_at hl 0 rfl) ?_
  refine lv_iload_n hx hb dX0_bare_1 rfl (lv_at hl 1 rfl) ?_
  obtain ⟨_, _, hO, hf⟩ := hf
  refine h_ki X hI (h_runV (As := [.int p1]) X hI (h_recv X hI hO (show jC.1[0]? = some (RX0, TX0, 20) from rfl)) (mhX0_isDeep l Z D j Λ fr lo E a0 p1 G _ hf H.size) (cwV 1 hts (lw_V q1976 q1978 qs44 q167 q1979) rfl rfl rfl (by decide +kernel) (by show fr + 2 + 1 ≤ fr + 6 ∧ 8 + (2 + 11) + (lo + 65) ≤ lo + 3222; omega)) rfl hl.1 (Nat.le_of_ble_eq_true rfl) dX0_bare_2 ⟨hm0 hm.1, hm0 hm.2⟩ rfl) (fun x2 G1 H locs hf hI => ?_)
  clear hO
  refine lv_if_ne (tgt := 11) hx hb dX0_bare_5 (by decide) (fun c3 => ?_) (fun c3 => ?_)
  · have hf := hf.2 c3
    refine lv_iconst (v := 0) hx hb dX0_bare_11 (by decide) ?_
    refine lv_istore_n (lv' := [(2, .int 0), (0, .ref a0), (1, .int p1)]) hx hb dX0_bare_12 rfl hl (by decide) rfl (fun ls hl => ?_)
    refine lv_iconst (v := 0) hx hb dX0_bare_13 (by decide) ?_
    refine lv_istore_n (lv' := [(3, .int 0), (2, .int 0), (0, .ref a0), (1, .int p1)]) hx hb dX0_bare_14 rfl hl (by decide) rfl (fun ls hl => ?_)
    obtain ⟨n, hf⟩ := hf
    exact L15 n (0 : Int32) (0 : Int32) mc ms G1 hf _ _ hm H locs hI ls (lv_sub hl [2, 3, 1, 0] rfl)
  · have hf := hf.1 c3
    refine lv_bipush (v := -2) hx hb dX0_bare_8 (by decide) ?_
    exact hret hf hI dX0_bare_10 (hmC hm.1) (hmC hm.2)
/-! MergeJudge.tells(I)V -/
def hX0_tells (j : JX) (Λ : JLam) (a0 : Nat) (p1 : Int32) (G : HG) (post : HG → Prop) : Prop :=
  ptV G a0 0 16 (.int p1) fun G1 => post G1
abbrev rhX0_tells (fr lo : Nat) : Room := { frames := fr + 1, cells := 0, slots := 0, locals := lo + 40 }
theorem mhX0_tells (l : Launch) (Z : (Nat → Prop) → State → Heap → Prop) (D : va_G) (j : JX) (Λ : JLam) (fr lo : Nat) (E : JE l Z D j Λ fr lo) (a0 : Nat) (p1 : Int32) (G : HG) (post : HG → Prop) (hf : hX0_tells j Λ a0 p1 G post) : HMv l yX0_tells (ws_ yX0_tells cX0_tells 2 none) (rhX0_tells fr lo) D jC (jty j.1) Z G [.ref a0, .int p1] post 0 0 := by
  refine h_openv E.1 (by decide) (by exact Nat.le_of_ble_eq_true rfl) (fun p e s m args below meth c ls A0 Q X hI hnd hnm hl hret => ?_)
  have X : XC p s m args meth c cX0_tells 2 RX0 D jC (jty j.1) A0 Z := X
  have hx := X.1
  have hb := X.2.1
  have hown := X.2.2.2.1
  have hts := X.2.2.2.2.1
  have hl : lv_has ls 2 [(0, .ref a0), (1, .int p1)] := by exact hl
  unfold hX0_tells at hf
  obtain ⟨H, eH⟩ : ∃ H, H = s.heap := ⟨_, rfl⟩
  obtain ⟨locs, eL⟩ : ∃ locs : List Loc, locs = [] := ⟨_, rfl⟩
  have hI : HI D jC G A0 s.heap H locs := by rw [eH, eL]; exact hI
  rw [← eL]
  suffices h : W p l e (rhX0_tells fr lo) s m args below meth c H locs 0 0 Q (F0 m 0 ls []) by rw [eH] at h; exact h
  clear eH eL
  refine lv_aload_n hx hb dX0_tells_0 rfl (lv_at hl 0 rfl) ?_
  refine lv_iload_n hx hb dX0_tells_1 rfl (lv_at hl 1 rfl) ?_
  refine hr_pt X hI (rfl : jC.1[0]? = some (RX0, TX0, 20)) in_X0 16 (Nat.le_of_ble_eq_true rfl) tyX0 tyX0_ok nmX0 hf q671 (fun _ h => h) rfl rfl rfl dX0_tells_2 (fun G1 H locs hf hI => ?_)
  exact hret hf hI dX0_tells_5 (Nat.le_refl _) (Nat.le_refl _)
/-! MergeJudge.lambda$bad$15(IIII)V -/
def hX0_lambda_bad_15 (j : JX) (Λ : JLam) (a0 : Nat) (p1 : Int32) (p2 : Int32) (p3 : Int32) (p4 : Int32) (G : HG) (post : HG → Prop) : Prop :=
  isO G a0 0 (hX0_tells j Λ a0 p4 G fun G1 => post G1)
abbrev rhX0_lambda_bad_15 (fr lo : Nat) : Room := { frames := fr + 2, cells := 0, slots := 0, locals := lo + 61 }
theorem mhX0_lambda_bad_15 (l : Launch) (Z : (Nat → Prop) → State → Heap → Prop) (D : va_G) (j : JX) (Λ : JLam) (fr lo : Nat) (E : JE l Z D j Λ fr lo) (a0 : Nat) (p1 : Int32) (p2 : Int32) (p3 : Int32) (p4 : Int32) (G : HG) (post : HG → Prop) (hf : hX0_lambda_bad_15 j Λ a0 p1 p2 p3 p4 G post) : HMv l yX0_lambda_bad_15 (ws_ yX0_lambda_bad_15 cX0_lambda_bad_15 5 none) (rhX0_lambda_bad_15 fr lo) D jC (jty j.1) Z G [.ref a0, .int p1, .int p2, .int p3, .int p4] post 0 0 := by
  refine h_openv E.1 (by decide) (by exact Nat.le_of_ble_eq_true rfl) (fun p e s m args below meth c ls A0 Q X hI hnd hnm hl hret => ?_)
  have X : XC p s m args meth c cX0_lambda_bad_15 5 RX0 D jC (jty j.1) A0 Z := X
  have hx := X.1
  have hb := X.2.1
  have hown := X.2.2.2.1
  have hts := X.2.2.2.2.1
  have hl : lv_has ls 5 [(0, .ref a0), (1, .int p1), (2, .int p2), (3, .int p3), (4, .int p4)] := by exact hl
  unfold hX0_lambda_bad_15 at hf
  obtain ⟨H, eH⟩ : ∃ H, H = s.heap := ⟨_, rfl⟩
  obtain ⟨locs, eL⟩ : ∃ locs : List Loc, locs = [] := ⟨_, rfl⟩
  have hI : HI D jC G A0 s.heap H locs := by rw [eH, eL]; exact hI
  rw [← eL]
  suffices h : W p l e (rhX0_lambda_bad_15 fr lo) s m args below meth c H locs 0 0 Q (F0 m 0 ls []) by rw [eH] at h; exact h
  clear eH eL
  refine lv_aload_n hx hb dX0_lambda_bad_15_0 rfl (lv_at hl 0 rfl) ?_
  refine lv_iload hx hb dX0_lambda_bad_15_1 (lv_at hl 4 rfl) ?_
  obtain ⟨_, _, hO, hf⟩ := hf
  refine h_kv X hI (h_runV (As := [.int p4]) X hI (h_recv X hI hO (show jC.1[0]? = some (RX0, TX0, 20) from rfl)) (mhX0_tells l Z D j Λ fr lo E a0 p4 G _ hf H.size) (cwV 1 hts (lw_V q1987 q1989 qs46 q167 q1990) rfl rfl rfl (by decide +kernel) (by show fr + 1 + 1 ≤ fr + 2 ∧ 8 + (2 + 11) + (lo + 40) ≤ lo + 61; omega)) rfl hl.1 (Nat.le_of_ble_eq_true rfl) dX0_lambda_bad_15_3 ⟨Nat.le_refl _, Nat.le_refl _⟩ rfl) (fun G1 H locs hf hI => ?_)
  clear hO
  exact hret hf hI dX0_lambda_bad_15_6 (Nat.le_refl _) (Nat.le_refl _)
/-! MergeJudge.calm(I)I -/
def hX0_calm_b14 (j : JX) (Λ : JLam) (a0 : Nat) (p1 : Int32) (post : Int32 → HG → Prop) (K14 : Int32 → Nat → Nat → HG → Prop) (lx2 : Int32) (mc ms : Nat) (G : HG) : Prop :=
  (lx2 < 0 → (post ((-1) : Int32) G)) ∧ (¬ lx2 < 0 → (gtQ G a0 0 11 fun q5 => nnq q5 fun a6 => ldI G a6 (j.1 1) p1 fun x7 => (x7 = 0 → (post ((-1) : Int32) G)) ∧ (¬ x7 = 0 → (isO G a0 0 (∃ m9 m10 : Nat, m9 ≤ mc ∧ m10 ≤ ms ∧ hX0_bad j Λ a0 p1 lx2 m9 m10 G fun x12 G11 => (x12 = 0 → (post lx2 G11)) ∧ (¬ x12 = 0 → (K14 (lx2 + (-1)) (mc - m9) (ms - m10) G11)))))))
def hX0_calm_l14 (j : JX) (Λ : JLam) (a0 : Nat) (p1 : Int32) (post : Int32 → HG → Prop) : Nat → Int32 → Nat → Nat → HG → Prop
  | 0 => fun _ _ _ _ => False
  | n + 1 => fun lx2 mc ms G => hX0_calm_b14 j Λ a0 p1 post (hX0_calm_l14 j Λ a0 p1 post n) lx2 mc ms G
def hX0_calm (j : JX) (Λ : JLam) (a0 : Nat) (p1 : Int32) (mc ms : Nat) (G : HG) (post : Int32 → HG → Prop) : Prop :=
  isO G a0 0 (hX0_isState j Λ a0 p1.toInt64 G fun x2 G1 => (x2 = 0 → (post ((-2) : Int32) G1)) ∧ (¬ x2 = 0 → (∃ n, hX0_calm_l14 j Λ a0 p1 post n (3 : Int32) mc ms G1)))
abbrev rhX0_calm (fr lo mc ms : Nat) : Room := { frames := fr + 6, cells := mc, slots := ms, locals := lo + 3222 }
theorem mhX0_calm (l : Launch) (Z : (Nat → Prop) → State → Heap → Prop) (D : va_G) (j : JX) (Λ : JLam) (fr lo : Nat) (E : JE l Z D j Λ fr lo) (a0 : Nat) (p1 : Int32) (mc ms : Nat) (G : HG) (post : Int32 → HG → Prop) (hf : hX0_calm j Λ a0 p1 mc ms G post) : HMi l yX0_calm (ws_ yX0_calm cX0_calm 3 (some .int)) (rhX0_calm fr lo mc ms) D jC (jty j.1) Z G [.ref a0, .int p1] post mc ms := by
  obtain ⟨MC, eMC⟩ : ∃ MC, MC = mc := ⟨_, rfl⟩
  obtain ⟨MS, eMS⟩ : ∃ MS, MS = ms := ⟨_, rfl⟩
  suffices goal : HMi l yX0_calm (ws_ yX0_calm cX0_calm 3 (some .int)) (rhX0_calm fr lo MC MS) D jC (jty j.1) Z G [.ref a0, .int p1] post MC MS by rw [eMC, eMS] at goal; exact goal
  have hm0_ : 0 + mc ≤ MC ∧ 0 + ms ≤ MS := by omega
  clear eMC eMS
  refine h_openi E.1 (by decide) (by exact Nat.le_of_ble_eq_true rfl) (fun p e s m args below meth c ls A0 Q X hI hnd hnm hl hret => ?_)
  have X : XC p s m args meth c cX0_calm 3 RX0 D jC (jty j.1) A0 Z := X
  have hx := X.1
  have hb := X.2.1
  have hown := X.2.2.2.1
  have hts := X.2.2.2.2.1
  have L14 : ∀ (n : Nat) (lx2 : Int32) (mc ms : Nat) (G : HG), hX0_calm_l14 j Λ a0 p1 post n lx2 mc ms G → ∀ (cells slots : Nat), cells + mc ≤ MC ∧ slots + ms ≤ MS → ∀ (H : Heap) (locs : List Loc), HI D jC G A0 s.heap H locs → ∀ (ls : Array Slot), lv_has ls 3 [(0, .ref a0), (1, .int p1), (2, .int lx2)] → W p l e (rhX0_calm fr lo MC MS) s m args below meth c H locs cells slots Q (F0 m 14 ls []) := by
    intro n14
    induction n14 with
    | zero => intro lx2 mc ms G hf; exact hf.elim
    | succ n14 ih14 =>
      intro lx2 mc ms G hf cells slots hm H locs hI ls hl
      have hf : hX0_calm_b14 j Λ a0 p1 post (hX0_calm_l14 j Λ a0 p1 post n14) lx2 mc ms G := hf
      unfold hX0_calm_b14 at hf
      refine lv_iload_n hx hb dX0_calm_14 rfl (lv_at hl 2 rfl) ?_
      refine lv_if_lt (tgt := 44) hx hb dX0_calm_15 (by decide) (fun c4 => ?_) (fun c4 => ?_)
      · have hf := hf.1 c4
        refine lv_iconst (v := -1) hx hb dX0_calm_44 (by decide) ?_
        exact hret hf hI dX0_calm_45 (hmC hm.1) (hmC hm.2)
      · have hf := hf.2 c4
        refine lv_aload_n hx hb dX0_calm_18 rfl (lv_at hl 0 rfl) ?_
        refine hr_gtQ X hI (rfl : jC.1[0]? = some (RX0, TX0, 20)) in_X0 11 (Nat.le_of_ble_eq_true rfl) hf q664 (fun _ h => h) dX0_calm_19 (fun q5 hf => ?_)
        refine lv_iload_n hx hb dX0_calm_22 rfl (lv_at hl 1 rfl) ?_
        obtain ⟨a6, ea6, hf⟩ := hf
        revert hl hf
        subst ea6
        intro hl hf
        have hl : lv_has ls 3 [(0, .ref a0), (1, .int p1), (2, .int lx2)] := hl
        refine hr_zld X hI 1 rfl hf dX0_calm_23 (fun x7 hf => ?_)
        refine lv_if_eq (tgt := 44) hx hb dX0_calm_24 (by decide) (fun c8 => ?_) (fun c8 => ?_)
        · have hf := hf.1 c8
          refine lv_iconst (v := -1) hx hb dX0_calm_44 (by decide) ?_
          exact hret hf hI dX0_calm_45 (hmC hm.1) (hmC hm.2)
        · have hf := hf.2 c8
          refine lv_aload_n hx hb dX0_calm_27 rfl (lv_at hl 0 rfl) ?_
          refine lv_iload_n hx hb dX0_calm_28 rfl (lv_at hl 1 rfl) ?_
          refine lv_iload_n hx hb dX0_calm_29 rfl (lv_at hl 2 rfl) ?_
          obtain ⟨_, _, hO, hf⟩ := hf
          obtain ⟨m9, m10, hb1, hb2, hf⟩ := hf
          refine h_ki X hI (h_runV (As := [.int p1, .int lx2]) X hI (h_recv X hI hO (show jC.1[0]? = some (RX0, TX0, 20) from rfl)) (mhX0_bad l Z D j Λ fr lo E a0 p1 lx2 m9 m10 G _ hf H.size) (cwV 2 hts (lw_V q1980 q1981 q1982 q167 q1983) rfl rfl rfl (by decide +kernel) (by show fr + 5 + 1 ≤ fr + 6 ∧ 8 + (3 + 11) + (lo + 3200) ≤ lo + 3222; omega)) rfl hl.1 (Nat.le_of_ble_eq_true rfl) dX0_calm_30 ⟨hmA hm.1 hb1, hmA hm.2 hb2⟩ rfl) (fun x12 G11 H locs hf hI => ?_)
          have hm := And.intro (hmB hm.1 hb1) (hmB hm.2 hb2)
          clear hb1 hb2
          clear hO
          refine lv_if_ne (tgt := 38) hx hb dX0_calm_33 (by decide) (fun c13 => ?_) (fun c13 => ?_)
          · have hf := hf.2 c13
            refine lv_iinc (v := lx2 + (-1)) (lv' := [(2, .int (lx2 + (-1))), (0, .ref a0), (1, .int p1)]) hx hb dX0_calm_38 hl (k := 2) rfl rfl (by decide) rfl (fun ls hl => ?_)
            refine lv_goto (tgt := 14) hx hb dX0_calm_41 (by decide) ?_
            exact ih14 (lx2 + (-1)) (mc - m9) (ms - m10) G11 hf _ _ hm H locs hI ls (lv_sub hl [1, 2, 0] rfl)
          · have hf := hf.1 c13
            refine lv_iload_n hx hb dX0_calm_36 rfl (lv_at hl 2 rfl) ?_
            exact hret hf hI dX0_calm_37 (hmC hm.1) (hmC hm.2)
  have hl : lv_has ls 3 [(0, .ref a0), (1, .int p1)] := by exact hl
  unfold hX0_calm at hf
  obtain ⟨H, eH⟩ : ∃ H, H = s.heap := ⟨_, rfl⟩
  obtain ⟨locs, eL⟩ : ∃ locs : List Loc, locs = [] := ⟨_, rfl⟩
  have hI : HI D jC G A0 s.heap H locs := by rw [eH, eL]; exact hI
  rw [← eL]
  obtain ⟨cells, eC⟩ : ∃ n : Nat, n = 0 := ⟨_, rfl⟩
  obtain ⟨slots, eS⟩ : ∃ n : Nat, n = 0 := ⟨_, rfl⟩
  have hm : cells + mc ≤ MC ∧ slots + ms ≤ MS := by rw [eC, eS]; exact hm0_
  suffices h : W p l e (rhX0_calm fr lo MC MS) s m args below meth c H locs cells slots Q (F0 m 0 ls []) by rw [eH, eC, eS] at h; exact h
  clear eH eL eC eS
  refine lv_aload_n hx hb dX0_calm_0 rfl (lv_at hl 0 rfl) ?_
  refine lv_iload_n hx hb dX0_calm_1 rfl (lv_at hl 1 rfl) ?_
  refine lv_i2l hx hb dX0_calm_2 rfl ?_
  obtain ⟨_, _, hO, hf⟩ := hf
  refine h_ki X hI (h_runV (As := [.long p1.toInt64]) X hI (h_recv X hI hO (show jC.1[0]? = some (RX0, TX0, 20) from rfl)) (mhX0_isState l Z D j Λ fr lo E a0 p1.toInt64 G _ hf H.size) (cwV 1 hts (lw_V q1968 q1970 qs43 q167 q1971) rfl rfl rfl (by decide +kernel) (by show fr + 2 + 1 ≤ fr + 6 ∧ 8 + (3 + 11) + (lo + 65) ≤ lo + 3222; omega)) rfl hl.1 (Nat.le_of_ble_eq_true rfl) dX0_calm_3 ⟨hm0 hm.1, hm0 hm.2⟩ rfl) (fun x2 G1 H locs hf hI => ?_)
  clear hO
  refine lv_if_ne (tgt := 12) hx hb dX0_calm_6 (by decide) (fun c3 => ?_) (fun c3 => ?_)
  · have hf := hf.2 c3
    refine lv_iconst (v := 3) hx hb dX0_calm_12 (by decide) ?_
    refine lv_istore_n (lv' := [(2, .int 3), (0, .ref a0), (1, .int p1)]) hx hb dX0_calm_13 rfl hl (by decide) rfl (fun ls hl => ?_)
    obtain ⟨n, hf⟩ := hf
    exact L14 n (3 : Int32) mc ms G1 hf _ _ hm H locs hI ls (lv_sub hl [1, 2, 0] rfl)
  · have hf := hf.1 c3
    refine lv_bipush (v := -2) hx hb dX0_calm_9 (by decide) ?_
    exact hret hf hI dX0_calm_11 (hmC hm.1) (hmC hm.2)
/-! MergeJudge.hot(I)I -/
def hX0_hot_b51 (j : JX) (Λ : JLam) (a0 : Nat) (p1 : Int32) (post : Int32 → HG → Prop) (K18 : Int32 → Int32 → Int32 → Nat → Nat → HG → Prop) (lx2 : Int32) (lx3 : Int32) (lx4 : Int32) (mc ms : Nat) (G : HG) : Prop :=
  K18 lx2 lx3 (lx4 + 1) mc ms G
def hX0_hot_b18 (j : JX) (Λ : JLam) (a0 : Nat) (p1 : Int32) (post : Int32 → HG → Prop) (K18 : Int32 → Int32 → Int32 → Nat → Nat → HG → Prop) (lx2 : Int32) (lx3 : Int32) (lx4 : Int32) (mc ms : Nat) (G : HG) : Prop :=
  isO G a0 0 (hX0_states0 j Λ a0 G fun x5 G4 => (x5 ≤ lx4 → (post lx2 G4)) ∧ (¬ x5 ≤ lx4 → (isO G4 a0 0 (∃ m7 m8 : Nat, m7 ≤ mc ∧ m8 ≤ ms ∧ hX0_bad j Λ a0 lx4 p1 m7 m8 G4 fun x10 G9 => (lx3 < x10 → (hX0_hot_b51 j Λ a0 p1 post K18 lx4 x10 lx4 (mc - m7) (ms - m8) G9)) ∧ (¬ lx3 < x10 → (hX0_hot_b51 j Λ a0 p1 post K18 lx2 lx3 lx4 (mc - m7) (ms - m8) G9))))))
def hX0_hot_l18 (j : JX) (Λ : JLam) (a0 : Nat) (p1 : Int32) (post : Int32 → HG → Prop) : Nat → Int32 → Int32 → Int32 → Nat → Nat → HG → Prop
  | 0 => fun _ _ _ _ _ _ => False
  | n + 1 => fun lx2 lx3 lx4 mc ms G => hX0_hot_b18 j Λ a0 p1 post (hX0_hot_l18 j Λ a0 p1 post n) lx2 lx3 lx4 mc ms G
def hX0_hot (j : JX) (Λ : JLam) (a0 : Nat) (p1 : Int32) (mc ms : Nat) (G : HG) (post : Int32 → HG → Prop) : Prop :=
  isO G a0 0 (hX0_isDeep j Λ a0 p1 G fun x2 G1 => (x2 = 0 → (post ((-2) : Int32) G1)) ∧ (¬ x2 = 0 → (∃ n, hX0_hot_l18 j Λ a0 p1 post n ((-1) : Int32) (0 : Int32) (0 : Int32) mc ms G1)))
abbrev rhX0_hot (fr lo mc ms : Nat) : Room := { frames := fr + 6, cells := mc, slots := ms, locals := lo + 3222 }
theorem mhX0_hot (l : Launch) (Z : (Nat → Prop) → State → Heap → Prop) (D : va_G) (j : JX) (Λ : JLam) (fr lo : Nat) (E : JE l Z D j Λ fr lo) (a0 : Nat) (p1 : Int32) (mc ms : Nat) (G : HG) (post : Int32 → HG → Prop) (hf : hX0_hot j Λ a0 p1 mc ms G post) : HMi l yX0_hot (ws_ yX0_hot cX0_hot 6 (some .int)) (rhX0_hot fr lo mc ms) D jC (jty j.1) Z G [.ref a0, .int p1] post mc ms := by
  obtain ⟨MC, eMC⟩ : ∃ MC, MC = mc := ⟨_, rfl⟩
  obtain ⟨MS, eMS⟩ : ∃ MS, MS = ms := ⟨_, rfl⟩
  suffices goal : HMi l yX0_hot (ws_ yX0_hot cX0_hot 6 (some .int)) (rhX0_hot fr lo MC MS) D jC (jty j.1) Z G [.ref a0, .int p1] post MC MS by rw [eMC, eMS] at goal; exact goal
  have hm0_ : 0 + mc ≤ MC ∧ 0 + ms ≤ MS := by omega
  clear eMC eMS
  refine h_openi E.1 (by decide) (by exact Nat.le_of_ble_eq_true rfl) (fun p e s m args below meth c ls A0 Q X hI hnd hnm hl hret => ?_)
  have X : XC p s m args meth c cX0_hot 6 RX0 D jC (jty j.1) A0 Z := X
  have hx := X.1
  have hb := X.2.1
  have hown := X.2.2.2.1
  have hts := X.2.2.2.2.1
  have L18 : ∀ (n : Nat) (lx2 : Int32) (lx3 : Int32) (lx4 : Int32) (mc ms : Nat) (G : HG), hX0_hot_l18 j Λ a0 p1 post n lx2 lx3 lx4 mc ms G → ∀ (cells slots : Nat), cells + mc ≤ MC ∧ slots + ms ≤ MS → ∀ (H : Heap) (locs : List Loc), HI D jC G A0 s.heap H locs → ∀ (ls : Array Slot), lv_has ls 6 [(0, .ref a0), (1, .int p1), (2, .int lx2), (3, .int lx3), (4, .int lx4)] → W p l e (rhX0_hot fr lo MC MS) s m args below meth c H locs cells slots Q (F0 m 18 ls []) := by
    intro n18
    induction n18 with
    | zero => intro lx2 lx3 lx4 mc ms G hf; exact hf.elim
    | succ n18 ih18 =>
      have J51 : ∀ (lx2 : Int32) (lx3 : Int32) (lx4 : Int32) (mc ms : Nat) (G : HG), hX0_hot_b51 j Λ a0 p1 post (hX0_hot_l18 j Λ a0 p1 post n18) lx2 lx3 lx4 mc ms G → ∀ (cells slots : Nat), cells + mc ≤ MC ∧ slots + ms ≤ MS → ∀ (H : Heap) (locs : List Loc), HI D jC G A0 s.heap H locs → ∀ (ls : Array Slot), lv_has ls 6 [(0, .ref a0), (1, .int p1), (2, .int lx2), (3, .int lx3), (4, .int lx4)] → W p l e (rhX0_hot fr lo MC MS) s m args below meth c H locs cells slots Q (F0 m 51 ls []) := by
        intro lx2 lx3 lx4 mc ms G hf cells slots hm H locs hI ls hl
        unfold hX0_hot_b51 at hf
        refine lv_iinc (v := lx4 + 1) (lv' := [(4, .int (lx4 + 1)), (0, .ref a0), (1, .int p1), (2, .int lx2), (3, .int lx3)]) hx hb dX0_hot_51 hl (k := 4) rfl rfl (by decide) rfl (fun ls hl => ?_)
        refine lv_goto (tgt := 18) hx hb dX0_hot_54 (by decide) ?_
        exact ih18 lx2 lx3 (lx4 + 1) mc ms G hf _ _ hm H locs hI ls (lv_sub hl [1, 2, 3, 4, 0] rfl)
      intro lx2 lx3 lx4 mc ms G hf cells slots hm H locs hI ls hl
      have hf : hX0_hot_b18 j Λ a0 p1 post (hX0_hot_l18 j Λ a0 p1 post n18) lx2 lx3 lx4 mc ms G := hf
      unfold hX0_hot_b18 at hf
      refine lv_iload hx hb dX0_hot_18 (lv_at hl 4 rfl) ?_
      refine lv_aload_n hx hb dX0_hot_20 rfl (lv_at hl 0 rfl) ?_
      obtain ⟨_, _, hO, hf⟩ := hf
      refine h_ki X hI (h_runV (As := []) X hI (h_recv X hI hO (show jC.1[0]? = some (RX0, TX0, 20) from rfl)) (mhX0_states0 l Z D j Λ fr lo E a0 G _ hf H.size) (cwV 0 hts (lw_V q1945 q1947 qs41 q167 q1948) rfl rfl rfl (by decide +kernel) (by show fr + 1 + 1 ≤ fr + 6 ∧ 8 + (3 + 11) + (lo + 40) ≤ lo + 3222; omega)) rfl hl.1 (Nat.le_of_ble_eq_true rfl) dX0_hot_21 ⟨hm0 hm.1, hm0 hm.2⟩ rfl) (fun x5 G4 H locs hf hI => ?_)
      clear hO
      refine lv_icmp_ge (tgt := 57) hx hb dX0_hot_24 (by decide) (fun c6 => ?_) (fun c6 => ?_)
      · have hf := hf.1 c6
        refine lv_iload_n hx hb dX0_hot_57 rfl (lv_at hl 2 rfl) ?_
        exact hret hf hI dX0_hot_58 (hmC hm.1) (hmC hm.2)
      · have hf := hf.2 c6
        refine lv_aload_n hx hb dX0_hot_27 rfl (lv_at hl 0 rfl) ?_
        refine lv_iload hx hb dX0_hot_28 (lv_at hl 4 rfl) ?_
        refine lv_iload_n hx hb dX0_hot_30 rfl (lv_at hl 1 rfl) ?_
        obtain ⟨_, _, hO, hf⟩ := hf
        obtain ⟨m7, m8, hb1, hb2, hf⟩ := hf
        refine h_ki X hI (h_runV (As := [.int lx4, .int p1]) X hI (h_recv X hI hO (show jC.1[0]? = some (RX0, TX0, 20) from rfl)) (mhX0_bad l Z D j Λ fr lo E a0 lx4 p1 m7 m8 G4 _ hf H.size) (cwV 2 hts (lw_V q1980 q1981 q1982 q167 q1983) rfl rfl rfl (by decide +kernel) (by show fr + 5 + 1 ≤ fr + 6 ∧ 8 + (3 + 11) + (lo + 3200) ≤ lo + 3222; omega)) rfl hl.1 (Nat.le_of_ble_eq_true rfl) dX0_hot_31 ⟨hmA hm.1 hb1, hmA hm.2 hb2⟩ rfl) (fun x10 G9 H locs hf hI => ?_)
        have hm := And.intro (hmB hm.1 hb1) (hmB hm.2 hb2)
        clear hb1 hb2
        clear hO
        refine lv_istore (lv' := [(5, .int x10), (0, .ref a0), (1, .int p1), (2, .int lx2), (3, .int lx3), (4, .int lx4)]) hx hb dX0_hot_34 hl (by decide) rfl (fun ls hl => ?_)
        refine lv_iload hx hb dX0_hot_36 (lv_at hl 0 rfl) ?_
        refine lv_iload_n hx hb dX0_hot_38 rfl (lv_at hl 4 rfl) ?_
        refine lv_icmp_gt (tgt := 45) hx hb dX0_hot_39 (by decide) (fun c11 => ?_) (fun c11 => ?_)
        · have hf := hf.1 c11
          refine lv_iload hx hb dX0_hot_45 (lv_at hl 5 rfl) ?_
          refine lv_istore_n (lv' := [(2, .int lx4), (5, .int x10), (0, .ref a0), (1, .int p1), (3, .int lx3), (4, .int lx4)]) hx hb dX0_hot_47 rfl hl (by decide) rfl (fun ls hl => ?_)
          refine lv_iload hx hb dX0_hot_48 (lv_at hl 1 rfl) ?_
          refine lv_istore_n (lv' := [(3, .int x10), (2, .int lx4), (5, .int x10), (0, .ref a0), (1, .int p1), (4, .int lx4)]) hx hb dX0_hot_50 rfl hl (by decide) rfl (fun ls hl => ?_)
          exact J51 lx4 x10 lx4 (mc - m7) (ms - m8) G9 hf _ _ hm H locs hI ls (lv_sub hl [3, 4, 1, 0, 5] rfl)
        · have hf := hf.2 c11
          refine lv_goto (tgt := 51) hx hb dX0_hot_42 (by decide) ?_
          exact J51 lx2 lx3 lx4 (mc - m7) (ms - m8) G9 hf _ _ hm H locs hI ls (lv_sub hl [1, 2, 3, 4, 5] rfl)
  have hl : lv_has ls 6 [(0, .ref a0), (1, .int p1)] := by exact hl
  unfold hX0_hot at hf
  obtain ⟨H, eH⟩ : ∃ H, H = s.heap := ⟨_, rfl⟩
  obtain ⟨locs, eL⟩ : ∃ locs : List Loc, locs = [] := ⟨_, rfl⟩
  have hI : HI D jC G A0 s.heap H locs := by rw [eH, eL]; exact hI
  rw [← eL]
  obtain ⟨cells, eC⟩ : ∃ n : Nat, n = 0 := ⟨_, rfl⟩
  obtain ⟨slots, eS⟩ : ∃ n : Nat, n = 0 := ⟨_, rfl⟩
  have hm : cells + mc ≤ MC ∧ slots + ms ≤ MS := by rw [eC, eS]; exact hm0_
  suffices h : W p l e (rhX0_hot fr lo MC MS) s m args below meth c H locs cells slots Q (F0 m 0 ls []) by rw [eH, eC, eS] at h; exact h
  clear eH eL eC eS
  refine lv_aload_n hx hb dX0_hot_0 rfl (lv_at hl 0 rfl) ?_
  refine lv_iload_n hx hb dX0_hot_1 rfl (lv_at hl 1 rfl) ?_
  obtain ⟨_, _, hO, hf⟩ := hf
  refine h_ki X hI (h_runV (As := [.int p1]) X hI (h_recv X hI hO (show jC.1[0]? = some (RX0, TX0, 20) from rfl)) (mhX0_isDeep l Z D j Λ fr lo E a0 p1 G _ hf H.size) (cwV 1 hts (lw_V q1976 q1978 qs44 q167 q1979) rfl rfl rfl (by decide +kernel) (by show fr + 2 + 1 ≤ fr + 6 ∧ 8 + (2 + 11) + (lo + 65) ≤ lo + 3222; omega)) rfl hl.1 (Nat.le_of_ble_eq_true rfl) dX0_hot_2 ⟨hm0 hm.1, hm0 hm.2⟩ rfl) (fun x2 G1 H locs hf hI => ?_)
  clear hO
  refine lv_if_ne (tgt := 11) hx hb dX0_hot_5 (by decide) (fun c3 => ?_) (fun c3 => ?_)
  · have hf := hf.2 c3
    refine lv_iconst (v := -1) hx hb dX0_hot_11 (by decide) ?_
    refine lv_istore_n (lv' := [(2, .int (-1)), (0, .ref a0), (1, .int p1)]) hx hb dX0_hot_12 rfl hl (by decide) rfl (fun ls hl => ?_)
    refine lv_iconst (v := 0) hx hb dX0_hot_13 (by decide) ?_
    refine lv_istore_n (lv' := [(3, .int 0), (2, .int (-1)), (0, .ref a0), (1, .int p1)]) hx hb dX0_hot_14 rfl hl (by decide) rfl (fun ls hl => ?_)
    refine lv_iconst (v := 0) hx hb dX0_hot_15 (by decide) ?_
    refine lv_istore (lv' := [(4, .int 0), (3, .int 0), (2, .int (-1)), (0, .ref a0), (1, .int p1)]) hx hb dX0_hot_16 hl (by decide) rfl (fun ls hl => ?_)
    obtain ⟨n, hf⟩ := hf
    exact L18 n ((-1) : Int32) (0 : Int32) (0 : Int32) mc ms G1 hf _ _ hm H locs hI ls (lv_sub hl [3, 4, 2, 1, 0] rfl)
  · have hf := hf.1 c3
    refine lv_bipush (v := -2) hx hb dX0_hot_8 (by decide) ?_
    exact hret hf hI dX0_hot_10 (hmC hm.1) (hmC hm.2)
