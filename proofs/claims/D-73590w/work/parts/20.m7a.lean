/-! THE MODEL decompiled, and its walks (printed by gen/genm.py) -/
/-! in -/
def f7_in (p0 : Int64) (p1 : Int64) (p2 : Int64) : Option Int32 :=
  if (lg_cmp p0 p1) < 0 then (some 0) else (if 0 < (lg_cmp p0 p2) then (some 0) else (some 1))
abbrev r7_in : Room := { frames := 0, cells := 0, slots := 0, locals := 0 }
theorem cw7_in {R : Room} {s : State} {args : Array Value} (ht : ∀ w ∈ lw_all, w.before args s = true) (hR : r7_in.frames + 1 ≤ R.frames ∧ 8 + (6 + 11) + r7_in.locals ≤ R.locals) : CallB R s args RX7 76 yX7_in cX7_in 6 (some .boolean) (ws_ yX7_in cX7_in 6 (some .boolean)) r7_in 0 0 3 ∧ (Cond.static yX7_in).before args s = true :=
  va_cwS 3 ht (lw_S q2790 q2791 q178 q2792) rfl rfl rfl (by decide +kernel) hR
theorem m7_in (l : Launch) (p0 : Int64) (p1 : Int64) (p2 : Int64) (r : Int32) (hf : f7_in p0 p1 p2 = some r) : XPi l yX7_in (ws_ yX7_in cX7_in 6 (some .boolean)) r7_in [.long p0, .long p1, .long p2] r := by
  refine s_openz (by decide) (by exact Nat.le_of_ble_eq_true rfl) (fun p e s m args below meth c ls A0 Q D cl tys X hI hl hret => ?_)
  have X : XC p s m args meth c cX7_in 6 RX7 D cl tys A0 ZT := X
  have hx := X.1
  have hb := X.2.1
  have hown := X.2.2.2.1
  have hts := X.2.2.2.2.1
  have hl : lv_has ls 6 [(0, .long p0), (2, .long p1), (4, .long p2)] := hl
  unfold f7_in at hf
  obtain ⟨H, eH⟩ : ∃ H, H = s.heap := ⟨_, rfl⟩
  obtain ⟨locs, eL⟩ : ∃ locs : List Loc, locs = [] := ⟨_, rfl⟩
  have hI : XI D cl [] A0 s.heap H locs := by rw [eH, eL]; exact hI
  rw [← eL]
  suffices h : W p l e r7_in s m args below meth c H locs 0 0 Q (F0 m 0 ls []) by rw [eH] at h; exact h
  clear eH eL
  refine lv_lload_n hx hb dX7_in_0 rfl (lv_at hl 0 rfl) ?_
  refine lv_lload_n hx hb dX7_in_1 rfl (lv_at hl 1 rfl) ?_
  refine W.lcmp hx hb dX7_in_2 ?_
  refine lv_if_lt (tgt := 17) hx hb dX7_in_3 (by decide) (fun c1 => ?_) (fun c1 => ?_)
  · have hf := o_pos hf c1
    refine lv_iconst (v := 0) hx hb dX7_in_17 (by decide) ?_
    exact hret hf rfl hI dX7_in_18
  · have hf := o_neg hf c1
    refine lv_lload_n hx hb dX7_in_6 rfl (lv_at hl 0 rfl) ?_
    refine lv_lload hx hb dX7_in_7 (lv_at hl 2 rfl) ?_
    refine W.lcmp hx hb dX7_in_9 ?_
    refine lv_if_gt (tgt := 17) hx hb dX7_in_10 (by decide) (fun c2 => ?_) (fun c2 => ?_)
    · have hf := o_pos hf c2
      refine lv_iconst (v := 0) hx hb dX7_in_17 (by decide) ?_
      exact hret hf rfl hI dX7_in_18
    · have hf := o_neg hf c2
      refine lv_iconst (v := 1) hx hb dX7_in_13 (by decide) ?_
      refine lv_goto (tgt := 18) hx hb dX7_in_14 (by decide) ?_
      exact hret hf rfl hI dX7_in_18
/-! image -/
def f7_image_b17 (K17 : Int32 → Int32 → MS → oI Int32) (x1 : Int32) (x2 : Int32) (σ : MS) : oI Int32 :=
  if 76 ≤ x2 then (grd (inB x1 3) <|
  nxt (sA σ 3 x1.toNatClampNeg (vp_nar .boolean 1)) fun σ5 =>
  some (0, σ5)) else (grd (inB x2 76) <|
  grd (inB (((76 : Int32) * x1) + x2) 228) <|
  nxt (sA σ 2 (((76 : Int32) * x1) + x2).toNatClampNeg (gA σ 1 x2.toNatClampNeg)) fun σ8 =>
  K17 x1 (x2 + 1) σ8)
def f7_image_l17 : Nat → Int32 → Int32 → MS → oI Int32
  | 0 => fun _ _ _ => none
  | n + 1 => fun x1 x2 σ => f7_image_b17 (f7_image_l17 n) x1 x2 σ
def f7_image (p0 : Int32) (σ : MS) : oI Int32 :=
  bn1 (f7_in p0.toInt64 0 2) fun r1 =>
  if r1 = 0 then (some ((-2), σ)) else (f7_image_l17 FU p0 0 σ)
abbrev r7_image : Room := { frames := 1, cells := 0, slots := 0, locals := 25 }
theorem m7_image (l : Launch) (D : va_G) (cl : vC2) (Z : (Nat → Prop) → State → Heap → Prop) (hz : ZK Z) (ci : Nat) (A : Nat → Nat) (d : Nat → ClassId) (tm : List (ClassId × FieldType)) (hc : cl.1[ci]? = some (RX7, TX7, 42)) (p0 : Int32) (σ : MS) (r : Int32) (σ' : MS) (hf : f7_image p0 σ = some (r, σ')) : MMi l yX7_image (ws_ yX7_image cX7_image 3 (some .int)) r7_image D cl Z ci A d tm σ [.int p0] r σ' := by
  refine m_openi hz (by decide) (by exact Nat.le_of_ble_eq_true rfl) (fun p e s m args below meth c ls A0 Q X hI hl hret => ?_)
  have X : XC p s m args meth c cX7_image 3 RX7 D cl (mty d tm) A0 Z := X
  have hx := X.1
  have hb := X.2.1
  have hown := X.2.2.2.1
  have hts := X.2.2.2.2.1
  have L17 : ∀ (n : Nat) (x1 : Int32) (x2 : Int32) (σ : MS), f7_image_l17 n x1 x2 σ = some (r, σ') → ∀ (H : Heap) (locs : List Loc), XI D cl (mw ci A d σ) A0 s.heap H locs → ∀ (ls : Array Slot), lv_has ls 3 [(0, .ref (A 0)), (1, .int x1), (2, .int x2)] → W p l e r7_image s m args below meth c H locs 0 0 Q (F0 m 17 ls []) := by
    intro n17
    induction n17 with
    | zero => intro x1 x2 σ hf; cases hf
    | succ n17 ih17 =>
      intro x1 x2 σ hf H locs hI ls hl
      have hf : f7_image_b17 (f7_image_l17 n17) x1 x2 σ = some (r, σ') := hf
      unfold f7_image_b17 at hf
      refine lv_iload_n hx hb dX7_image_17 rfl (lv_at hl 2 rfl) ?_
      refine lv_bipush (v := 76) hx hb dX7_image_18 (by decide) ?_
      refine lv_icmp_ge (tgt := 46) hx hb dX7_image_20 (by decide) (fun c3 => ?_) (fun c3 => ?_)
      · have hf := o_pos hf c3
        refine lv_aload_n hx hb dX7_image_46 rfl (lv_at hl 0 rfl) ?_
        refine m_get (v := .ref (A 3)) X hI hc 3 (by decide) q2661 rfl dX7_image_47 ?_
        refine lv_iload_n hx hb dX7_image_50 rfl (lv_at hl 1 rfl) ?_
        refine lv_iconst (v := 1) hx hb dX7_image_51 (by decide) ?_
        obtain ⟨g4, hf⟩ := grd_some hf
        refine m_zast X hI 3 3 3 rfl rfl g4 rfl dX7_image_52 (fun H locs hI => ?_)
        obtain ⟨σ5, eσ5, hf⟩ := nxt_some hf
        rw [← eσ5] at hI
        clear eσ5
        refine lv_iconst (v := 0) hx hb dX7_image_53 (by decide) ?_
        exact hret hf hI dX7_image_54
      · have hf := o_neg hf c3
        refine lv_aload_n hx hb dX7_image_23 rfl (lv_at hl 0 rfl) ?_
        refine m_get (v := .ref (A 2)) X hI hc 2 (by decide) q2660 rfl dX7_image_24 ?_
        refine lv_bipush (v := 76) hx hb dX7_image_27 (by decide) ?_
        refine lv_iload_n hx hb dX7_image_29 rfl (lv_at hl 1 rfl) ?_
        refine lv_imul hx hb dX7_image_30 ?_
        refine lv_iload_n hx hb dX7_image_31 rfl (lv_at hl 2 rfl) ?_
        refine lv_iadd hx hb dX7_image_32 ?_
        refine lv_aload_n hx hb dX7_image_33 rfl (lv_at hl 0 rfl) ?_
        refine m_get (v := .ref (A 1)) X hI hc 1 (by decide) q2659 rfl dX7_image_34 ?_
        refine lv_iload_n hx hb dX7_image_37 rfl (lv_at hl 2 rfl) ?_
        obtain ⟨g6, hf⟩ := grd_some hf
        refine m_iald X hI 1 1 76 rfl rfl g6 dX7_image_38 ?_
        obtain ⟨g7, hf⟩ := grd_some hf
        refine m_iast X hI 2 2 228 rfl rfl g7 rfl dX7_image_39 (fun H locs hI => ?_)
        obtain ⟨σ8, eσ8, hf⟩ := nxt_some hf
        rw [← eσ8] at hI
        clear eσ8
        refine lv_iinc (v := x2 + 1) (lv' := [(2, .int (x2 + 1)), (0, .ref (A 0)), (1, .int x1)]) hx hb dX7_image_40 hl (k := 2) rfl rfl (by decide) rfl (fun ls hl => ?_)
        refine lv_goto (tgt := 17) hx hb dX7_image_43 (by decide) ?_
        exact ih17 x1 (x2 + 1) σ8 hf H locs hI ls (lv_sub hl [1, 2, 0] rfl)
  have hl : lv_has ls 3 [(0, .ref (A 0)), (1, .int p0)] := hl
  unfold f7_image at hf
  obtain ⟨H, eH⟩ : ∃ H, H = s.heap := ⟨_, rfl⟩
  obtain ⟨locs, eL⟩ : ∃ locs : List Loc, locs = [] := ⟨_, rfl⟩
  have hI : XI D cl (mw ci A d σ) A0 s.heap H locs := by rw [eH, eL]; exact hI
  rw [← eL]
  suffices h : W p l e r7_image s m args below meth c H locs 0 0 Q (F0 m 0 ls []) by rw [eH] at h; exact h
  clear eH eL
  refine lv_iload_n hx hb dX7_image_0 rfl (lv_at hl 1 rfl) ?_
  refine lv_i2l hx hb dX7_image_1 rfl ?_
  refine lv_lconst (v := 0) hx hb dX7_image_2 (by decide) ?_
  refine lv_ldc2 (v := 2) hx hb hown (hts _ q2789) dX7_image_3 ?_
  obtain ⟨r1, hr1, hf⟩ := bn1_some hf
  refine x_callSi (As := [.long p0.toInt64, .long 0, .long 2]) X hI (m7_in l p0.toInt64 0 2 r1 hr1) (cw7_in hts ⟨Nat.le_of_ble_eq_true rfl, Nat.le_of_ble_eq_true rfl⟩) rfl hl.1 (Nat.le_of_ble_eq_true rfl) rfl dX7_image_6 ⟨Nat.le_of_ble_eq_true rfl, Nat.le_of_ble_eq_true rfl⟩ (fun H locs hI => ?_)
  refine lv_if_ne (tgt := 15) hx hb dX7_image_9 (by decide) (fun c2 => ?_) (fun c2 => ?_)
  · have hf := o_neg hf c2
    refine lv_iconst (v := 0) hx hb dX7_image_15 (by decide) ?_
    refine lv_istore_n (lv' := [(2, .int 0), (0, .ref (A 0)), (1, .int p0)]) hx hb dX7_image_16 rfl hl (by decide) rfl (fun ls hl => ?_)
    exact L17 FU p0 0 σ hf H locs hI ls (lv_sub hl [1, 2, 0] rfl)
  · have hf := o_pos hf c2
    refine lv_bipush (v := -2) hx hb dX7_image_12 (by decide) ?_
    exact hret hf hI dX7_image_14
/-! back -/
def f7_back_b29 (K29 : Int32 → Int32 → MS → oI Int32) (x1 : Int32) (x2 : Int32) (σ : MS) : oI Int32 :=
  if 76 ≤ x2 then (some (0, σ)) else (grd (inB (((76 : Int32) * x1) + x2) 228) <|
  grd (inB x2 76) <|
  nxt (sA σ 1 x2.toNatClampNeg (gA σ 2 (((76 : Int32) * x1) + x2).toNatClampNeg)) fun σ8 =>
  K29 x1 (x2 + 1) σ8)
def f7_back_l29 : Nat → Int32 → Int32 → MS → oI Int32
  | 0 => fun _ _ _ => none
  | n + 1 => fun x1 x2 σ => f7_back_b29 (f7_back_l29 n) x1 x2 σ
def f7_back (p0 : Int32) (σ : MS) : oI Int32 :=
  bn1 (f7_in p0.toInt64 0 2) fun r1 =>
  if r1 = 0 then (some ((-2), σ)) else (grd (inB p0 3) <|
  if (gA σ 3 p0.toNatClampNeg) = 0 then (some ((-6), σ)) else (f7_back_l29 FU p0 0 σ))
abbrev r7_back : Room := { frames := 1, cells := 0, slots := 0, locals := 25 }
theorem m7_back (l : Launch) (D : va_G) (cl : vC2) (Z : (Nat → Prop) → State → Heap → Prop) (hz : ZK Z) (ci : Nat) (A : Nat → Nat) (d : Nat → ClassId) (tm : List (ClassId × FieldType)) (hc : cl.1[ci]? = some (RX7, TX7, 42)) (p0 : Int32) (σ : MS) (r : Int32) (σ' : MS) (hf : f7_back p0 σ = some (r, σ')) : MMi l yX7_back (ws_ yX7_back cX7_back 3 (some .int)) r7_back D cl Z ci A d tm σ [.int p0] r σ' := by
  refine m_openi hz (by decide) (by exact Nat.le_of_ble_eq_true rfl) (fun p e s m args below meth c ls A0 Q X hI hl hret => ?_)
  have X : XC p s m args meth c cX7_back 3 RX7 D cl (mty d tm) A0 Z := X
  have hx := X.1
  have hb := X.2.1
  have hown := X.2.2.2.1
  have hts := X.2.2.2.2.1
  have L29 : ∀ (n : Nat) (x1 : Int32) (x2 : Int32) (σ : MS), f7_back_l29 n x1 x2 σ = some (r, σ') → ∀ (H : Heap) (locs : List Loc), XI D cl (mw ci A d σ) A0 s.heap H locs → ∀ (ls : Array Slot), lv_has ls 3 [(0, .ref (A 0)), (1, .int x1), (2, .int x2)] → W p l e r7_back s m args below meth c H locs 0 0 Q (F0 m 29 ls []) := by
    intro n29
    induction n29 with
    | zero => intro x1 x2 σ hf; cases hf
    | succ n29 ih29 =>
      intro x1 x2 σ hf H locs hI ls hl
      have hf : f7_back_b29 (f7_back_l29 n29) x1 x2 σ = some (r, σ') := hf
      unfold f7_back_b29 at hf
      refine lv_iload_n hx hb dX7_back_29 rfl (lv_at hl 2 rfl) ?_
      refine lv_bipush (v := 76) hx hb dX7_back_30 (by decide) ?_
      refine lv_icmp_ge (tgt := 58) hx hb dX7_back_32 (by decide) (fun c5 => ?_) (fun c5 => ?_)
      · have hf := o_pos hf c5
        refine lv_iconst (v := 0) hx hb dX7_back_58 (by decide) ?_
        exact hret hf hI dX7_back_59
      · have hf := o_neg hf c5
        refine lv_aload_n hx hb dX7_back_35 rfl (lv_at hl 0 rfl) ?_
        refine m_get (v := .ref (A 1)) X hI hc 1 (by decide) q2659 rfl dX7_back_36 ?_
        refine lv_iload_n hx hb dX7_back_39 rfl (lv_at hl 2 rfl) ?_
        refine lv_aload_n hx hb dX7_back_40 rfl (lv_at hl 0 rfl) ?_
        refine m_get (v := .ref (A 2)) X hI hc 2 (by decide) q2660 rfl dX7_back_41 ?_
        refine lv_bipush (v := 76) hx hb dX7_back_44 (by decide) ?_
        refine lv_iload_n hx hb dX7_back_46 rfl (lv_at hl 1 rfl) ?_
        refine lv_imul hx hb dX7_back_47 ?_
        refine lv_iload_n hx hb dX7_back_48 rfl (lv_at hl 2 rfl) ?_
        refine lv_iadd hx hb dX7_back_49 ?_
        obtain ⟨g6, hf⟩ := grd_some hf
        refine m_iald X hI 2 2 228 rfl rfl g6 dX7_back_50 ?_
        obtain ⟨g7, hf⟩ := grd_some hf
        refine m_iast X hI 1 1 76 rfl rfl g7 rfl dX7_back_51 (fun H locs hI => ?_)
        obtain ⟨σ8, eσ8, hf⟩ := nxt_some hf
        rw [← eσ8] at hI
        clear eσ8
        refine lv_iinc (v := x2 + 1) (lv' := [(2, .int (x2 + 1)), (0, .ref (A 0)), (1, .int x1)]) hx hb dX7_back_52 hl (k := 2) rfl rfl (by decide) rfl (fun ls hl => ?_)
        refine lv_goto (tgt := 29) hx hb dX7_back_55 (by decide) ?_
        exact ih29 x1 (x2 + 1) σ8 hf H locs hI ls (lv_sub hl [1, 2, 0] rfl)
  have hl : lv_has ls 3 [(0, .ref (A 0)), (1, .int p0)] := hl
  unfold f7_back at hf
  obtain ⟨H, eH⟩ : ∃ H, H = s.heap := ⟨_, rfl⟩
  obtain ⟨locs, eL⟩ : ∃ locs : List Loc, locs = [] := ⟨_, rfl⟩
  have hI : XI D cl (mw ci A d σ) A0 s.heap H locs := by rw [eH, eL]; exact hI
  rw [← eL]
  suffices h : W p l e r7_back s m args below meth c H locs 0 0 Q (F0 m 0 ls []) by rw [eH] at h; exact h
  clear eH eL
  refine lv_iload_n hx hb dX7_back_0 rfl (lv_at hl 1 rfl) ?_
  refine lv_i2l hx hb dX7_back_1 rfl ?_
  refine lv_lconst (v := 0) hx hb dX7_back_2 (by decide) ?_
  refine lv_ldc2 (v := 2) hx hb hown (hts _ q2789) dX7_back_3 ?_
  obtain ⟨r1, hr1, hf⟩ := bn1_some hf
  refine x_callSi (As := [.long p0.toInt64, .long 0, .long 2]) X hI (m7_in l p0.toInt64 0 2 r1 hr1) (cw7_in hts ⟨Nat.le_of_ble_eq_true rfl, Nat.le_of_ble_eq_true rfl⟩) rfl hl.1 (Nat.le_of_ble_eq_true rfl) rfl dX7_back_6 ⟨Nat.le_of_ble_eq_true rfl, Nat.le_of_ble_eq_true rfl⟩ (fun H locs hI => ?_)
  refine lv_if_ne (tgt := 15) hx hb dX7_back_9 (by decide) (fun c2 => ?_) (fun c2 => ?_)
  · have hf := o_neg hf c2
    refine lv_aload_n hx hb dX7_back_15 rfl (lv_at hl 0 rfl) ?_
    refine m_get (v := .ref (A 3)) X hI hc 3 (by decide) q2661 rfl dX7_back_16 ?_
    refine lv_iload_n hx hb dX7_back_19 rfl (lv_at hl 1 rfl) ?_
    obtain ⟨g3, hf⟩ := grd_some hf
    refine m_zald X hI 3 3 3 rfl rfl g3 dX7_back_20 ?_
    refine lv_if_ne (tgt := 27) hx hb dX7_back_21 (by decide) (fun c4 => ?_) (fun c4 => ?_)
    · have hf := o_neg hf c4
      refine lv_iconst (v := 0) hx hb dX7_back_27 (by decide) ?_
      refine lv_istore_n (lv' := [(2, .int 0), (0, .ref (A 0)), (1, .int p0)]) hx hb dX7_back_28 rfl hl (by decide) rfl (fun ls hl => ?_)
      exact L29 FU p0 0 σ hf H locs hI ls (lv_sub hl [1, 2, 0] rfl)
    · have hf := o_pos hf c4
      refine lv_bipush (v := -6) hx hb dX7_back_24 (by decide) ?_
      exact hret hf hI dX7_back_26
  · have hf := o_pos hf c2
    refine lv_bipush (v := -2) hx hb dX7_back_12 (by decide) ?_
    exact hret hf hI dX7_back_14
/-! feed -/
def f7_feed_b55 (K55 : Int32 → MS → oI Int32) (x6 : Int32) (σ : MS) : oI Int32 :=
  if 20 ≤ x6 then (nxt (sI σ 5 ((gI σ 5) + 20)) fun σ8 =>
  some (gI σ8 5, σ8)) else (grd (inB (x6 / 4) 5) <|
  grd (inB ((gI σ 5) + x6) 400) <|
  nxt (sA σ 4 ((gI σ 5) + x6).toNatClampNeg (vp_nar .byte (((gA σ 6 (x6 / 4).toNatClampNeg) >>> (((24 : Int32) - ((8 : Int32) * (x6 - x6 / 4 * 4))) &&& 31)).toInt8.toInt32))) fun σ11 =>
  K55 (x6 + 1) σ11)
def f7_feed_l55 : Nat → Int32 → MS → oI Int32
  | 0 => fun _ _ => none
  | n + 1 => fun x6 σ => f7_feed_b55 (f7_feed_l55 n) x6 σ
def f7_feed (p0 : Int32) (p1 : Int32) (p2 : Int32) (p3 : Int32) (p4 : Int32) (σ : MS) : oI Int32 :=
  if ((gI σ 5) + 20) ≤ 400 then (nxt (sA σ 6 0 p0) fun σ2 =>
  nxt (sA σ2 6 1 p1) fun σ3 =>
  nxt (sA σ3 6 2 p2) fun σ4 =>
  nxt (sA σ4 6 3 p3) fun σ5 =>
  nxt (sA σ5 6 4 p4) fun σ6 =>
  f7_feed_l55 FU 0 σ6) else (some ((-1), σ))
abbrev r7_feed : Room := { frames := 0, cells := 0, slots := 0, locals := 0 }
theorem m7_feed (l : Launch) (D : va_G) (cl : vC2) (Z : (Nat → Prop) → State → Heap → Prop) (hz : ZK Z) (ci : Nat) (A : Nat → Nat) (d : Nat → ClassId) (tm : List (ClassId × FieldType)) (hc : cl.1[ci]? = some (RX7, TX7, 42)) (p0 : Int32) (p1 : Int32) (p2 : Int32) (p3 : Int32) (p4 : Int32) (σ : MS) (r : Int32) (σ' : MS) (hf : f7_feed p0 p1 p2 p3 p4 σ = some (r, σ')) : MMi l yX7_feed (ws_ yX7_feed cX7_feed 7 (some .int)) r7_feed D cl Z ci A d tm σ [.int p0, .int p1, .int p2, .int p3, .int p4] r σ' := by
  refine m_openi hz (by decide) (by exact Nat.le_of_ble_eq_true rfl) (fun p e s m args below meth c ls A0 Q X hI hl hret => ?_)
  have X : XC p s m args meth c cX7_feed 7 RX7 D cl (mty d tm) A0 Z := X
  have hx := X.1
  have hb := X.2.1
  have hown := X.2.2.2.1
  have hts := X.2.2.2.2.1
  have L55 : ∀ (n : Nat) (x6 : Int32) (σ : MS), f7_feed_l55 n x6 σ = some (r, σ') → ∀ (H : Heap) (locs : List Loc), XI D cl (mw ci A d σ) A0 s.heap H locs → ∀ (ls : Array Slot), lv_has ls 7 [(0, .ref (A 0)), (6, .int x6)] → W p l e r7_feed s m args below meth c H locs 0 0 Q (F0 m 55 ls []) := by
    intro n55
    induction n55 with
    | zero => intro x6 σ hf; cases hf
    | succ n55 ih55 =>
      intro x6 σ hf H locs hI ls hl
      have hf : f7_feed_b55 (f7_feed_l55 n55) x6 σ = some (r, σ') := hf
      unfold f7_feed_b55 at hf
      refine lv_iload hx hb dX7_feed_55 (lv_at hl 1 rfl) ?_
      refine lv_bipush (v := 20) hx hb dX7_feed_57 (by decide) ?_
      refine lv_icmp_ge (tgt := 101) hx hb dX7_feed_59 (by decide) (fun c7 => ?_) (fun c7 => ?_)
      · have hf := o_pos hf c7
        refine lv_aload_n hx hb dX7_feed_101 rfl (lv_at hl 0 rfl) ?_
        refine lv_dup hx hb dX7_feed_102 rfl ?_
        refine m_get (v := .int (gI σ 5)) X hI hc 5 (by decide) q2663 rfl dX7_feed_103 ?_
        refine lv_bipush (v := 20) hx hb dX7_feed_106 (by decide) ?_
        refine lv_iadd hx hb dX7_feed_108 ?_
        refine m_puti X hI hc 5 (by decide) q2663 rfl rfl rfl dX7_feed_109 (fun H locs hI => ?_)
        obtain ⟨σ8, eσ8, hf⟩ := nxt_some hf
        rw [← eσ8] at hI
        clear eσ8
        refine lv_aload_n hx hb dX7_feed_112 rfl (lv_at hl 0 rfl) ?_
        refine m_get (v := .int (gI σ8 5)) X hI hc 5 (by decide) q2663 rfl dX7_feed_113 ?_
        exact hret hf hI dX7_feed_116
      · have hf := o_neg hf c7
        refine lv_aload_n hx hb dX7_feed_62 rfl (lv_at hl 0 rfl) ?_
        refine m_get (v := .ref (A 4)) X hI hc 4 (by decide) q2662 rfl dX7_feed_63 ?_
        refine lv_aload_n hx hb dX7_feed_66 rfl (lv_at hl 0 rfl) ?_
        refine m_get (v := .int (gI σ 5)) X hI hc 5 (by decide) q2663 rfl dX7_feed_67 ?_
        refine lv_iload hx hb dX7_feed_70 (lv_at hl 1 rfl) ?_
        refine lv_iadd hx hb dX7_feed_72 ?_
        refine lv_aload_n hx hb dX7_feed_73 rfl (lv_at hl 0 rfl) ?_
        refine m_get (v := .ref (A 6)) X hI hc 6 (by decide) q2664 rfl dX7_feed_74 ?_
        refine lv_iload hx hb dX7_feed_77 (lv_at hl 1 rfl) ?_
        refine lv_iconst (v := 4) hx hb dX7_feed_79 (by decide) ?_
        refine lv_idiv hx hb dX7_feed_80 (by decide) ?_
        obtain ⟨g9, hf⟩ := grd_some hf
        refine m_iald X hI 6 5 5 rfl rfl g9 dX7_feed_81 ?_
        refine lv_bipush (v := 24) hx hb dX7_feed_82 (by decide) ?_
        refine lv_bipush (v := 8) hx hb dX7_feed_84 (by decide) ?_
        refine lv_iload hx hb dX7_feed_86 (lv_at hl 1 rfl) ?_
        refine lv_iconst (v := 4) hx hb dX7_feed_88 (by decide) ?_
        refine lv_irem hx hb dX7_feed_89 (by decide) ?_
        refine lv_imul hx hb dX7_feed_90 ?_
        refine lv_isub hx hb dX7_feed_91 ?_
        refine lv_ishr hx hb dX7_feed_92 ?_
        refine lv_i2b hx hb dX7_feed_93 rfl ?_
        obtain ⟨g10, hf⟩ := grd_some hf
        refine m_bast X hI 4 4 400 rfl rfl g10 rfl dX7_feed_94 (fun H locs hI => ?_)
        obtain ⟨σ11, eσ11, hf⟩ := nxt_some hf
        rw [← eσ11] at hI
        clear eσ11
        refine lv_iinc (v := x6 + 1) (lv' := [(6, .int (x6 + 1)), (0, .ref (A 0))]) hx hb dX7_feed_95 hl (k := 1) rfl rfl (by decide) rfl (fun ls hl => ?_)
        refine lv_goto (tgt := 55) hx hb dX7_feed_98 (by decide) ?_
        exact ih55 (x6 + 1) σ11 hf H locs hI ls (lv_sub hl [1, 0] rfl)
  have hl : lv_has ls 7 [(0, .ref (A 0)), (1, .int p0), (2, .int p1), (3, .int p2), (4, .int p3), (5, .int p4)] := hl
  unfold f7_feed at hf
  obtain ⟨H, eH⟩ : ∃ H, H = s.heap := ⟨_, rfl⟩
  obtain ⟨locs, eL⟩ : ∃ locs : List Loc, locs = [] := ⟨_, rfl⟩
  have hI : XI D cl (mw ci A d σ) A0 s.heap H locs := by rw [eH, eL]; exact hI
  rw [← eL]
  suffices h : W p l e r7_feed s m args below meth c H locs 0 0 Q (F0 m 0 ls []) by rw [eH] at h; exact h
  clear eH eL
  refine lv_aload_n hx hb dX7_feed_0 rfl (lv_at hl 0 rfl) ?_
  refine m_get (v := .int (gI σ 5)) X hI hc 5 (by decide) q2663 rfl dX7_feed_1 ?_
  refine lv_bipush (v := 20) hx hb dX7_feed_4 (by decide) ?_
  refine lv_iadd hx hb dX7_feed_6 ?_
  refine lv_sipush (v := 400) hx hb dX7_feed_7 (by decide) ?_
  refine lv_icmp_le (tgt := 15) hx hb dX7_feed_10 (by decide) (fun c1 => ?_) (fun c1 => ?_)
  · have hf := o_pos hf c1
    refine lv_aload_n hx hb dX7_feed_15 rfl (lv_at hl 0 rfl) ?_
    refine m_get (v := .ref (A 6)) X hI hc 6 (by decide) q2664 rfl dX7_feed_16 ?_
    refine lv_iconst (v := 0) hx hb dX7_feed_19 (by decide) ?_
    refine lv_iload_n hx hb dX7_feed_20 rfl (lv_at hl 1 rfl) ?_
    refine m_iast (k := 0) X hI 6 5 5 rfl rfl rfl rfl dX7_feed_21 (fun H locs hI => ?_)
    obtain ⟨σ2, eσ2, hf⟩ := nxt_some hf
    rw [← eσ2] at hI
    clear eσ2
    refine lv_aload_n hx hb dX7_feed_22 rfl (lv_at hl 0 rfl) ?_
    refine m_get (v := .ref (A 6)) X hI hc 6 (by decide) q2664 rfl dX7_feed_23 ?_
    refine lv_iconst (v := 1) hx hb dX7_feed_26 (by decide) ?_
    refine lv_iload_n hx hb dX7_feed_27 rfl (lv_at hl 2 rfl) ?_
    refine m_iast (k := 1) X hI 6 5 5 rfl rfl rfl rfl dX7_feed_28 (fun H locs hI => ?_)
    obtain ⟨σ3, eσ3, hf⟩ := nxt_some hf
    rw [← eσ3] at hI
    clear eσ3
    refine lv_aload_n hx hb dX7_feed_29 rfl (lv_at hl 0 rfl) ?_
    refine m_get (v := .ref (A 6)) X hI hc 6 (by decide) q2664 rfl dX7_feed_30 ?_
    refine lv_iconst (v := 2) hx hb dX7_feed_33 (by decide) ?_
    refine lv_iload_n hx hb dX7_feed_34 rfl (lv_at hl 3 rfl) ?_
    refine m_iast (k := 2) X hI 6 5 5 rfl rfl rfl rfl dX7_feed_35 (fun H locs hI => ?_)
    obtain ⟨σ4, eσ4, hf⟩ := nxt_some hf
    rw [← eσ4] at hI
    clear eσ4
    refine lv_aload_n hx hb dX7_feed_36 rfl (lv_at hl 0 rfl) ?_
    refine m_get (v := .ref (A 6)) X hI hc 6 (by decide) q2664 rfl dX7_feed_37 ?_
    refine lv_iconst (v := 3) hx hb dX7_feed_40 (by decide) ?_
    refine lv_iload hx hb dX7_feed_41 (lv_at hl 4 rfl) ?_
    refine m_iast (k := 3) X hI 6 5 5 rfl rfl rfl rfl dX7_feed_43 (fun H locs hI => ?_)
    obtain ⟨σ5, eσ5, hf⟩ := nxt_some hf
    rw [← eσ5] at hI
    clear eσ5
    refine lv_aload_n hx hb dX7_feed_44 rfl (lv_at hl 0 rfl) ?_
    refine m_get (v := .ref (A 6)) X hI hc 6 (by decide) q2664 rfl dX7_feed_45 ?_
    refine lv_iconst (v := 4) hx hb dX7_feed_48 (by decide) ?_
    refine lv_iload hx hb dX7_feed_49 (lv_at hl 5 rfl) ?_
    refine m_iast (k := 4) X hI 6 5 5 rfl rfl rfl rfl dX7_feed_51 (fun H locs hI => ?_)
    obtain ⟨σ6, eσ6, hf⟩ := nxt_some hf
    rw [← eσ6] at hI
    clear eσ6
    refine lv_iconst (v := 0) hx hb dX7_feed_52 (by decide) ?_
    refine lv_istore (lv' := [(6, .int 0), (0, .ref (A 0)), (1, .int p0), (2, .int p1), (3, .int p2), (4, .int p3), (5, .int p4)]) hx hb dX7_feed_53 hl (by decide) rfl (fun ls hl => ?_)
    exact L55 FU 0 σ6 hf H locs hI ls (lv_sub hl [1, 0] rfl)
  · have hf := o_neg hf c1
    refine lv_iconst (v := -1) hx hb dX7_feed_13 (by decide) ?_
    exact hret hf hI dX7_feed_14
/-! end -/
def f7_end (p0 : Int32) (σ : MS) : oI Int32 :=
  bn1 (f7_in p0.toInt64 0 ((gI σ 5).toInt64)) fun r1 =>
  if r1 = 0 then (some ((-1), σ)) else (nxt (sI σ 5 p0) fun σ3 =>
  some (p0, σ3))
abbrev r7_end : Room := { frames := 1, cells := 0, slots := 0, locals := 25 }
theorem m7_end (l : Launch) (D : va_G) (cl : vC2) (Z : (Nat → Prop) → State → Heap → Prop) (hz : ZK Z) (ci : Nat) (A : Nat → Nat) (d : Nat → ClassId) (tm : List (ClassId × FieldType)) (hc : cl.1[ci]? = some (RX7, TX7, 42)) (p0 : Int32) (σ : MS) (r : Int32) (σ' : MS) (hf : f7_end p0 σ = some (r, σ')) : MMi l yX7_end (ws_ yX7_end cX7_end 2 (some .int)) r7_end D cl Z ci A d tm σ [.int p0] r σ' := by
  refine m_openi hz (by decide) (by exact Nat.le_of_ble_eq_true rfl) (fun p e s m args below meth c ls A0 Q X hI hl hret => ?_)
  have X : XC p s m args meth c cX7_end 2 RX7 D cl (mty d tm) A0 Z := X
  have hx := X.1
  have hb := X.2.1
  have hown := X.2.2.2.1
  have hts := X.2.2.2.2.1
  have hl : lv_has ls 2 [(0, .ref (A 0)), (1, .int p0)] := hl
  unfold f7_end at hf
  obtain ⟨H, eH⟩ : ∃ H, H = s.heap := ⟨_, rfl⟩
  obtain ⟨locs, eL⟩ : ∃ locs : List Loc, locs = [] := ⟨_, rfl⟩
  have hI : XI D cl (mw ci A d σ) A0 s.heap H locs := by rw [eH, eL]; exact hI
  rw [← eL]
  suffices h : W p l e r7_end s m args below meth c H locs 0 0 Q (F0 m 0 ls []) by rw [eH] at h; exact h
  clear eH eL
  refine lv_iload_n hx hb dX7_end_0 rfl (lv_at hl 1 rfl) ?_
  refine lv_i2l hx hb dX7_end_1 rfl ?_
  refine lv_lconst (v := 0) hx hb dX7_end_2 (by decide) ?_
  refine lv_aload_n hx hb dX7_end_3 rfl (lv_at hl 0 rfl) ?_
  refine m_get (v := .int (gI σ 5)) X hI hc 5 (by decide) q2663 rfl dX7_end_4 ?_
  refine lv_i2l hx hb dX7_end_7 rfl ?_
  obtain ⟨r1, hr1, hf⟩ := bn1_some hf
  refine x_callSi (As := [.long p0.toInt64, .long 0, .long ((gI σ 5).toInt64)]) X hI (m7_in l p0.toInt64 0 ((gI σ 5).toInt64) r1 hr1) (cw7_in hts ⟨Nat.le_of_ble_eq_true rfl, Nat.le_of_ble_eq_true rfl⟩) rfl hl.1 (Nat.le_of_ble_eq_true rfl) rfl dX7_end_8 ⟨Nat.le_of_ble_eq_true rfl, Nat.le_of_ble_eq_true rfl⟩ (fun H locs hI => ?_)
  refine lv_if_ne (tgt := 16) hx hb dX7_end_11 (by decide) (fun c2 => ?_) (fun c2 => ?_)
  · have hf := o_neg hf c2
    refine lv_aload_n hx hb dX7_end_16 rfl (lv_at hl 0 rfl) ?_
    refine lv_iload_n hx hb dX7_end_17 rfl (lv_at hl 1 rfl) ?_
    refine m_puti X hI hc 5 (by decide) q2663 rfl rfl rfl dX7_end_18 (fun H locs hI => ?_)
    obtain ⟨σ3, eσ3, hf⟩ := nxt_some hf
    rw [← eσ3] at hI
    clear eσ3
    refine lv_iload_n hx hb dX7_end_21 rfl (lv_at hl 1 rfl) ?_
    exact hret hf hI dX7_end_22
  · have hf := o_pos hf c2
    refine lv_iconst (v := -1) hx hb dX7_end_14 (by decide) ?_
    exact hret hf hI dX7_end_15
/-! fault -/
def f7_fault (p0 : Int32) (σ : MS) : oI Int32 :=
  if p0 = 0 then (some (gI σ 12, σ)) else (if p0 = 1 then (some (gI σ 13, σ)) else (some ((-1), σ)))
abbrev r7_fault : Room := { frames := 0, cells := 0, slots := 0, locals := 0 }
theorem m7_fault (l : Launch) (D : va_G) (cl : vC2) (Z : (Nat → Prop) → State → Heap → Prop) (hz : ZK Z) (ci : Nat) (A : Nat → Nat) (d : Nat → ClassId) (tm : List (ClassId × FieldType)) (hc : cl.1[ci]? = some (RX7, TX7, 42)) (p0 : Int32) (σ : MS) (r : Int32) (σ' : MS) (hf : f7_fault p0 σ = some (r, σ')) : MMi l yX7_fault (ws_ yX7_fault cX7_fault 2 (some .int)) r7_fault D cl Z ci A d tm σ [.int p0] r σ' := by
  refine m_openi hz (by decide) (by exact Nat.le_of_ble_eq_true rfl) (fun p e s m args below meth c ls A0 Q X hI hl hret => ?_)
  have X : XC p s m args meth c cX7_fault 2 RX7 D cl (mty d tm) A0 Z := X
  have hx := X.1
  have hb := X.2.1
  have hown := X.2.2.2.1
  have hts := X.2.2.2.2.1
  have hl : lv_has ls 2 [(0, .ref (A 0)), (1, .int p0)] := hl
  unfold f7_fault at hf
  obtain ⟨H, eH⟩ : ∃ H, H = s.heap := ⟨_, rfl⟩
  obtain ⟨locs, eL⟩ : ∃ locs : List Loc, locs = [] := ⟨_, rfl⟩
  have hI : XI D cl (mw ci A d σ) A0 s.heap H locs := by rw [eH, eL]; exact hI
  rw [← eL]
  suffices h : W p l e r7_fault s m args below meth c H locs 0 0 Q (F0 m 0 ls []) by rw [eH] at h; exact h
  clear eH eL
  refine lv_iload_n hx hb dX7_fault_0 rfl (lv_at hl 1 rfl) ?_
  refine lv_if_ne (tgt := 11) hx hb dX7_fault_1 (by decide) (fun c1 => ?_) (fun c1 => ?_)
  · have hf := o_neg hf c1
    refine lv_iload_n hx hb dX7_fault_11 rfl (lv_at hl 1 rfl) ?_
    refine lv_iconst (v := 1) hx hb dX7_fault_12 (by decide) ?_
    refine lv_icmp_ne (tgt := 23) hx hb dX7_fault_13 (by decide) (fun c2 => ?_) (fun c2 => ?_)
    · have hf := o_neg hf c2
      refine lv_iconst (v := -1) hx hb dX7_fault_23 (by decide) ?_
      exact hret hf hI dX7_fault_24
    · have hf := o_pos hf c2
      refine lv_aload_n hx hb dX7_fault_16 rfl (lv_at hl 0 rfl) ?_
      refine m_get (v := .int (gI σ 13)) X hI hc 13 (by decide) q2671 rfl dX7_fault_17 ?_
      refine lv_goto (tgt := 24) hx hb dX7_fault_20 (by decide) ?_
      exact hret hf hI dX7_fault_24
  · have hf := o_pos hf c1
    refine lv_aload_n hx hb dX7_fault_4 rfl (lv_at hl 0 rfl) ?_
    refine m_get (v := .int (gI σ 12)) X hI hc 12 (by decide) q2670 rfl dX7_fault_5 ?_
    refine lv_goto (tgt := 24) hx hb dX7_fault_8 (by decide) ?_
    exact hret hf hI dX7_fault_24
/-! see -/
def f7_see (p0 : Int32) (σ : MS) : oI Int32 :=
  if (gI σ 7) ≤ p0 then (some ((-1), σ)) else (grd (inB p0 400) <|
  some ((gA σ 4 p0.toNatClampNeg) &&& 255, σ))
abbrev r7_see : Room := { frames := 0, cells := 0, slots := 0, locals := 0 }
theorem cw7_see {R : Room} {s : State} {args : Array Value} (ht : ∀ w ∈ lw_all, w.before args s = true) (hR : r7_see.frames + 1 ≤ R.frames ∧ 8 + (2 + 11) + r7_see.locals ≤ R.locals) : CallW R s args RX7 RX7 108 yX7_see cX7_see 2 (some .int) (ws_ yX7_see cX7_see 2 (some .int)) r7_see 0 0 1 :=
  cwV 1 ht (lw_V q2817 q2819 qs92 q178 q2820) rfl rfl rfl (by decide +kernel) hR
theorem m7_see (l : Launch) (D : va_G) (cl : vC2) (Z : (Nat → Prop) → State → Heap → Prop) (hz : ZK Z) (ci : Nat) (A : Nat → Nat) (d : Nat → ClassId) (tm : List (ClassId × FieldType)) (hc : cl.1[ci]? = some (RX7, TX7, 42)) (p0 : Int32) (σ : MS) (r : Int32) (σ' : MS) (hf : f7_see p0 σ = some (r, σ')) : MMi l yX7_see (ws_ yX7_see cX7_see 2 (some .int)) r7_see D cl Z ci A d tm σ [.int p0] r σ' := by
  refine m_openi hz (by decide) (by exact Nat.le_of_ble_eq_true rfl) (fun p e s m args below meth c ls A0 Q X hI hl hret => ?_)
  have X : XC p s m args meth c cX7_see 2 RX7 D cl (mty d tm) A0 Z := X
  have hx := X.1
  have hb := X.2.1
  have hown := X.2.2.2.1
  have hts := X.2.2.2.2.1
  have hl : lv_has ls 2 [(0, .ref (A 0)), (1, .int p0)] := hl
  unfold f7_see at hf
  obtain ⟨H, eH⟩ : ∃ H, H = s.heap := ⟨_, rfl⟩
  obtain ⟨locs, eL⟩ : ∃ locs : List Loc, locs = [] := ⟨_, rfl⟩
  have hI : XI D cl (mw ci A d σ) A0 s.heap H locs := by rw [eH, eL]; exact hI
  rw [← eL]
  suffices h : W p l e r7_see s m args below meth c H locs 0 0 Q (F0 m 0 ls []) by rw [eH] at h; exact h
  clear eH eL
  refine lv_iload_n hx hb dX7_see_0 rfl (lv_at hl 1 rfl) ?_
  refine lv_aload_n hx hb dX7_see_1 rfl (lv_at hl 0 rfl) ?_
  refine m_get (v := .int (gI σ 7)) X hI hc 7 (by decide) q2665 rfl dX7_see_2 ?_
  refine lv_icmp_ge (tgt := 21) hx hb dX7_see_5 (by decide) (fun c1 => ?_) (fun c1 => ?_)
  · have hf := o_pos hf c1
    refine lv_iconst (v := -1) hx hb dX7_see_21 (by decide) ?_
    exact hret hf hI dX7_see_22
  · have hf := o_neg hf c1
    refine lv_aload_n hx hb dX7_see_8 rfl (lv_at hl 0 rfl) ?_
    refine m_get (v := .ref (A 4)) X hI hc 4 (by decide) q2662 rfl dX7_see_9 ?_
    refine lv_iload_n hx hb dX7_see_12 rfl (lv_at hl 1 rfl) ?_
    obtain ⟨g2, hf⟩ := grd_some hf
    refine m_bald X hI 4 4 400 rfl rfl g2 dX7_see_13 ?_
    refine lv_sipush (v := 255) hx hb dX7_see_14 (by decide) ?_
    refine lv_iand hx hb dX7_see_17 ?_
    refine lv_goto (tgt := 22) hx hb dX7_see_18 (by decide) ?_
    exact hret hf hI dX7_see_22
/-! advance -/
def f7_advance_b26 (K0 : MS → Option MS) (σ : MS) : Option MS :=
  nxt (sI σ 8 ((gI σ 8) + 1)) fun σ18 =>
  K0 σ18
def f7_advance_b226 (z1 : Int32) (σ : MS) : Option MS :=
  nxt (sI σ 10 z1) fun σ19 =>
  nxt (sI σ19 8 ((gI σ19 8) + 1)) fun σ20 =>
  some σ20
def f7_advance_b144 (K144 : MS → Option MS) (σ : MS) : Option MS :=
  bnd (f7_see (gI σ 8) σ) fun r22 σ21 =>
  bn1 (f7_in r22.toInt64 48 57) fun r23 =>
  if r23 = 0 then (nxt (sI σ21 10 2) fun σ25 =>
  some σ25) else (bnd (f7_see (gI σ21 8) σ21) fun r27 σ26 =>
  nxt (sI σ26 11 (if ((((10 : Int32) * (gI σ21 11)) + r27) - 48) < 99999 then ((((10 : Int32) * (gI σ21 11)) + r27) - 48) else (99999 : Int32))) fun σ28 =>
  nxt (sI σ28 8 ((gI σ28 8) + 1)) fun σ29 =>
  K144 σ29)
def f7_advance_l144 : Nat → MS → Option MS
  | 0 => fun _ => none
  | n + 1 => fun σ => f7_advance_b144 (f7_advance_l144 n) σ
def f7_advance_b83 (K83 : MS → Option MS) (σ : MS) : Option MS :=
  bnd (f7_see (gI σ 8) σ) fun r31 σ30 =>
  bn1 (f7_in r31.toInt64 97 122) fun r32 =>
  if r32 = 0 then (nxt (sI σ30 10 1) fun σ34 =>
  some σ34) else (nxt (sI σ30 8 ((gI σ30 8) + 1)) fun σ35 =>
  K83 σ35)
def f7_advance_l83 : Nat → MS → Option MS
  | 0 => fun _ => none
  | n + 1 => fun σ => f7_advance_b83 (f7_advance_l83 n) σ
def f7_advance_b0 (K0 : MS → Option MS) (σ : MS) : Option MS :=
  bnd (f7_see (gI σ 8) σ) fun r2 σ1 =>
  if r2 = 32 then (f7_advance_b26 K0 σ1) else (bnd (f7_see (gI σ1 8) σ1) fun r5 σ4 =>
  if r5 = 10 then (f7_advance_b26 K0 σ4) else (nxt (sI σ4 9 (gI σ4 8)) fun σ7 =>
  bnd (f7_see (gI σ7 8) σ7) fun r9 σ8 =>
  if r9 = (-1) then (nxt (sI σ8 10 0) fun σ17 =>
  some σ17) else (bn1 (f7_in r9.toInt64 97 122) fun r11 =>
  if r11 = 0 then (bn1 (f7_in r9.toInt64 48 57) fun r13 =>
  if r13 = 0 then (if r9 = 59 then (f7_advance_b226 3 σ8) else (f7_advance_b226 4 σ8)) else (nxt (sI σ8 11 0) fun σ16 =>
  f7_advance_l144 FU σ16)) else (f7_advance_l83 FU σ8))))
def f7_advance_l0 : Nat → MS → Option MS
  | 0 => fun _ => none
  | n + 1 => fun σ => f7_advance_b0 (f7_advance_l0 n) σ
def f7_advance (σ : MS) : Option MS :=
  f7_advance_l0 FU σ
abbrev r7_advance : Room := { frames := 1, cells := 0, slots := 0, locals := 25 }
theorem cw7_advance {R : Room} {s : State} {args : Array Value} (ht : ∀ w ∈ lw_all, w.before args s = true) (hR : r7_advance.frames + 1 ≤ R.frames ∧ 8 + (2 + 11) + r7_advance.locals ≤ R.locals) : CallW R s args RX7 RX7 155 yX7_advance cX7_advance 2 none (ws_ yX7_advance cX7_advance 2 none) r7_advance 0 0 0 :=
  cwV 0 ht (lw_V q2813 q2815 qs91 q178 q2816) rfl rfl rfl (by decide +kernel) hR
theorem m7_advance (l : Launch) (D : va_G) (cl : vC2) (Z : (Nat → Prop) → State → Heap → Prop) (hz : ZK Z) (ci : Nat) (A : Nat → Nat) (d : Nat → ClassId) (tm : List (ClassId × FieldType)) (hc : cl.1[ci]? = some (RX7, TX7, 42)) (σ : MS) (σ' : MS) (hf : f7_advance σ = some σ') : MMv l yX7_advance (ws_ yX7_advance cX7_advance 2 none) r7_advance D cl Z ci A d tm σ [] σ' := by
  refine m_openv hz (by decide) (by exact Nat.le_of_ble_eq_true rfl) (fun p e s m args below meth c ls A0 Q X hI hl hret => ?_)
  have X : XC p s m args meth c cX7_advance 2 RX7 D cl (mty d tm) A0 Z := X
  have hx := X.1
  have hb := X.2.1
  have hown := X.2.2.2.1
  have hts := X.2.2.2.2.1
  have J226 : ∀ (z1 : Int32) (σ : MS), f7_advance_b226 z1 σ = some σ' → ∀ (H : Heap) (locs : List Loc), XI D cl (mw ci A d σ) A0 s.heap H locs → ∀ (ls : Array Slot), lv_has ls 2 [(0, .ref (A 0))] → W p l e r7_advance s m args below meth c H locs 0 0 Q (F0 m 226 ls [.int z1, .ref (A 0)]) := by
    intro z1 σ hf H locs hI ls hl
    unfold f7_advance_b226 at hf
    refine m_puti X hI hc 10 (by decide) q2668 rfl rfl rfl dX7_advance_226 (fun H locs hI => ?_)
    obtain ⟨σ19, eσ19, hf⟩ := nxt_some hf
    rw [← eσ19] at hI
    clear eσ19
    refine lv_aload_n hx hb dX7_advance_229 rfl (lv_at hl 0 rfl) ?_
    refine lv_dup hx hb dX7_advance_230 rfl ?_
    refine m_get (v := .int (gI σ19 8)) X hI hc 8 (by decide) q2666 rfl dX7_advance_231 ?_
    refine lv_iconst (v := 1) hx hb dX7_advance_234 (by decide) ?_
    refine lv_iadd hx hb dX7_advance_235 ?_
    refine m_puti X hI hc 8 (by decide) q2666 rfl rfl rfl dX7_advance_236 (fun H locs hI => ?_)
    obtain ⟨σ20, eσ20, hf⟩ := nxt_some hf
    rw [← eσ20] at hI
    clear eσ20
    exact hret hf hI dX7_advance_239
  have L144 : ∀ (n : Nat) (σ : MS), f7_advance_l144 n  σ = some σ' → ∀ (H : Heap) (locs : List Loc), XI D cl (mw ci A d σ) A0 s.heap H locs → ∀ (ls : Array Slot), lv_has ls 2 [(0, .ref (A 0))] → W p l e r7_advance s m args below meth c H locs 0 0 Q (F0 m 144 ls []) := by
    intro n144
    induction n144 with
    | zero => intro  σ hf; cases hf
    | succ n144 ih144 =>
      intro  σ hf H locs hI ls hl
      have hf : f7_advance_b144 (f7_advance_l144 n144)  σ = some σ' := hf
      unfold f7_advance_b144 at hf
      refine lv_aload_n hx hb dX7_advance_144 rfl (lv_at hl 0 rfl) ?_
      refine lv_aload_n hx hb dX7_advance_145 rfl (lv_at hl 0 rfl) ?_
      refine m_get (v := .int (gI σ 8)) X hI hc 8 (by decide) q2666 rfl dX7_advance_146 ?_
      obtain ⟨r22, σ21, hσ21, hf⟩ := bnd_some hf
      refine m_calli X hI hc [.int (gI σ 8)] (m7_see l D cl Z hz ci A d tm hc (gI σ 8) σ r22 σ21 hσ21) (cw7_see hts ⟨Nat.le_of_ble_eq_true rfl, Nat.le_of_ble_eq_true rfl⟩) rfl hl.1 (Nat.le_of_ble_eq_true rfl) rfl dX7_advance_149 ⟨Nat.le_of_ble_eq_true rfl, Nat.le_of_ble_eq_true rfl⟩ (fun H locs hI => ?_)
      refine lv_i2l hx hb dX7_advance_152 rfl ?_
      refine lv_ldc2 (v := 48) hx hb hown (hts _ q2823) dX7_advance_153 ?_
      refine lv_ldc2 (v := 57) hx hb hown (hts _ q2824) dX7_advance_156 ?_
      obtain ⟨r23, hr23, hf⟩ := bn1_some hf
      refine x_callSi (As := [.long r22.toInt64, .long 48, .long 57]) X hI (m7_in l r22.toInt64 48 57 r23 hr23) (cw7_in hts ⟨Nat.le_of_ble_eq_true rfl, Nat.le_of_ble_eq_true rfl⟩) rfl hl.1 (Nat.le_of_ble_eq_true rfl) rfl dX7_advance_159 ⟨Nat.le_of_ble_eq_true rfl, Nat.le_of_ble_eq_true rfl⟩ (fun H locs hI => ?_)
      refine lv_if_eq (tgt := 206) hx hb dX7_advance_162 (by decide) (fun c24 => ?_) (fun c24 => ?_)
      · have hf := o_pos hf c24
        refine lv_aload_n hx hb dX7_advance_206 rfl (lv_at hl 0 rfl) ?_
        refine lv_iconst (v := 2) hx hb dX7_advance_207 (by decide) ?_
        refine m_puti X hI hc 10 (by decide) q2668 rfl rfl rfl dX7_advance_208 (fun H locs hI => ?_)
        obtain ⟨σ25, eσ25, hf⟩ := nxt_some hf
        rw [← eσ25] at hI
        clear eσ25
        refine lv_goto (tgt := 239) hx hb dX7_advance_211 (by decide) ?_
        exact hret hf hI dX7_advance_239
      · have hf := o_neg hf c24
        refine lv_aload_n hx hb dX7_advance_165 rfl (lv_at hl 0 rfl) ?_
        refine lv_ldc (v := 99999) hx hb hown (hts _ q2825) dX7_advance_166 ?_
        refine lv_bipush (v := 10) hx hb dX7_advance_168 (by decide) ?_
        refine lv_aload_n hx hb dX7_advance_170 rfl (lv_at hl 0 rfl) ?_
        refine m_get (v := .int (gI σ21 11)) X hI hc 11 (by decide) q2669 rfl dX7_advance_171 ?_
        refine lv_imul hx hb dX7_advance_174 ?_
        refine lv_aload_n hx hb dX7_advance_175 rfl (lv_at hl 0 rfl) ?_
        refine lv_aload_n hx hb dX7_advance_176 rfl (lv_at hl 0 rfl) ?_
        refine m_get (v := .int (gI σ21 8)) X hI hc 8 (by decide) q2666 rfl dX7_advance_177 ?_
        obtain ⟨r27, σ26, hσ26, hf⟩ := bnd_some hf
        refine m_calli X hI hc [.int (gI σ21 8)] (m7_see l D cl Z hz ci A d tm hc (gI σ21 8) σ21 r27 σ26 hσ26) (cw7_see hts ⟨Nat.le_of_ble_eq_true rfl, Nat.le_of_ble_eq_true rfl⟩) rfl hl.1 (Nat.le_of_ble_eq_true rfl) rfl dX7_advance_180 ⟨Nat.le_of_ble_eq_true rfl, Nat.le_of_ble_eq_true rfl⟩ (fun H locs hI => ?_)
        refine lv_iadd hx hb dX7_advance_183 ?_
        refine lv_bipush (v := 48) hx hb dX7_advance_184 (by decide) ?_
        refine lv_isub hx hb dX7_advance_186 ?_
        refine x_mmin X hl.1 q2826 q638 q173 q639 ⟨Nat.le_of_ble_eq_true rfl, Nat.le_of_ble_eq_true rfl⟩ (Nat.le_of_ble_eq_true rfl) ⟨Nat.le_of_ble_eq_true rfl, Nat.le_of_ble_eq_true rfl⟩ dX7_advance_187 ?_
        refine m_puti X hI hc 11 (by decide) q2669 rfl rfl rfl dX7_advance_190 (fun H locs hI => ?_)
        obtain ⟨σ28, eσ28, hf⟩ := nxt_some hf
        rw [← eσ28] at hI
        clear eσ28
        refine lv_aload_n hx hb dX7_advance_193 rfl (lv_at hl 0 rfl) ?_
        refine lv_dup hx hb dX7_advance_194 rfl ?_
        refine m_get (v := .int (gI σ28 8)) X hI hc 8 (by decide) q2666 rfl dX7_advance_195 ?_
        refine lv_iconst (v := 1) hx hb dX7_advance_198 (by decide) ?_
        refine lv_iadd hx hb dX7_advance_199 ?_
        refine m_puti X hI hc 8 (by decide) q2666 rfl rfl rfl dX7_advance_200 (fun H locs hI => ?_)
        obtain ⟨σ29, eσ29, hf⟩ := nxt_some hf
        rw [← eσ29] at hI
        clear eσ29
        refine lv_goto (tgt := 144) hx hb dX7_advance_203 (by decide) ?_
        exact ih144 σ29 hf H locs hI ls (lv_sub hl [0] rfl)
  have L83 : ∀ (n : Nat) (σ : MS), f7_advance_l83 n  σ = some σ' → ∀ (H : Heap) (locs : List Loc), XI D cl (mw ci A d σ) A0 s.heap H locs → ∀ (ls : Array Slot), lv_has ls 2 [(0, .ref (A 0))] → W p l e r7_advance s m args below meth c H locs 0 0 Q (F0 m 83 ls []) := by
    intro n83
    induction n83 with
    | zero => intro  σ hf; cases hf
    | succ n83 ih83 =>
      intro  σ hf H locs hI ls hl
      have hf : f7_advance_b83 (f7_advance_l83 n83)  σ = some σ' := hf
      unfold f7_advance_b83 at hf
      refine lv_aload_n hx hb dX7_advance_83 rfl (lv_at hl 0 rfl) ?_
      refine lv_aload_n hx hb dX7_advance_84 rfl (lv_at hl 0 rfl) ?_
      refine m_get (v := .int (gI σ 8)) X hI hc 8 (by decide) q2666 rfl dX7_advance_85 ?_
      obtain ⟨r31, σ30, hσ30, hf⟩ := bnd_some hf
      refine m_calli X hI hc [.int (gI σ 8)] (m7_see l D cl Z hz ci A d tm hc (gI σ 8) σ r31 σ30 hσ30) (cw7_see hts ⟨Nat.le_of_ble_eq_true rfl, Nat.le_of_ble_eq_true rfl⟩) rfl hl.1 (Nat.le_of_ble_eq_true rfl) rfl dX7_advance_88 ⟨Nat.le_of_ble_eq_true rfl, Nat.le_of_ble_eq_true rfl⟩ (fun H locs hI => ?_)
      refine lv_i2l hx hb dX7_advance_91 rfl ?_
      refine lv_ldc2 (v := 97) hx hb hown (hts _ q2821) dX7_advance_92 ?_
      refine lv_ldc2 (v := 122) hx hb hown (hts _ q2822) dX7_advance_95 ?_
      obtain ⟨r32, hr32, hf⟩ := bn1_some hf
      refine x_callSi (As := [.long r31.toInt64, .long 97, .long 122]) X hI (m7_in l r31.toInt64 97 122 r32 hr32) (cw7_in hts ⟨Nat.le_of_ble_eq_true rfl, Nat.le_of_ble_eq_true rfl⟩) rfl hl.1 (Nat.le_of_ble_eq_true rfl) rfl dX7_advance_98 ⟨Nat.le_of_ble_eq_true rfl, Nat.le_of_ble_eq_true rfl⟩ (fun H locs hI => ?_)
      refine lv_if_eq (tgt := 117) hx hb dX7_advance_101 (by decide) (fun c33 => ?_) (fun c33 => ?_)
      · have hf := o_pos hf c33
        refine lv_aload_n hx hb dX7_advance_117 rfl (lv_at hl 0 rfl) ?_
        refine lv_iconst (v := 1) hx hb dX7_advance_118 (by decide) ?_
        refine m_puti X hI hc 10 (by decide) q2668 rfl rfl rfl dX7_advance_119 (fun H locs hI => ?_)
        obtain ⟨σ34, eσ34, hf⟩ := nxt_some hf
        rw [← eσ34] at hI
        clear eσ34
        refine lv_goto (tgt := 239) hx hb dX7_advance_122 (by decide) ?_
        exact hret hf hI dX7_advance_239
      · have hf := o_neg hf c33
        refine lv_aload_n hx hb dX7_advance_104 rfl (lv_at hl 0 rfl) ?_
        refine lv_dup hx hb dX7_advance_105 rfl ?_
        refine m_get (v := .int (gI σ30 8)) X hI hc 8 (by decide) q2666 rfl dX7_advance_106 ?_
        refine lv_iconst (v := 1) hx hb dX7_advance_109 (by decide) ?_
        refine lv_iadd hx hb dX7_advance_110 ?_
        refine m_puti X hI hc 8 (by decide) q2666 rfl rfl rfl dX7_advance_111 (fun H locs hI => ?_)
        obtain ⟨σ35, eσ35, hf⟩ := nxt_some hf
        rw [← eσ35] at hI
        clear eσ35
        refine lv_goto (tgt := 83) hx hb dX7_advance_114 (by decide) ?_
        exact ih83 σ35 hf H locs hI ls (lv_sub hl [0] rfl)
  have L0 : ∀ (n : Nat) (σ : MS), f7_advance_l0 n  σ = some σ' → ∀ (H : Heap) (locs : List Loc), XI D cl (mw ci A d σ) A0 s.heap H locs → ∀ (ls : Array Slot), lv_has ls 2 [(0, .ref (A 0))] → W p l e r7_advance s m args below meth c H locs 0 0 Q (F0 m 0 ls []) := by
    intro n0
    induction n0 with
    | zero => intro  σ hf; cases hf
    | succ n0 ih0 =>
      have J26 : ∀ (σ : MS), f7_advance_b26 (f7_advance_l0 n0)  σ = some σ' → ∀ (H : Heap) (locs : List Loc), XI D cl (mw ci A d σ) A0 s.heap H locs → ∀ (ls : Array Slot), lv_has ls 2 [(0, .ref (A 0))] → W p l e r7_advance s m args below meth c H locs 0 0 Q (F0 m 26 ls []) := by
        intro  σ hf H locs hI ls hl
        unfold f7_advance_b26 at hf
        refine lv_aload_n hx hb dX7_advance_26 rfl (lv_at hl 0 rfl) ?_
        refine lv_dup hx hb dX7_advance_27 rfl ?_
        refine m_get (v := .int (gI σ 8)) X hI hc 8 (by decide) q2666 rfl dX7_advance_28 ?_
        refine lv_iconst (v := 1) hx hb dX7_advance_31 (by decide) ?_
        refine lv_iadd hx hb dX7_advance_32 ?_
        refine m_puti X hI hc 8 (by decide) q2666 rfl rfl rfl dX7_advance_33 (fun H locs hI => ?_)
        obtain ⟨σ18, eσ18, hf⟩ := nxt_some hf
        rw [← eσ18] at hI
        clear eσ18
        refine lv_goto (tgt := 0) hx hb dX7_advance_36 (by decide) ?_
        exact ih0 σ18 hf H locs hI ls (lv_sub hl [0] rfl)
      intro  σ hf H locs hI ls hl
      have hf : f7_advance_b0 (f7_advance_l0 n0)  σ = some σ' := hf
      unfold f7_advance_b0 at hf
      refine lv_aload_n hx hb dX7_advance_0 rfl (lv_at hl 0 rfl) ?_
      refine lv_aload_n hx hb dX7_advance_1 rfl (lv_at hl 0 rfl) ?_
      refine m_get (v := .int (gI σ 8)) X hI hc 8 (by decide) q2666 rfl dX7_advance_2 ?_
      obtain ⟨r2, σ1, hσ1, hf⟩ := bnd_some hf
      refine m_calli X hI hc [.int (gI σ 8)] (m7_see l D cl Z hz ci A d tm hc (gI σ 8) σ r2 σ1 hσ1) (cw7_see hts ⟨Nat.le_of_ble_eq_true rfl, Nat.le_of_ble_eq_true rfl⟩) rfl hl.1 (Nat.le_of_ble_eq_true rfl) rfl dX7_advance_5 ⟨Nat.le_of_ble_eq_true rfl, Nat.le_of_ble_eq_true rfl⟩ (fun H locs hI => ?_)
      refine lv_bipush (v := 32) hx hb dX7_advance_8 (by decide) ?_
      refine lv_icmp_eq (tgt := 26) hx hb dX7_advance_10 (by decide) (fun c3 => ?_) (fun c3 => ?_)
      · have hf := o_pos hf c3
        exact J26 σ1 hf H locs hI ls (lv_sub hl [0] rfl)
      · have hf := o_neg hf c3
        refine lv_aload_n hx hb dX7_advance_13 rfl (lv_at hl 0 rfl) ?_
        refine lv_aload_n hx hb dX7_advance_14 rfl (lv_at hl 0 rfl) ?_
        refine m_get (v := .int (gI σ1 8)) X hI hc 8 (by decide) q2666 rfl dX7_advance_15 ?_
        obtain ⟨r5, σ4, hσ4, hf⟩ := bnd_some hf
        refine m_calli X hI hc [.int (gI σ1 8)] (m7_see l D cl Z hz ci A d tm hc (gI σ1 8) σ1 r5 σ4 hσ4) (cw7_see hts ⟨Nat.le_of_ble_eq_true rfl, Nat.le_of_ble_eq_true rfl⟩) rfl hl.1 (Nat.le_of_ble_eq_true rfl) rfl dX7_advance_18 ⟨Nat.le_of_ble_eq_true rfl, Nat.le_of_ble_eq_true rfl⟩ (fun H locs hI => ?_)
        refine lv_bipush (v := 10) hx hb dX7_advance_21 (by decide) ?_
        refine lv_icmp_ne (tgt := 39) hx hb dX7_advance_23 (by decide) (fun c6 => ?_) (fun c6 => ?_)
        · have hf := o_neg hf c6
          refine lv_aload_n hx hb dX7_advance_39 rfl (lv_at hl 0 rfl) ?_
          refine lv_aload_n hx hb dX7_advance_40 rfl (lv_at hl 0 rfl) ?_
          refine m_get (v := .int (gI σ4 8)) X hI hc 8 (by decide) q2666 rfl dX7_advance_41 ?_
          refine m_puti X hI hc 9 (by decide) q2667 rfl rfl rfl dX7_advance_44 (fun H locs hI => ?_)
          obtain ⟨σ7, eσ7, hf⟩ := nxt_some hf
          rw [← eσ7] at hI
          clear eσ7
          refine lv_aload_n hx hb dX7_advance_47 rfl (lv_at hl 0 rfl) ?_
          refine lv_aload_n hx hb dX7_advance_48 rfl (lv_at hl 0 rfl) ?_
          refine m_get (v := .int (gI σ7 8)) X hI hc 8 (by decide) q2666 rfl dX7_advance_49 ?_
          obtain ⟨r9, σ8, hσ8, hf⟩ := bnd_some hf
          refine m_calli X hI hc [.int (gI σ7 8)] (m7_see l D cl Z hz ci A d tm hc (gI σ7 8) σ7 r9 σ8 hσ8) (cw7_see hts ⟨Nat.le_of_ble_eq_true rfl, Nat.le_of_ble_eq_true rfl⟩) rfl hl.1 (Nat.le_of_ble_eq_true rfl) rfl dX7_advance_52 ⟨Nat.le_of_ble_eq_true rfl, Nat.le_of_ble_eq_true rfl⟩ (fun H locs hI => ?_)
          refine lv_istore_n (lv' := [(1, .int r9), (0, .ref (A 0))]) hx hb dX7_advance_55 rfl hl (by decide) rfl (fun ls hl => ?_)
          refine lv_iload_n hx hb dX7_advance_56 rfl (lv_at hl 0 rfl) ?_
          refine lv_iconst (v := -1) hx hb dX7_advance_57 (by decide) ?_
          refine lv_icmp_ne (tgt := 69) hx hb dX7_advance_58 (by decide) (fun c10 => ?_) (fun c10 => ?_)
          · have hf := o_neg hf c10
            refine lv_iload_n hx hb dX7_advance_69 rfl (lv_at hl 0 rfl) ?_
            refine lv_i2l hx hb dX7_advance_70 rfl ?_
            refine lv_ldc2 (v := 97) hx hb hown (hts _ q2821) dX7_advance_71 ?_
            refine lv_ldc2 (v := 122) hx hb hown (hts _ q2822) dX7_advance_74 ?_
            obtain ⟨r11, hr11, hf⟩ := bn1_some hf
            refine x_callSi (As := [.long r9.toInt64, .long 97, .long 122]) X hI (m7_in l r9.toInt64 97 122 r11 hr11) (cw7_in hts ⟨Nat.le_of_ble_eq_true rfl, Nat.le_of_ble_eq_true rfl⟩) rfl hl.1 (Nat.le_of_ble_eq_true rfl) rfl dX7_advance_77 ⟨Nat.le_of_ble_eq_true rfl, Nat.le_of_ble_eq_true rfl⟩ (fun H locs hI => ?_)
            refine lv_if_eq (tgt := 125) hx hb dX7_advance_80 (by decide) (fun c12 => ?_) (fun c12 => ?_)
            · have hf := o_pos hf c12
              refine lv_iload_n hx hb dX7_advance_125 rfl (lv_at hl 0 rfl) ?_
              refine lv_i2l hx hb dX7_advance_126 rfl ?_
              refine lv_ldc2 (v := 48) hx hb hown (hts _ q2823) dX7_advance_127 ?_
              refine lv_ldc2 (v := 57) hx hb hown (hts _ q2824) dX7_advance_130 ?_
              obtain ⟨r13, hr13, hf⟩ := bn1_some hf
              refine x_callSi (As := [.long r9.toInt64, .long 48, .long 57]) X hI (m7_in l r9.toInt64 48 57 r13 hr13) (cw7_in hts ⟨Nat.le_of_ble_eq_true rfl, Nat.le_of_ble_eq_true rfl⟩) rfl hl.1 (Nat.le_of_ble_eq_true rfl) rfl dX7_advance_133 ⟨Nat.le_of_ble_eq_true rfl, Nat.le_of_ble_eq_true rfl⟩ (fun H locs hI => ?_)
              refine lv_if_eq (tgt := 214) hx hb dX7_advance_136 (by decide) (fun c14 => ?_) (fun c14 => ?_)
              · have hf := o_pos hf c14
                refine lv_aload_n hx hb dX7_advance_214 rfl (lv_at hl 1 rfl) ?_
                refine lv_iload_n hx hb dX7_advance_215 rfl (lv_at hl 0 rfl) ?_
                refine lv_bipush (v := 59) hx hb dX7_advance_216 (by decide) ?_
                refine lv_icmp_ne (tgt := 225) hx hb dX7_advance_218 (by decide) (fun c15 => ?_) (fun c15 => ?_)
                · have hf := o_neg hf c15
                  refine lv_iconst (v := 4) hx hb dX7_advance_225 (by decide) ?_
                  exact J226 4 σ8 hf H locs hI ls (lv_sub hl [1] rfl)
                · have hf := o_pos hf c15
                  refine lv_iconst (v := 3) hx hb dX7_advance_221 (by decide) ?_
                  refine lv_goto (tgt := 226) hx hb dX7_advance_222 (by decide) ?_
                  exact J226 3 σ8 hf H locs hI ls (lv_sub hl [1] rfl)
              · have hf := o_neg hf c14
                refine lv_aload_n hx hb dX7_advance_139 rfl (lv_at hl 1 rfl) ?_
                refine lv_iconst (v := 0) hx hb dX7_advance_140 (by decide) ?_
                refine m_puti X hI hc 11 (by decide) q2669 rfl rfl rfl dX7_advance_141 (fun H locs hI => ?_)
                obtain ⟨σ16, eσ16, hf⟩ := nxt_some hf
                rw [← eσ16] at hI
                clear eσ16
                exact L144 FU σ16 hf H locs hI ls (lv_sub hl [1] rfl)
            · have hf := o_neg hf c12
              exact L83 FU σ8 hf H locs hI ls (lv_sub hl [1] rfl)
          · have hf := o_pos hf c10
            refine lv_aload_n hx hb dX7_advance_61 rfl (lv_at hl 1 rfl) ?_
            refine lv_iconst (v := 0) hx hb dX7_advance_62 (by decide) ?_
            refine m_puti X hI hc 10 (by decide) q2668 rfl rfl rfl dX7_advance_63 (fun H locs hI => ?_)
            obtain ⟨σ17, eσ17, hf⟩ := nxt_some hf
            rw [← eσ17] at hI
            clear eσ17
            refine lv_goto (tgt := 239) hx hb dX7_advance_66 (by decide) ?_
            exact hret hf hI dX7_advance_239
        · have hf := o_pos hf c6
          exact J26 σ4 hf H locs hI ls (lv_sub hl [0] rfl)
  have hl : lv_has ls 2 [(0, .ref (A 0))] := hl
  unfold f7_advance at hf
  obtain ⟨H, eH⟩ : ∃ H, H = s.heap := ⟨_, rfl⟩
  obtain ⟨locs, eL⟩ : ∃ locs : List Loc, locs = [] := ⟨_, rfl⟩
  have hI : XI D cl (mw ci A d σ) A0 s.heap H locs := by rw [eH, eL]; exact hI
  rw [← eL]
  suffices h : W p l e r7_advance s m args below meth c H locs 0 0 Q (F0 m 0 ls []) by rw [eH] at h; exact h
  clear eH eL
  exact L0 FU σ hf H locs hI ls (lv_sub hl [0] rfl)
/-! good -/
def f7_good (σ : MS) : oI Int32 :=
  if (gI σ 12) = 0 then (some (1, σ)) else (some (0, σ))
abbrev r7_good : Room := { frames := 0, cells := 0, slots := 0, locals := 0 }
theorem cw7_good {R : Room} {s : State} {args : Array Value} (ht : ∀ w ∈ lw_all, w.before args s = true) (hR : r7_good.frames + 1 ≤ R.frames ∧ 8 + (1 + 11) + r7_good.locals ≤ R.locals) : CallW R s args RX7 RX7 139 yX7_good cX7_good 1 (some .boolean) (ws_ yX7_good cX7_good 1 (some .boolean)) r7_good 0 0 0 :=
  cwV 0 ht (lw_V q2827 q2829 qs93 q178 q2830) rfl rfl rfl (by decide +kernel) hR
theorem m7_good (l : Launch) (D : va_G) (cl : vC2) (Z : (Nat → Prop) → State → Heap → Prop) (hz : ZK Z) (ci : Nat) (A : Nat → Nat) (d : Nat → ClassId) (tm : List (ClassId × FieldType)) (hc : cl.1[ci]? = some (RX7, TX7, 42)) (σ : MS) (r : Int32) (σ' : MS) (hf : f7_good σ = some (r, σ')) : MMi l yX7_good (ws_ yX7_good cX7_good 1 (some .boolean)) r7_good D cl Z ci A d tm σ [] r σ' := by
  refine m_openz hz (by decide) (by exact Nat.le_of_ble_eq_true rfl) (fun p e s m args below meth c ls A0 Q X hI hl hret => ?_)
  have X : XC p s m args meth c cX7_good 1 RX7 D cl (mty d tm) A0 Z := X
  have hx := X.1
  have hb := X.2.1
  have hown := X.2.2.2.1
  have hts := X.2.2.2.2.1
  have hl : lv_has ls 1 [(0, .ref (A 0))] := hl
  unfold f7_good at hf
  obtain ⟨H, eH⟩ : ∃ H, H = s.heap := ⟨_, rfl⟩
  obtain ⟨locs, eL⟩ : ∃ locs : List Loc, locs = [] := ⟨_, rfl⟩
  have hI : XI D cl (mw ci A d σ) A0 s.heap H locs := by rw [eH, eL]; exact hI
  rw [← eL]
  suffices h : W p l e r7_good s m args below meth c H locs 0 0 Q (F0 m 0 ls []) by rw [eH] at h; exact h
  clear eH eL
  refine lv_aload_n hx hb dX7_good_0 rfl (lv_at hl 0 rfl) ?_
  refine m_get (v := .int (gI σ 12)) X hI hc 12 (by decide) q2670 rfl dX7_good_1 ?_
  refine lv_if_ne (tgt := 11) hx hb dX7_good_4 (by decide) (fun c1 => ?_) (fun c1 => ?_)
  · have hf := o_neg hf c1
    refine lv_iconst (v := 0) hx hb dX7_good_11 (by decide) ?_
    exact hret hf rfl hI dX7_good_12
  · have hf := o_pos hf c1
    refine lv_iconst (v := 1) hx hb dX7_good_7 (by decide) ?_
    refine lv_goto (tgt := 12) hx hb dX7_good_8 (by decide) ?_
    exact hret hf rfl hI dX7_good_12
/-! errs -/
def f7_errs (p0 : Int32) (σ : MS) : Option MS :=
  bnd (f7_good σ) fun r2 σ1 =>
  if r2 = 0 then (some σ1) else (nxt (sI σ1 12 p0) fun σ4 =>
  nxt (sI σ4 13 (gI σ4 9)) fun σ5 =>
  some σ5)
abbrev r7_errs : Room := { frames := 1, cells := 0, slots := 0, locals := 20 }
theorem cw7_errs {R : Room} {s : State} {args : Array Value} (ht : ∀ w ∈ lw_all, w.before args s = true) (hR : r7_errs.frames + 1 ≤ R.frames ∧ 8 + (2 + 11) + r7_errs.locals ≤ R.locals) : CallW R s args RX7 RX7 161 yX7_errs cX7_errs 2 none (ws_ yX7_errs cX7_errs 2 none) r7_errs 0 0 1 :=
  cwV 1 ht (lw_V q2864 q2866 qs99 q178 q2867) rfl rfl rfl (by decide +kernel) hR
theorem m7_errs (l : Launch) (D : va_G) (cl : vC2) (Z : (Nat → Prop) → State → Heap → Prop) (hz : ZK Z) (ci : Nat) (A : Nat → Nat) (d : Nat → ClassId) (tm : List (ClassId × FieldType)) (hc : cl.1[ci]? = some (RX7, TX7, 42)) (p0 : Int32) (σ : MS) (σ' : MS) (hf : f7_errs p0 σ = some σ') : MMv l yX7_errs (ws_ yX7_errs cX7_errs 2 none) r7_errs D cl Z ci A d tm σ [.int p0] σ' := by
  refine m_openv hz (by decide) (by exact Nat.le_of_ble_eq_true rfl) (fun p e s m args below meth c ls A0 Q X hI hl hret => ?_)
  have X : XC p s m args meth c cX7_errs 2 RX7 D cl (mty d tm) A0 Z := X
  have hx := X.1
  have hb := X.2.1
  have hown := X.2.2.2.1
  have hts := X.2.2.2.2.1
  have hl : lv_has ls 2 [(0, .ref (A 0)), (1, .int p0)] := hl
  unfold f7_errs at hf
  obtain ⟨H, eH⟩ : ∃ H, H = s.heap := ⟨_, rfl⟩
  obtain ⟨locs, eL⟩ : ∃ locs : List Loc, locs = [] := ⟨_, rfl⟩
  have hI : XI D cl (mw ci A d σ) A0 s.heap H locs := by rw [eH, eL]; exact hI
  rw [← eL]
  suffices h : W p l e r7_errs s m args below meth c H locs 0 0 Q (F0 m 0 ls []) by rw [eH] at h; exact h
  clear eH eL
  refine lv_aload_n hx hb dX7_errs_0 rfl (lv_at hl 0 rfl) ?_
  obtain ⟨r2, σ1, hσ1, hf⟩ := bnd_some hf
  refine m_calli X hI hc [] (m7_good l D cl Z hz ci A d tm hc σ r2 σ1 hσ1) (cw7_good hts ⟨Nat.le_of_ble_eq_true rfl, Nat.le_of_ble_eq_true rfl⟩) rfl hl.1 (Nat.le_of_ble_eq_true rfl) rfl dX7_errs_1 ⟨Nat.le_of_ble_eq_true rfl, Nat.le_of_ble_eq_true rfl⟩ (fun H locs hI => ?_)
  refine lv_if_ne (tgt := 8) hx hb dX7_errs_4 (by decide) (fun c3 => ?_) (fun c3 => ?_)
  · have hf := o_neg hf c3
    refine lv_aload_n hx hb dX7_errs_8 rfl (lv_at hl 0 rfl) ?_
    refine lv_iload_n hx hb dX7_errs_9 rfl (lv_at hl 1 rfl) ?_
    refine m_puti X hI hc 12 (by decide) q2670 rfl rfl rfl dX7_errs_10 (fun H locs hI => ?_)
    obtain ⟨σ4, eσ4, hf⟩ := nxt_some hf
    rw [← eσ4] at hI
    clear eσ4
    refine lv_aload_n hx hb dX7_errs_13 rfl (lv_at hl 0 rfl) ?_
    refine lv_aload_n hx hb dX7_errs_14 rfl (lv_at hl 0 rfl) ?_
    refine m_get (v := .int (gI σ4 9)) X hI hc 9 (by decide) q2667 rfl dX7_errs_15 ?_
    refine m_puti X hI hc 13 (by decide) q2671 rfl rfl rfl dX7_errs_18 (fun H locs hI => ?_)
    obtain ⟨σ5, eσ5, hf⟩ := nxt_some hf
    rw [← eσ5] at hI
    clear eσ5
    exact hret hf hI dX7_errs_21
  · have hf := o_pos hf c3
    exact hret hf hI dX7_errs_7
/-! number -/
def f7_number_b47 (σ : MS) : oI Int32 :=
  bnd (f7_good σ) fun r13 σ12 =>
  if r13 = 0 then (some (0, σ12)) else (bn1 (f7_advance σ12) fun σ15 =>
  some (gI σ12 11, σ15))
def f7_number_b20 (x1 : Int32) (x2 : Int32) (σ : MS) : oI Int32 :=
  bnd (f7_good σ) fun r7 σ6 =>
  if r7 = 0 then (f7_number_b47 σ6) else (bn1 (f7_in ((gI σ6 11).toInt64) x1.toInt64 x2.toInt64) fun r9 =>
  if r9 = 0 then (bn1 (f7_errs 2 σ6) fun σ11 =>
  f7_number_b47 σ11) else (f7_number_b47 σ6))
def f7_number (p0 : Int32) (p1 : Int32) (σ : MS) : oI Int32 :=
  bnd (f7_good σ) fun r2 σ1 =>
  if r2 = 0 then (f7_number_b20 p0 p1 σ1) else (if (gI σ1 10) = 2 then (f7_number_b20 p0 p1 σ1) else (bn1 (f7_errs 1 σ1) fun σ5 =>
  f7_number_b20 p0 p1 σ5))
abbrev r7_number : Room := { frames := 2, cells := 0, slots := 0, locals := 46 }
theorem cw7_number {R : Room} {s : State} {args : Array Value} (ht : ∀ w ∈ lw_all, w.before args s = true) (hR : r7_number.frames + 1 ≤ R.frames ∧ 8 + (4 + 11) + r7_number.locals ≤ R.locals) : CallW R s args RX7 RX7 169 yX7_number cX7_number 4 (some .int) (ws_ yX7_number cX7_number 4 (some .int)) r7_number 0 0 2 :=
  cwV 2 ht (lw_V q2873 q2875 qs101 q178 q2876) rfl rfl rfl (by decide +kernel) hR
theorem m7_number (l : Launch) (D : va_G) (cl : vC2) (Z : (Nat → Prop) → State → Heap → Prop) (hz : ZK Z) (ci : Nat) (A : Nat → Nat) (d : Nat → ClassId) (tm : List (ClassId × FieldType)) (hc : cl.1[ci]? = some (RX7, TX7, 42)) (p0 : Int32) (p1 : Int32) (σ : MS) (r : Int32) (σ' : MS) (hf : f7_number p0 p1 σ = some (r, σ')) : MMi l yX7_number (ws_ yX7_number cX7_number 4 (some .int)) r7_number D cl Z ci A d tm σ [.int p0, .int p1] r σ' := by
  refine m_openi hz (by decide) (by exact Nat.le_of_ble_eq_true rfl) (fun p e s m args below meth c ls A0 Q X hI hl hret => ?_)
  have X : XC p s m args meth c cX7_number 4 RX7 D cl (mty d tm) A0 Z := X
  have hx := X.1
  have hb := X.2.1
  have hown := X.2.2.2.1
  have hts := X.2.2.2.2.1
  have J47 : ∀ (σ : MS), f7_number_b47  σ = some (r, σ') → ∀ (H : Heap) (locs : List Loc), XI D cl (mw ci A d σ) A0 s.heap H locs → ∀ (ls : Array Slot), lv_has ls 4 [(0, .ref (A 0))] → W p l e r7_number s m args below meth c H locs 0 0 Q (F0 m 47 ls []) := by
    intro  σ hf H locs hI ls hl
    unfold f7_number_b47 at hf
    refine lv_aload_n hx hb dX7_number_47 rfl (lv_at hl 0 rfl) ?_
    obtain ⟨r13, σ12, hσ12, hf⟩ := bnd_some hf
    refine m_calli X hI hc [] (m7_good l D cl Z hz ci A d tm hc σ r13 σ12 hσ12) (cw7_good hts ⟨Nat.le_of_ble_eq_true rfl, Nat.le_of_ble_eq_true rfl⟩) rfl hl.1 (Nat.le_of_ble_eq_true rfl) rfl dX7_number_48 ⟨Nat.le_of_ble_eq_true rfl, Nat.le_of_ble_eq_true rfl⟩ (fun H locs hI => ?_)
    refine lv_if_ne (tgt := 56) hx hb dX7_number_51 (by decide) (fun c14 => ?_) (fun c14 => ?_)
    · have hf := o_neg hf c14
      refine lv_aload_n hx hb dX7_number_56 rfl (lv_at hl 0 rfl) ?_
      refine m_get (v := .int (gI σ12 11)) X hI hc 11 (by decide) q2669 rfl dX7_number_57 ?_
      refine lv_istore_n (lv' := [(3, .int (gI σ12 11)), (0, .ref (A 0))]) hx hb dX7_number_60 rfl hl (by decide) rfl (fun ls hl => ?_)
      refine lv_aload_n hx hb dX7_number_61 rfl (lv_at hl 1 rfl) ?_
      obtain ⟨σ15, hσ15, hf⟩ := bn1_some hf
      refine m_callv X hI hc [] (m7_advance l D cl Z hz ci A d tm hc σ12 σ15 hσ15) (cw7_advance hts ⟨Nat.le_of_ble_eq_true rfl, Nat.le_of_ble_eq_true rfl⟩) rfl hl.1 (Nat.le_of_ble_eq_true rfl) rfl dX7_number_62 ⟨Nat.le_of_ble_eq_true rfl, Nat.le_of_ble_eq_true rfl⟩ (fun H locs hI => ?_)
      refine lv_iload_n hx hb dX7_number_65 rfl (lv_at hl 0 rfl) ?_
      exact hret hf hI dX7_number_66
    · have hf := o_pos hf c14
      refine lv_iconst (v := 0) hx hb dX7_number_54 (by decide) ?_
      exact hret hf hI dX7_number_55
  have J20 : ∀ (x1 : Int32) (x2 : Int32) (σ : MS), f7_number_b20 x1 x2 σ = some (r, σ') → ∀ (H : Heap) (locs : List Loc), XI D cl (mw ci A d σ) A0 s.heap H locs → ∀ (ls : Array Slot), lv_has ls 4 [(0, .ref (A 0)), (1, .int x1), (2, .int x2)] → W p l e r7_number s m args below meth c H locs 0 0 Q (F0 m 20 ls []) := by
    intro x1 x2 σ hf H locs hI ls hl
    unfold f7_number_b20 at hf
    refine lv_aload_n hx hb dX7_number_20 rfl (lv_at hl 0 rfl) ?_
    obtain ⟨r7, σ6, hσ6, hf⟩ := bnd_some hf
    refine m_calli X hI hc [] (m7_good l D cl Z hz ci A d tm hc σ r7 σ6 hσ6) (cw7_good hts ⟨Nat.le_of_ble_eq_true rfl, Nat.le_of_ble_eq_true rfl⟩) rfl hl.1 (Nat.le_of_ble_eq_true rfl) rfl dX7_number_21 ⟨Nat.le_of_ble_eq_true rfl, Nat.le_of_ble_eq_true rfl⟩ (fun H locs hI => ?_)
    refine lv_if_eq (tgt := 47) hx hb dX7_number_24 (by decide) (fun c8 => ?_) (fun c8 => ?_)
    · have hf := o_pos hf c8
      exact J47 σ6 hf H locs hI ls (lv_sub hl [0] rfl)
    · have hf := o_neg hf c8
      refine lv_aload_n hx hb dX7_number_27 rfl (lv_at hl 0 rfl) ?_
      refine m_get (v := .int (gI σ6 11)) X hI hc 11 (by decide) q2669 rfl dX7_number_28 ?_
      refine lv_i2l hx hb dX7_number_31 rfl ?_
      refine lv_iload_n hx hb dX7_number_32 rfl (lv_at hl 1 rfl) ?_
      refine lv_i2l hx hb dX7_number_33 rfl ?_
      refine lv_iload_n hx hb dX7_number_34 rfl (lv_at hl 2 rfl) ?_
      refine lv_i2l hx hb dX7_number_35 rfl ?_
      obtain ⟨r9, hr9, hf⟩ := bn1_some hf
      refine x_callSi (As := [.long ((gI σ6 11).toInt64), .long x1.toInt64, .long x2.toInt64]) X hI (m7_in l ((gI σ6 11).toInt64) x1.toInt64 x2.toInt64 r9 hr9) (cw7_in hts ⟨Nat.le_of_ble_eq_true rfl, Nat.le_of_ble_eq_true rfl⟩) rfl hl.1 (Nat.le_of_ble_eq_true rfl) rfl dX7_number_36 ⟨Nat.le_of_ble_eq_true rfl, Nat.le_of_ble_eq_true rfl⟩ (fun H locs hI => ?_)
      refine lv_if_ne (tgt := 47) hx hb dX7_number_39 (by decide) (fun c10 => ?_) (fun c10 => ?_)
      · have hf := o_neg hf c10
        exact J47 σ6 hf H locs hI ls (lv_sub hl [0] rfl)
      · have hf := o_pos hf c10
        refine lv_aload_n hx hb dX7_number_42 rfl (lv_at hl 0 rfl) ?_
        refine lv_iconst (v := 2) hx hb dX7_number_43 (by decide) ?_
        obtain ⟨σ11, hσ11, hf⟩ := bn1_some hf
        refine m_callv X hI hc [.int 2] (m7_errs l D cl Z hz ci A d tm hc 2 σ6 σ11 hσ11) (cw7_errs hts ⟨Nat.le_of_ble_eq_true rfl, Nat.le_of_ble_eq_true rfl⟩) rfl hl.1 (Nat.le_of_ble_eq_true rfl) rfl dX7_number_44 ⟨Nat.le_of_ble_eq_true rfl, Nat.le_of_ble_eq_true rfl⟩ (fun H locs hI => ?_)
        exact J47 σ11 hf H locs hI ls (lv_sub hl [0] rfl)
  have hl : lv_has ls 4 [(0, .ref (A 0)), (1, .int p0), (2, .int p1)] := hl
  unfold f7_number at hf
  obtain ⟨H, eH⟩ : ∃ H, H = s.heap := ⟨_, rfl⟩
  obtain ⟨locs, eL⟩ : ∃ locs : List Loc, locs = [] := ⟨_, rfl⟩
  have hI : XI D cl (mw ci A d σ) A0 s.heap H locs := by rw [eH, eL]; exact hI
  rw [← eL]
  suffices h : W p l e r7_number s m args below meth c H locs 0 0 Q (F0 m 0 ls []) by rw [eH] at h; exact h
  clear eH eL
  refine lv_aload_n hx hb dX7_number_0 rfl (lv_at hl 0 rfl) ?_
  obtain ⟨r2, σ1, hσ1, hf⟩ := bnd_some hf
  refine m_calli X hI hc [] (m7_good l D cl Z hz ci A d tm hc σ r2 σ1 hσ1) (cw7_good hts ⟨Nat.le_of_ble_eq_true rfl, Nat.le_of_ble_eq_true rfl⟩) rfl hl.1 (Nat.le_of_ble_eq_true rfl) rfl dX7_number_1 ⟨Nat.le_of_ble_eq_true rfl, Nat.le_of_ble_eq_true rfl⟩ (fun H locs hI => ?_)
  refine lv_if_eq (tgt := 20) hx hb dX7_number_4 (by decide) (fun c3 => ?_) (fun c3 => ?_)
  · have hf := o_pos hf c3
    exact J20 p0 p1 σ1 hf H locs hI ls (lv_sub hl [0, 1, 2] rfl)
  · have hf := o_neg hf c3
    refine lv_aload_n hx hb dX7_number_7 rfl (lv_at hl 0 rfl) ?_
    refine m_get (v := .int (gI σ1 10)) X hI hc 10 (by decide) q2668 rfl dX7_number_8 ?_
    refine lv_iconst (v := 2) hx hb dX7_number_11 (by decide) ?_
    refine lv_icmp_eq (tgt := 20) hx hb dX7_number_12 (by decide) (fun c4 => ?_) (fun c4 => ?_)
    · have hf := o_pos hf c4
      exact J20 p0 p1 σ1 hf H locs hI ls (lv_sub hl [0, 1, 2] rfl)
    · have hf := o_neg hf c4
      refine lv_aload_n hx hb dX7_number_15 rfl (lv_at hl 0 rfl) ?_
      refine lv_iconst (v := 1) hx hb dX7_number_16 (by decide) ?_
      obtain ⟨σ5, hσ5, hf⟩ := bn1_some hf
      refine m_callv X hI hc [.int 1] (m7_errs l D cl Z hz ci A d tm hc 1 σ1 σ5 hσ5) (cw7_errs hts ⟨Nat.le_of_ble_eq_true rfl, Nat.le_of_ble_eq_true rfl⟩) rfl hl.1 (Nat.le_of_ble_eq_true rfl) rfl dX7_number_17 ⟨Nat.le_of_ble_eq_true rfl, Nat.le_of_ble_eq_true rfl⟩ (fun H locs hI => ?_)
      exact J20 p0 p1 σ5 hf H locs hI ls (lv_sub hl [0, 1, 2] rfl)
/-! readCell -/
def f7_readCell (σ : MS) : oI Int32 :=
  bnd (f7_number 0 ((gA σ 14 3) - 1) σ) fun r2 σ1 =>
  some (r2, σ1)
abbrev r7_readCell : Room := { frames := 3, cells := 0, slots := 0, locals := 69 }
theorem cw7_readCell {R : Room} {s : State} {args : Array Value} (ht : ∀ w ∈ lw_all, w.before args s = true) (hR : r7_readCell.frames + 1 ≤ R.frames ∧ 8 + (1 + 11) + r7_readCell.locals ≤ R.locals) : CallW R s args RX7 RX7 184 yX7_readCell cX7_readCell 1 (some .int) (ws_ yX7_readCell cX7_readCell 1 (some .int)) r7_readCell 0 0 0 :=
  cwV 0 ht (lw_V q2914 q2916 qs107 q178 q2917) rfl rfl rfl (by decide +kernel) hR
theorem m7_readCell (l : Launch) (D : va_G) (cl : vC2) (Z : (Nat → Prop) → State → Heap → Prop) (hz : ZK Z) (ci : Nat) (A : Nat → Nat) (d : Nat → ClassId) (tm : List (ClassId × FieldType)) (hc : cl.1[ci]? = some (RX7, TX7, 42)) (σ : MS) (r : Int32) (σ' : MS) (hf : f7_readCell σ = some (r, σ')) : MMi l yX7_readCell (ws_ yX7_readCell cX7_readCell 1 (some .int)) r7_readCell D cl Z ci A d tm σ [] r σ' := by
  refine m_openi hz (by decide) (by exact Nat.le_of_ble_eq_true rfl) (fun p e s m args below meth c ls A0 Q X hI hl hret => ?_)
  have X : XC p s m args meth c cX7_readCell 1 RX7 D cl (mty d tm) A0 Z := X
  have hx := X.1
  have hb := X.2.1
  have hown := X.2.2.2.1
  have hts := X.2.2.2.2.1
  have hl : lv_has ls 1 [(0, .ref (A 0))] := hl
  unfold f7_readCell at hf
  obtain ⟨H, eH⟩ : ∃ H, H = s.heap := ⟨_, rfl⟩
  obtain ⟨locs, eL⟩ : ∃ locs : List Loc, locs = [] := ⟨_, rfl⟩
  have hI : XI D cl (mw ci A d σ) A0 s.heap H locs := by rw [eH, eL]; exact hI
  rw [← eL]
  suffices h : W p l e r7_readCell s m args below meth c H locs 0 0 Q (F0 m 0 ls []) by rw [eH] at h; exact h
  clear eH eL
  refine lv_aload_n hx hb dX7_readCell_0 rfl (lv_at hl 0 rfl) ?_
  refine lv_iconst (v := 0) hx hb dX7_readCell_1 (by decide) ?_
  refine lv_aload_n hx hb dX7_readCell_2 rfl (lv_at hl 0 rfl) ?_
  refine m_get (v := .ref (A 14)) X hI hc 14 (by decide) q2672 rfl dX7_readCell_3 ?_
  refine lv_iconst (v := 3) hx hb dX7_readCell_6 (by decide) ?_
  refine m_iald (k := 3) X hI 14 6 76 rfl rfl rfl dX7_readCell_7 ?_
  refine lv_iconst (v := 1) hx hb dX7_readCell_8 (by decide) ?_
  refine lv_isub hx hb dX7_readCell_9 ?_
  obtain ⟨r2, σ1, hσ1, hf⟩ := bnd_some hf
  refine m_calli X hI hc [.int 0, .int ((gA σ 14 3) - 1)] (m7_number l D cl Z hz ci A d tm hc 0 ((gA σ 14 3) - 1) σ r2 σ1 hσ1) (cw7_number hts ⟨Nat.le_of_ble_eq_true rfl, Nat.le_of_ble_eq_true rfl⟩) rfl hl.1 (Nat.le_of_ble_eq_true rfl) rfl dX7_readCell_10 ⟨Nat.le_of_ble_eq_true rfl, Nat.le_of_ble_eq_true rfl⟩ (fun H locs hI => ?_)
  exact hret hf hI dX7_readCell_13
/-! readOther -/
def f7_readOther_b28 (σ : MS) : oI Int32 :=
  bnd (f7_readCell σ) fun r8 σ7 =>
  some (r8, σ7)
def f7_readOther (p0 : Int32) (σ : MS) : oI Int32 :=
  bnd (f7_good σ) fun r2 σ1 =>
  if r2 = 0 then (f7_readOther_b28 σ1) else (if (gI σ1 10) = 2 then (if (gI σ1 11) = p0 then (bn1 (f7_errs 2 σ1) fun σ6 =>
  f7_readOther_b28 σ6) else (f7_readOther_b28 σ1)) else (f7_readOther_b28 σ1))
abbrev r7_readOther : Room := { frames := 4, cells := 0, slots := 0, locals := 89 }
theorem cw7_readOther {R : Room} {s : State} {args : Array Value} (ht : ∀ w ∈ lw_all, w.before args s = true) (hR : r7_readOther.frames + 1 ≤ R.frames ∧ 8 + (2 + 11) + r7_readOther.locals ≤ R.locals) : CallW R s args RX7 RX7 209 yX7_readOther cX7_readOther 2 (some .int) (ws_ yX7_readOther cX7_readOther 2 (some .int)) r7_readOther 0 0 1 :=
  cwV 1 ht (lw_V q2918 q2920 qs108 q178 q2921) rfl rfl rfl (by decide +kernel) hR
theorem m7_readOther (l : Launch) (D : va_G) (cl : vC2) (Z : (Nat → Prop) → State → Heap → Prop) (hz : ZK Z) (ci : Nat) (A : Nat → Nat) (d : Nat → ClassId) (tm : List (ClassId × FieldType)) (hc : cl.1[ci]? = some (RX7, TX7, 42)) (p0 : Int32) (σ : MS) (r : Int32) (σ' : MS) (hf : f7_readOther p0 σ = some (r, σ')) : MMi l yX7_readOther (ws_ yX7_readOther cX7_readOther 2 (some .int)) r7_readOther D cl Z ci A d tm σ [.int p0] r σ' := by
  refine m_openi hz (by decide) (by exact Nat.le_of_ble_eq_true rfl) (fun p e s m args below meth c ls A0 Q X hI hl hret => ?_)
  have X : XC p s m args meth c cX7_readOther 2 RX7 D cl (mty d tm) A0 Z := X
  have hx := X.1
  have hb := X.2.1
  have hown := X.2.2.2.1
  have hts := X.2.2.2.2.1
  have J28 : ∀ (σ : MS), f7_readOther_b28  σ = some (r, σ') → ∀ (H : Heap) (locs : List Loc), XI D cl (mw ci A d σ) A0 s.heap H locs → ∀ (ls : Array Slot), lv_has ls 2 [(0, .ref (A 0))] → W p l e r7_readOther s m args below meth c H locs 0 0 Q (F0 m 28 ls []) := by
    intro  σ hf H locs hI ls hl
    unfold f7_readOther_b28 at hf
    refine lv_aload_n hx hb dX7_readOther_28 rfl (lv_at hl 0 rfl) ?_
    obtain ⟨r8, σ7, hσ7, hf⟩ := bnd_some hf
    refine m_calli X hI hc [] (m7_readCell l D cl Z hz ci A d tm hc σ r8 σ7 hσ7) (cw7_readCell hts ⟨Nat.le_of_ble_eq_true rfl, Nat.le_of_ble_eq_true rfl⟩) rfl hl.1 (Nat.le_of_ble_eq_true rfl) rfl dX7_readOther_29 ⟨Nat.le_of_ble_eq_true rfl, Nat.le_of_ble_eq_true rfl⟩ (fun H locs hI => ?_)
    exact hret hf hI dX7_readOther_32
  have hl : lv_has ls 2 [(0, .ref (A 0)), (1, .int p0)] := hl
  unfold f7_readOther at hf
  obtain ⟨H, eH⟩ : ∃ H, H = s.heap := ⟨_, rfl⟩
  obtain ⟨locs, eL⟩ : ∃ locs : List Loc, locs = [] := ⟨_, rfl⟩
  have hI : XI D cl (mw ci A d σ) A0 s.heap H locs := by rw [eH, eL]; exact hI
  rw [← eL]
  suffices h : W p l e r7_readOther s m args below meth c H locs 0 0 Q (F0 m 0 ls []) by rw [eH] at h; exact h
  clear eH eL
  refine lv_aload_n hx hb dX7_readOther_0 rfl (lv_at hl 0 rfl) ?_
  obtain ⟨r2, σ1, hσ1, hf⟩ := bnd_some hf
  refine m_calli X hI hc [] (m7_good l D cl Z hz ci A d tm hc σ r2 σ1 hσ1) (cw7_good hts ⟨Nat.le_of_ble_eq_true rfl, Nat.le_of_ble_eq_true rfl⟩) rfl hl.1 (Nat.le_of_ble_eq_true rfl) rfl dX7_readOther_1 ⟨Nat.le_of_ble_eq_true rfl, Nat.le_of_ble_eq_true rfl⟩ (fun H locs hI => ?_)
  refine lv_if_eq (tgt := 28) hx hb dX7_readOther_4 (by decide) (fun c3 => ?_) (fun c3 => ?_)
  · have hf := o_pos hf c3
    exact J28 σ1 hf H locs hI ls (lv_sub hl [0] rfl)
  · have hf := o_neg hf c3
    refine lv_aload_n hx hb dX7_readOther_7 rfl (lv_at hl 0 rfl) ?_
    refine m_get (v := .int (gI σ1 10)) X hI hc 10 (by decide) q2668 rfl dX7_readOther_8 ?_
    refine lv_iconst (v := 2) hx hb dX7_readOther_11 (by decide) ?_
    refine lv_icmp_ne (tgt := 28) hx hb dX7_readOther_12 (by decide) (fun c4 => ?_) (fun c4 => ?_)
    · have hf := o_neg hf c4
      exact J28 σ1 hf H locs hI ls (lv_sub hl [0] rfl)
    · have hf := o_pos hf c4
      refine lv_aload_n hx hb dX7_readOther_15 rfl (lv_at hl 0 rfl) ?_
      refine m_get (v := .int (gI σ1 11)) X hI hc 11 (by decide) q2669 rfl dX7_readOther_16 ?_
      refine lv_iload_n hx hb dX7_readOther_19 rfl (lv_at hl 1 rfl) ?_
      refine lv_icmp_ne (tgt := 28) hx hb dX7_readOther_20 (by decide) (fun c5 => ?_) (fun c5 => ?_)
      · have hf := o_neg hf c5
        exact J28 σ1 hf H locs hI ls (lv_sub hl [0] rfl)
      · have hf := o_pos hf c5
        refine lv_aload_n hx hb dX7_readOther_23 rfl (lv_at hl 0 rfl) ?_
        refine lv_iconst (v := 2) hx hb dX7_readOther_24 (by decide) ?_
        obtain ⟨σ6, hσ6, hf⟩ := bn1_some hf
        refine m_callv X hI hc [.int 2] (m7_errs l D cl Z hz ci A d tm hc 2 σ1 σ6 hσ6) (cw7_errs hts ⟨Nat.le_of_ble_eq_true rfl, Nat.le_of_ble_eq_true rfl⟩) rfl hl.1 (Nat.le_of_ble_eq_true rfl) rfl dX7_readOther_25 ⟨Nat.le_of_ble_eq_true rfl, Nat.le_of_ble_eq_true rfl⟩ (fun H locs hI => ?_)
        exact J28 σ6 hf H locs hI ls (lv_sub hl [0] rfl)
/-! cells -/
def f7_cells (σ : MS) : oI Int32 :=
  some (gA σ 1 3, σ)
abbrev r7_cells : Room := { frames := 0, cells := 0, slots := 0, locals := 0 }
theorem cw7_cells {R : Room} {s : State} {args : Array Value} (ht : ∀ w ∈ lw_all, w.before args s = true) (hR : r7_cells.frames + 1 ≤ R.frames ∧ 8 + (1 + 11) + r7_cells.locals ≤ R.locals) : CallW R s args RX7 RX7 87 yX7_cells cX7_cells 1 (some .int) (ws_ yX7_cells cX7_cells 1 (some .int)) r7_cells 0 0 0 :=
  cwV 0 ht (lw_V q2938 q2940 qs111 q178 q2941) rfl rfl rfl (by decide +kernel) hR
theorem m7_cells (l : Launch) (D : va_G) (cl : vC2) (Z : (Nat → Prop) → State → Heap → Prop) (hz : ZK Z) (ci : Nat) (A : Nat → Nat) (d : Nat → ClassId) (tm : List (ClassId × FieldType)) (hc : cl.1[ci]? = some (RX7, TX7, 42)) (σ : MS) (r : Int32) (σ' : MS) (hf : f7_cells σ = some (r, σ')) : MMi l yX7_cells (ws_ yX7_cells cX7_cells 1 (some .int)) r7_cells D cl Z ci A d tm σ [] r σ' := by
  refine m_openi hz (by decide) (by exact Nat.le_of_ble_eq_true rfl) (fun p e s m args below meth c ls A0 Q X hI hl hret => ?_)
  have X : XC p s m args meth c cX7_cells 1 RX7 D cl (mty d tm) A0 Z := X
  have hx := X.1
  have hb := X.2.1
  have hown := X.2.2.2.1
  have hts := X.2.2.2.2.1
  have hl : lv_has ls 1 [(0, .ref (A 0))] := hl
  unfold f7_cells at hf
  obtain ⟨H, eH⟩ : ∃ H, H = s.heap := ⟨_, rfl⟩
  obtain ⟨locs, eL⟩ : ∃ locs : List Loc, locs = [] := ⟨_, rfl⟩
  have hI : XI D cl (mw ci A d σ) A0 s.heap H locs := by rw [eH, eL]; exact hI
  rw [← eL]
  suffices h : W p l e r7_cells s m args below meth c H locs 0 0 Q (F0 m 0 ls []) by rw [eH] at h; exact h
  clear eH eL
  refine lv_aload_n hx hb dX7_cells_0 rfl (lv_at hl 0 rfl) ?_
  refine m_get (v := .ref (A 1)) X hI hc 1 (by decide) q2659 rfl dX7_cells_1 ?_
  refine lv_iconst (v := 3) hx hb dX7_cells_4 (by decide) ?_
  refine m_iald (k := 3) X hI 1 1 76 rfl rfl rfl dX7_cells_5 ?_
  exact hret hf hI dX7_cells_6
/-! isCell -/
def f7_isCell (p0 : Int32) (σ : MS) : oI Int32 :=
  bnd (f7_cells σ) fun r2 σ1 =>
  bn1 (f7_in p0.toInt64 0 ((r2 - 1).toInt64)) fun r3 =>
  grd (bZ r3) <|
  some (r3, σ1)
abbrev r7_isCell : Room := { frames := 1, cells := 0, slots := 0, locals := 25 }
theorem cw7_isCell {R : Room} {s : State} {args : Array Value} (ht : ∀ w ∈ lw_all, w.before args s = true) (hR : r7_isCell.frames + 1 ≤ R.frames ∧ 8 + (2 + 11) + r7_isCell.locals ≤ R.locals) : CallW R s args RX7 RX7 252 yX7_isCell cX7_isCell 2 (some .boolean) (ws_ yX7_isCell cX7_isCell 2 (some .boolean)) r7_isCell 0 0 1 :=
  cwV 1 ht (lw_V q2934 q2936 qs110 q178 q2937) rfl rfl rfl (by decide +kernel) hR
theorem m7_isCell (l : Launch) (D : va_G) (cl : vC2) (Z : (Nat → Prop) → State → Heap → Prop) (hz : ZK Z) (ci : Nat) (A : Nat → Nat) (d : Nat → ClassId) (tm : List (ClassId × FieldType)) (hc : cl.1[ci]? = some (RX7, TX7, 42)) (p0 : Int32) (σ : MS) (r : Int32) (σ' : MS) (hf : f7_isCell p0 σ = some (r, σ')) : MMi l yX7_isCell (ws_ yX7_isCell cX7_isCell 2 (some .boolean)) r7_isCell D cl Z ci A d tm σ [.int p0] r σ' := by
  refine m_openz hz (by decide) (by exact Nat.le_of_ble_eq_true rfl) (fun p e s m args below meth c ls A0 Q X hI hl hret => ?_)
  have X : XC p s m args meth c cX7_isCell 2 RX7 D cl (mty d tm) A0 Z := X
  have hx := X.1
  have hb := X.2.1
  have hown := X.2.2.2.1
  have hts := X.2.2.2.2.1
  have hl : lv_has ls 2 [(0, .ref (A 0)), (1, .int p0)] := hl
  unfold f7_isCell at hf
  obtain ⟨H, eH⟩ : ∃ H, H = s.heap := ⟨_, rfl⟩
  obtain ⟨locs, eL⟩ : ∃ locs : List Loc, locs = [] := ⟨_, rfl⟩
  have hI : XI D cl (mw ci A d σ) A0 s.heap H locs := by rw [eH, eL]; exact hI
  rw [← eL]
  suffices h : W p l e r7_isCell s m args below meth c H locs 0 0 Q (F0 m 0 ls []) by rw [eH] at h; exact h
  clear eH eL
  refine lv_iload_n hx hb dX7_isCell_0 rfl (lv_at hl 1 rfl) ?_
  refine lv_i2l hx hb dX7_isCell_1 rfl ?_
  refine lv_lconst (v := 0) hx hb dX7_isCell_2 (by decide) ?_
  refine lv_aload_n hx hb dX7_isCell_3 rfl (lv_at hl 0 rfl) ?_
  obtain ⟨r2, σ1, hσ1, hf⟩ := bnd_some hf
  refine m_calli X hI hc [] (m7_cells l D cl Z hz ci A d tm hc σ r2 σ1 hσ1) (cw7_cells hts ⟨Nat.le_of_ble_eq_true rfl, Nat.le_of_ble_eq_true rfl⟩) rfl hl.1 (Nat.le_of_ble_eq_true rfl) rfl dX7_isCell_4 ⟨Nat.le_of_ble_eq_true rfl, Nat.le_of_ble_eq_true rfl⟩ (fun H locs hI => ?_)
  refine lv_iconst (v := 1) hx hb dX7_isCell_7 (by decide) ?_
  refine lv_isub hx hb dX7_isCell_8 ?_
  refine lv_i2l hx hb dX7_isCell_9 rfl ?_
  obtain ⟨r3, hr3, hf⟩ := bn1_some hf
  refine x_callSi (As := [.long p0.toInt64, .long 0, .long ((r2 - 1).toInt64)]) X hI (m7_in l p0.toInt64 0 ((r2 - 1).toInt64) r3 hr3) (cw7_in hts ⟨Nat.le_of_ble_eq_true rfl, Nat.le_of_ble_eq_true rfl⟩) rfl hl.1 (Nat.le_of_ble_eq_true rfl) rfl dX7_isCell_10 ⟨Nat.le_of_ble_eq_true rfl, Nat.le_of_ble_eq_true rfl⟩ (fun H locs hI => ?_)
  obtain ⟨g4, hf⟩ := grd_some hf
  exact hret hf g4 hI dX7_isCell_13
/-! cell -/
def f7_cell (p0 : Int32) (σ : MS) : oI Int32 :=
  bnd (f7_isCell p0 σ) fun r2 σ1 =>
  if r2 = 0 then (some ((-2), σ1)) else (grd (inB ((8 : Int32) + p0) 76) <|
  some (gA σ1 1 ((8 : Int32) + p0).toNatClampNeg, σ1))
abbrev r7_cell : Room := { frames := 2, cells := 0, slots := 0, locals := 46 }
theorem m7_cell (l : Launch) (D : va_G) (cl : vC2) (Z : (Nat → Prop) → State → Heap → Prop) (hz : ZK Z) (ci : Nat) (A : Nat → Nat) (d : Nat → ClassId) (tm : List (ClassId × FieldType)) (hc : cl.1[ci]? = some (RX7, TX7, 42)) (p0 : Int32) (σ : MS) (r : Int32) (σ' : MS) (hf : f7_cell p0 σ = some (r, σ')) : MMi l yX7_cell (ws_ yX7_cell cX7_cell 2 (some .int)) r7_cell D cl Z ci A d tm σ [.int p0] r σ' := by
  refine m_openi hz (by decide) (by exact Nat.le_of_ble_eq_true rfl) (fun p e s m args below meth c ls A0 Q X hI hl hret => ?_)
  have X : XC p s m args meth c cX7_cell 2 RX7 D cl (mty d tm) A0 Z := X
  have hx := X.1
  have hb := X.2.1
  have hown := X.2.2.2.1
  have hts := X.2.2.2.2.1
  have hl : lv_has ls 2 [(0, .ref (A 0)), (1, .int p0)] := hl
  unfold f7_cell at hf
  obtain ⟨H, eH⟩ : ∃ H, H = s.heap := ⟨_, rfl⟩
  obtain ⟨locs, eL⟩ : ∃ locs : List Loc, locs = [] := ⟨_, rfl⟩
  have hI : XI D cl (mw ci A d σ) A0 s.heap H locs := by rw [eH, eL]; exact hI
  rw [← eL]
  suffices h : W p l e r7_cell s m args below meth c H locs 0 0 Q (F0 m 0 ls []) by rw [eH] at h; exact h
  clear eH eL
  refine lv_aload_n hx hb dX7_cell_0 rfl (lv_at hl 0 rfl) ?_
  refine lv_iload_n hx hb dX7_cell_1 rfl (lv_at hl 1 rfl) ?_
  obtain ⟨r2, σ1, hσ1, hf⟩ := bnd_some hf
  refine m_calli X hI hc [.int p0] (m7_isCell l D cl Z hz ci A d tm hc p0 σ r2 σ1 hσ1) (cw7_isCell hts ⟨Nat.le_of_ble_eq_true rfl, Nat.le_of_ble_eq_true rfl⟩) rfl hl.1 (Nat.le_of_ble_eq_true rfl) rfl dX7_cell_2 ⟨Nat.le_of_ble_eq_true rfl, Nat.le_of_ble_eq_true rfl⟩ (fun H locs hI => ?_)
  refine lv_if_eq (tgt := 20) hx hb dX7_cell_5 (by decide) (fun c3 => ?_) (fun c3 => ?_)
  · have hf := o_pos hf c3
    refine lv_bipush (v := -2) hx hb dX7_cell_20 (by decide) ?_
    exact hret hf hI dX7_cell_22
  · have hf := o_neg hf c3
    refine lv_aload_n hx hb dX7_cell_8 rfl (lv_at hl 0 rfl) ?_
    refine m_get (v := .ref (A 1)) X hI hc 1 (by decide) q2659 rfl dX7_cell_9 ?_
    refine lv_bipush (v := 8) hx hb dX7_cell_12 (by decide) ?_
    refine lv_iload_n hx hb dX7_cell_14 rfl (lv_at hl 1 rfl) ?_
    refine lv_iadd hx hb dX7_cell_15 ?_
    obtain ⟨g4, hf⟩ := grd_some hf
    refine m_iald X hI 1 1 76 rfl rfl g4 dX7_cell_16 ?_
    refine lv_goto (tgt := 22) hx hb dX7_cell_17 (by decide) ?_
    exact hret hf hI dX7_cell_22
/-! rules -/
def f7_rules (σ : MS) : oI Int32 :=
  some (gA σ 1 4, σ)
abbrev r7_rules : Room := { frames := 0, cells := 0, slots := 0, locals := 0 }
theorem cw7_rules {R : Room} {s : State} {args : Array Value} (ht : ∀ w ∈ lw_all, w.before args s = true) (hR : r7_rules.frames + 1 ≤ R.frames ∧ 8 + (1 + 11) + r7_rules.locals ≤ R.locals) : CallW R s args RX7 RX7 80 yX7_rules cX7_rules 1 (some .int) (ws_ yX7_rules cX7_rules 1 (some .int)) r7_rules 0 0 0 :=
  cwV 0 ht (lw_V q2950 q2952 qs113 q178 q2953) rfl rfl rfl (by decide +kernel) hR
theorem m7_rules (l : Launch) (D : va_G) (cl : vC2) (Z : (Nat → Prop) → State → Heap → Prop) (hz : ZK Z) (ci : Nat) (A : Nat → Nat) (d : Nat → ClassId) (tm : List (ClassId × FieldType)) (hc : cl.1[ci]? = some (RX7, TX7, 42)) (σ : MS) (r : Int32) (σ' : MS) (hf : f7_rules σ = some (r, σ')) : MMi l yX7_rules (ws_ yX7_rules cX7_rules 1 (some .int)) r7_rules D cl Z ci A d tm σ [] r σ' := by
  refine m_openi hz (by decide) (by exact Nat.le_of_ble_eq_true rfl) (fun p e s m args below meth c ls A0 Q X hI hl hret => ?_)
  have X : XC p s m args meth c cX7_rules 1 RX7 D cl (mty d tm) A0 Z := X
  have hx := X.1
  have hb := X.2.1
  have hown := X.2.2.2.1
  have hts := X.2.2.2.2.1
  have hl : lv_has ls 1 [(0, .ref (A 0))] := hl
  unfold f7_rules at hf
  obtain ⟨H, eH⟩ : ∃ H, H = s.heap := ⟨_, rfl⟩
  obtain ⟨locs, eL⟩ : ∃ locs : List Loc, locs = [] := ⟨_, rfl⟩
  have hI : XI D cl (mw ci A d σ) A0 s.heap H locs := by rw [eH, eL]; exact hI
  rw [← eL]
  suffices h : W p l e r7_rules s m args below meth c H locs 0 0 Q (F0 m 0 ls []) by rw [eH] at h; exact h
  clear eH eL
  refine lv_aload_n hx hb dX7_rules_0 rfl (lv_at hl 0 rfl) ?_
  refine m_get (v := .ref (A 1)) X hI hc 1 (by decide) q2659 rfl dX7_rules_1 ?_
  refine lv_iconst (v := 4) hx hb dX7_rules_4 (by decide) ?_
  refine m_iald (k := 4) X hI 1 1 76 rfl rfl rfl dX7_rules_5 ?_
  exact hret hf hI dX7_rules_6
/-! isRule -/
def f7_isRule (p0 : Int32) (σ : MS) : oI Int32 :=
  bnd (f7_rules σ) fun r2 σ1 =>
  bn1 (f7_in p0.toInt64 0 ((r2 - 1).toInt64)) fun r3 =>
  grd (bZ r3) <|
  some (r3, σ1)
abbrev r7_isRule : Room := { frames := 1, cells := 0, slots := 0, locals := 25 }
theorem cw7_isRule {R : Room} {s : State} {args : Array Value} (ht : ∀ w ∈ lw_all, w.before args s = true) (hR : r7_isRule.frames + 1 ≤ R.frames ∧ 8 + (2 + 11) + r7_isRule.locals ≤ R.locals) : CallW R s args RX7 RX7 256 yX7_isRule cX7_isRule 2 (some .boolean) (ws_ yX7_isRule cX7_isRule 2 (some .boolean)) r7_isRule 0 0 1 :=
  cwV 1 ht (lw_V q2946 q2948 qs112 q178 q2949) rfl rfl rfl (by decide +kernel) hR
theorem m7_isRule (l : Launch) (D : va_G) (cl : vC2) (Z : (Nat → Prop) → State → Heap → Prop) (hz : ZK Z) (ci : Nat) (A : Nat → Nat) (d : Nat → ClassId) (tm : List (ClassId × FieldType)) (hc : cl.1[ci]? = some (RX7, TX7, 42)) (p0 : Int32) (σ : MS) (r : Int32) (σ' : MS) (hf : f7_isRule p0 σ = some (r, σ')) : MMi l yX7_isRule (ws_ yX7_isRule cX7_isRule 2 (some .boolean)) r7_isRule D cl Z ci A d tm σ [.int p0] r σ' := by
  refine m_openz hz (by decide) (by exact Nat.le_of_ble_eq_true rfl) (fun p e s m args below meth c ls A0 Q X hI hl hret => ?_)
  have X : XC p s m args meth c cX7_isRule 2 RX7 D cl (mty d tm) A0 Z := X
  have hx := X.1
  have hb := X.2.1
  have hown := X.2.2.2.1
  have hts := X.2.2.2.2.1
  have hl : lv_has ls 2 [(0, .ref (A 0)), (1, .int p0)] := hl
  unfold f7_isRule at hf
  obtain ⟨H, eH⟩ : ∃ H, H = s.heap := ⟨_, rfl⟩
  obtain ⟨locs, eL⟩ : ∃ locs : List Loc, locs = [] := ⟨_, rfl⟩
  have hI : XI D cl (mw ci A d σ) A0 s.heap H locs := by rw [eH, eL]; exact hI
  rw [← eL]
  suffices h : W p l e r7_isRule s m args below meth c H locs 0 0 Q (F0 m 0 ls []) by rw [eH] at h; exact h
  clear eH eL
  refine lv_iload_n hx hb dX7_isRule_0 rfl (lv_at hl 1 rfl) ?_
  refine lv_i2l hx hb dX7_isRule_1 rfl ?_
  refine lv_lconst (v := 0) hx hb dX7_isRule_2 (by decide) ?_
  refine lv_aload_n hx hb dX7_isRule_3 rfl (lv_at hl 0 rfl) ?_
  obtain ⟨r2, σ1, hσ1, hf⟩ := bnd_some hf
  refine m_calli X hI hc [] (m7_rules l D cl Z hz ci A d tm hc σ r2 σ1 hσ1) (cw7_rules hts ⟨Nat.le_of_ble_eq_true rfl, Nat.le_of_ble_eq_true rfl⟩) rfl hl.1 (Nat.le_of_ble_eq_true rfl) rfl dX7_isRule_4 ⟨Nat.le_of_ble_eq_true rfl, Nat.le_of_ble_eq_true rfl⟩ (fun H locs hI => ?_)
  refine lv_iconst (v := 1) hx hb dX7_isRule_7 (by decide) ?_
  refine lv_isub hx hb dX7_isRule_8 ?_
  refine lv_i2l hx hb dX7_isRule_9 rfl ?_
  obtain ⟨r3, hr3, hf⟩ := bn1_some hf
  refine x_callSi (As := [.long p0.toInt64, .long 0, .long ((r2 - 1).toInt64)]) X hI (m7_in l p0.toInt64 0 ((r2 - 1).toInt64) r3 hr3) (cw7_in hts ⟨Nat.le_of_ble_eq_true rfl, Nat.le_of_ble_eq_true rfl⟩) rfl hl.1 (Nat.le_of_ble_eq_true rfl) rfl dX7_isRule_10 ⟨Nat.le_of_ble_eq_true rfl, Nat.le_of_ble_eq_true rfl⟩ (fun H locs hI => ?_)
  obtain ⟨g4, hf⟩ := grd_some hf
  exact hret hf g4 hI dX7_isRule_13
/-! ruleOf -/
def f7_ruleOf (p0 : Int32) (p1 : Int32) (σ : MS) : oI Int32 :=
  grd (inB (((11 : Int32) + ((5 : Int32) * p0)) + p1) 76) <|
  some (gA σ 1 (((11 : Int32) + ((5 : Int32) * p0)) + p1).toNatClampNeg, σ)
abbrev r7_ruleOf : Room := { frames := 0, cells := 0, slots := 0, locals := 0 }
theorem cw7_ruleOf {R : Room} {s : State} {args : Array Value} (ht : ∀ w ∈ lw_all, w.before args s = true) (hR : r7_ruleOf.frames + 1 ≤ R.frames ∧ 8 + (3 + 11) + r7_ruleOf.locals ≤ R.locals) : CallW R s args RX7 RX7 261 yX7_ruleOf cX7_ruleOf 3 (some .int) (ws_ yX7_ruleOf cX7_ruleOf 3 (some .int)) r7_ruleOf 0 0 2 :=
  cwV 2 ht (lw_V q2955 q2957 qs114 q178 q2958) rfl rfl rfl (by decide +kernel) hR
theorem m7_ruleOf (l : Launch) (D : va_G) (cl : vC2) (Z : (Nat → Prop) → State → Heap → Prop) (hz : ZK Z) (ci : Nat) (A : Nat → Nat) (d : Nat → ClassId) (tm : List (ClassId × FieldType)) (hc : cl.1[ci]? = some (RX7, TX7, 42)) (p0 : Int32) (p1 : Int32) (σ : MS) (r : Int32) (σ' : MS) (hf : f7_ruleOf p0 p1 σ = some (r, σ')) : MMi l yX7_ruleOf (ws_ yX7_ruleOf cX7_ruleOf 3 (some .int)) r7_ruleOf D cl Z ci A d tm σ [.int p0, .int p1] r σ' := by
  refine m_openi hz (by decide) (by exact Nat.le_of_ble_eq_true rfl) (fun p e s m args below meth c ls A0 Q X hI hl hret => ?_)
  have X : XC p s m args meth c cX7_ruleOf 3 RX7 D cl (mty d tm) A0 Z := X
  have hx := X.1
  have hb := X.2.1
  have hown := X.2.2.2.1
  have hts := X.2.2.2.2.1
  have hl : lv_has ls 3 [(0, .ref (A 0)), (1, .int p0), (2, .int p1)] := hl
  unfold f7_ruleOf at hf
  obtain ⟨H, eH⟩ : ∃ H, H = s.heap := ⟨_, rfl⟩
  obtain ⟨locs, eL⟩ : ∃ locs : List Loc, locs = [] := ⟨_, rfl⟩
  have hI : XI D cl (mw ci A d σ) A0 s.heap H locs := by rw [eH, eL]; exact hI
  rw [← eL]
  suffices h : W p l e r7_ruleOf s m args below meth c H locs 0 0 Q (F0 m 0 ls []) by rw [eH] at h; exact h
  clear eH eL
  refine lv_aload_n hx hb dX7_ruleOf_0 rfl (lv_at hl 0 rfl) ?_
  refine m_get (v := .ref (A 1)) X hI hc 1 (by decide) q2659 rfl dX7_ruleOf_1 ?_
  refine lv_bipush (v := 11) hx hb dX7_ruleOf_4 (by decide) ?_
  refine lv_iconst (v := 5) hx hb dX7_ruleOf_6 (by decide) ?_
  refine lv_iload_n hx hb dX7_ruleOf_7 rfl (lv_at hl 1 rfl) ?_
  refine lv_imul hx hb dX7_ruleOf_8 ?_
  refine lv_iadd hx hb dX7_ruleOf_9 ?_
  refine lv_iload_n hx hb dX7_ruleOf_10 rfl (lv_at hl 2 rfl) ?_
  refine lv_iadd hx hb dX7_ruleOf_11 ?_
  obtain ⟨g1, hf⟩ := grd_some hf
  refine m_iald X hI 1 1 76 rfl rfl g1 dX7_ruleOf_12 ?_
  exact hret hf hI dX7_ruleOf_13
/-! ruleNumbers -/
def f7_ruleNumbers (p0 : Int32) : Option Int32 :=
  if p0 = 3 then (some 3) else (if p0 = 5 then (some 4) else (some 2))
abbrev r7_ruleNumbers : Room := { frames := 0, cells := 0, slots := 0, locals := 0 }
theorem cw7_ruleNumbers {R : Room} {s : State} {args : Array Value} (ht : ∀ w ∈ lw_all, w.before args s = true) (hR : r7_ruleNumbers.frames + 1 ≤ R.frames ∧ 8 + (1 + 11) + r7_ruleNumbers.locals ≤ R.locals) : CallB R s args RX7 264 yX7_ruleNumbers cX7_ruleNumbers 1 (some .int) (ws_ yX7_ruleNumbers cX7_ruleNumbers 1 (some .int)) r7_ruleNumbers 0 0 1 ∧ (Cond.static yX7_ruleNumbers).before args s = true :=
  va_cwS 1 ht (lw_S q2959 q2960 q178 q2961) rfl rfl rfl (by decide +kernel) hR
theorem m7_ruleNumbers (l : Launch) (p0 : Int32) (r : Int32) (hf : f7_ruleNumbers p0 = some r) : XPi l yX7_ruleNumbers (ws_ yX7_ruleNumbers cX7_ruleNumbers 1 (some .int)) r7_ruleNumbers [.int p0] r := by
  refine s_openi (by decide) (by exact Nat.le_of_ble_eq_true rfl) (fun p e s m args below meth c ls A0 Q D cl tys X hI hl hret => ?_)
  have X : XC p s m args meth c cX7_ruleNumbers 1 RX7 D cl tys A0 ZT := X
  have hx := X.1
  have hb := X.2.1
  have hown := X.2.2.2.1
  have hts := X.2.2.2.2.1
  have hl : lv_has ls 1 [(0, .int p0)] := hl
  unfold f7_ruleNumbers at hf
  obtain ⟨H, eH⟩ : ∃ H, H = s.heap := ⟨_, rfl⟩
  obtain ⟨locs, eL⟩ : ∃ locs : List Loc, locs = [] := ⟨_, rfl⟩
  have hI : XI D cl [] A0 s.heap H locs := by rw [eH, eL]; exact hI
  rw [← eL]
  suffices h : W p l e r7_ruleNumbers s m args below meth c H locs 0 0 Q (F0 m 0 ls []) by rw [eH] at h; exact h
  clear eH eL
  refine lv_iload_n hx hb dX7_ruleNumbers_0 rfl (lv_at hl 0 rfl) ?_
  refine lv_iconst (v := 3) hx hb dX7_ruleNumbers_1 (by decide) ?_
  refine lv_icmp_ne (tgt := 9) hx hb dX7_ruleNumbers_2 (by decide) (fun c1 => ?_) (fun c1 => ?_)
  · have hf := o_neg hf c1
    refine lv_iload_n hx hb dX7_ruleNumbers_9 rfl (lv_at hl 0 rfl) ?_
    refine lv_iconst (v := 5) hx hb dX7_ruleNumbers_10 (by decide) ?_
    refine lv_icmp_ne (tgt := 18) hx hb dX7_ruleNumbers_11 (by decide) (fun c2 => ?_) (fun c2 => ?_)
    · have hf := o_neg hf c2
      refine lv_iconst (v := 2) hx hb dX7_ruleNumbers_18 (by decide) ?_
      exact hret hf hI dX7_ruleNumbers_19
    · have hf := o_pos hf c2
      refine lv_iconst (v := 4) hx hb dX7_ruleNumbers_14 (by decide) ?_
      refine lv_goto (tgt := 19) hx hb dX7_ruleNumbers_15 (by decide) ?_
      exact hret hf hI dX7_ruleNumbers_19
  · have hf := o_pos hf c1
    refine lv_iconst (v := 3) hx hb dX7_ruleNumbers_5 (by decide) ?_
    refine lv_goto (tgt := 19) hx hb dX7_ruleNumbers_6 (by decide) ?_
    exact hret hf hI dX7_ruleNumbers_19
/-! rule -/
def f7_rule (p0 : Int32) (p1 : Int32) (σ : MS) : oI Int32 :=
  bnd (f7_isRule p0 σ) fun r2 σ1 =>
  if r2 = 0 then (some ((-2), σ1)) else (bn1 (f7_in p1.toInt64 0 4) fun r4 =>
  if r4 = 0 then (some ((-2), σ1)) else (bnd (f7_ruleOf p0 0 σ1) fun r7 σ6 =>
  bn1 (f7_ruleNumbers r7) fun r8 =>
  if r8 < p1 then (some ((-1), σ6)) else (bnd (f7_ruleOf p0 p1 σ6) fun r11 σ10 =>
  some (r11, σ10))))
abbrev r7_rule : Room := { frames := 2, cells := 0, slots := 0, locals := 46 }
theorem m7_rule (l : Launch) (D : va_G) (cl : vC2) (Z : (Nat → Prop) → State → Heap → Prop) (hz : ZK Z) (ci : Nat) (A : Nat → Nat) (d : Nat → ClassId) (tm : List (ClassId × FieldType)) (hc : cl.1[ci]? = some (RX7, TX7, 42)) (p0 : Int32) (p1 : Int32) (σ : MS) (r : Int32) (σ' : MS) (hf : f7_rule p0 p1 σ = some (r, σ')) : MMi l yX7_rule (ws_ yX7_rule cX7_rule 3 (some .int)) r7_rule D cl Z ci A d tm σ [.int p0, .int p1] r σ' := by
  refine m_openi hz (by decide) (by exact Nat.le_of_ble_eq_true rfl) (fun p e s m args below meth c ls A0 Q X hI hl hret => ?_)
  have X : XC p s m args meth c cX7_rule 3 RX7 D cl (mty d tm) A0 Z := X
  have hx := X.1
  have hb := X.2.1
  have hown := X.2.2.2.1
  have hts := X.2.2.2.2.1
  have hl : lv_has ls 3 [(0, .ref (A 0)), (1, .int p0), (2, .int p1)] := hl
  unfold f7_rule at hf
  obtain ⟨H, eH⟩ : ∃ H, H = s.heap := ⟨_, rfl⟩
  obtain ⟨locs, eL⟩ : ∃ locs : List Loc, locs = [] := ⟨_, rfl⟩
  have hI : XI D cl (mw ci A d σ) A0 s.heap H locs := by rw [eH, eL]; exact hI
  rw [← eL]
  suffices h : W p l e r7_rule s m args below meth c H locs 0 0 Q (F0 m 0 ls []) by rw [eH] at h; exact h
  clear eH eL
  refine lv_aload_n hx hb dX7_rule_0 rfl (lv_at hl 0 rfl) ?_
  refine lv_iload_n hx hb dX7_rule_1 rfl (lv_at hl 1 rfl) ?_
  obtain ⟨r2, σ1, hσ1, hf⟩ := bnd_some hf
  refine m_calli X hI hc [.int p0] (m7_isRule l D cl Z hz ci A d tm hc p0 σ r2 σ1 hσ1) (cw7_isRule hts ⟨Nat.le_of_ble_eq_true rfl, Nat.le_of_ble_eq_true rfl⟩) rfl hl.1 (Nat.le_of_ble_eq_true rfl) rfl dX7_rule_2 ⟨Nat.le_of_ble_eq_true rfl, Nat.le_of_ble_eq_true rfl⟩ (fun H locs hI => ?_)
  refine lv_if_eq (tgt := 20) hx hb dX7_rule_5 (by decide) (fun c3 => ?_) (fun c3 => ?_)
  · have hf := o_pos hf c3
    refine lv_bipush (v := -2) hx hb dX7_rule_20 (by decide) ?_
    exact hret hf hI dX7_rule_22
  · have hf := o_neg hf c3
    refine lv_iload_n hx hb dX7_rule_8 rfl (lv_at hl 2 rfl) ?_
    refine lv_i2l hx hb dX7_rule_9 rfl ?_
    refine lv_lconst (v := 0) hx hb dX7_rule_10 (by decide) ?_
    refine lv_ldc2 (v := 4) hx hb hown (hts _ q2954) dX7_rule_11 ?_
    obtain ⟨r4, hr4, hf⟩ := bn1_some hf
    refine x_callSi (As := [.long p1.toInt64, .long 0, .long 4]) X hI (m7_in l p1.toInt64 0 4 r4 hr4) (cw7_in hts ⟨Nat.le_of_ble_eq_true rfl, Nat.le_of_ble_eq_true rfl⟩) rfl hl.1 (Nat.le_of_ble_eq_true rfl) rfl dX7_rule_14 ⟨Nat.le_of_ble_eq_true rfl, Nat.le_of_ble_eq_true rfl⟩ (fun H locs hI => ?_)
    refine lv_if_ne (tgt := 23) hx hb dX7_rule_17 (by decide) (fun c5 => ?_) (fun c5 => ?_)
    · have hf := o_neg hf c5
      refine lv_iload_n hx hb dX7_rule_23 rfl (lv_at hl 2 rfl) ?_
      refine lv_aload_n hx hb dX7_rule_24 rfl (lv_at hl 0 rfl) ?_
      refine lv_iload_n hx hb dX7_rule_25 rfl (lv_at hl 1 rfl) ?_
      refine lv_iconst (v := 0) hx hb dX7_rule_26 (by decide) ?_
      obtain ⟨r7, σ6, hσ6, hf⟩ := bnd_some hf
      refine m_calli X hI hc [.int p0, .int 0] (m7_ruleOf l D cl Z hz ci A d tm hc p0 0 σ1 r7 σ6 hσ6) (cw7_ruleOf hts ⟨Nat.le_of_ble_eq_true rfl, Nat.le_of_ble_eq_true rfl⟩) rfl hl.1 (Nat.le_of_ble_eq_true rfl) rfl dX7_rule_27 ⟨Nat.le_of_ble_eq_true rfl, Nat.le_of_ble_eq_true rfl⟩ (fun H locs hI => ?_)
      obtain ⟨r8, hr8, hf⟩ := bn1_some hf
      refine x_callSi (As := [.int r7]) X hI (m7_ruleNumbers l r7 r8 hr8) (cw7_ruleNumbers hts ⟨Nat.le_of_ble_eq_true rfl, Nat.le_of_ble_eq_true rfl⟩) rfl hl.1 (Nat.le_of_ble_eq_true rfl) rfl dX7_rule_30 ⟨Nat.le_of_ble_eq_true rfl, Nat.le_of_ble_eq_true rfl⟩ (fun H locs hI => ?_)
      refine lv_icmp_gt (tgt := 45) hx hb dX7_rule_33 (by decide) (fun c9 => ?_) (fun c9 => ?_)
      · have hf := o_pos hf c9
        refine lv_iconst (v := -1) hx hb dX7_rule_45 (by decide) ?_
        exact hret hf hI dX7_rule_46
      · have hf := o_neg hf c9
        refine lv_aload_n hx hb dX7_rule_36 rfl (lv_at hl 0 rfl) ?_
        refine lv_iload_n hx hb dX7_rule_37 rfl (lv_at hl 1 rfl) ?_
        refine lv_iload_n hx hb dX7_rule_38 rfl (lv_at hl 2 rfl) ?_
        obtain ⟨r11, σ10, hσ10, hf⟩ := bnd_some hf
        refine m_calli X hI hc [.int p0, .int p1] (m7_ruleOf l D cl Z hz ci A d tm hc p0 p1 σ6 r11 σ10 hσ10) (cw7_ruleOf hts ⟨Nat.le_of_ble_eq_true rfl, Nat.le_of_ble_eq_true rfl⟩) rfl hl.1 (Nat.le_of_ble_eq_true rfl) rfl dX7_rule_39 ⟨Nat.le_of_ble_eq_true rfl, Nat.le_of_ble_eq_true rfl⟩ (fun H locs hI => ?_)
        refine lv_goto (tgt := 46) hx hb dX7_rule_42 (by decide) ?_
        exact hret hf hI dX7_rule_46
    · have hf := o_pos hf c5
      refine lv_bipush (v := -2) hx hb dX7_rule_20 (by decide) ?_
      exact hret hf hI dX7_rule_22
/-! ops -/
def f7_ops (σ : MS) : oI Int32 :=
  some (gA σ 1 5, σ)
abbrev r7_ops : Room := { frames := 0, cells := 0, slots := 0, locals := 0 }
theorem cw7_ops {R : Room} {s : State} {args : Array Value} (ht : ∀ w ∈ lw_all, w.before args s = true) (hR : r7_ops.frames + 1 ≤ R.frames ∧ 8 + (1 + 11) + r7_ops.locals ≤ R.locals) : CallW R s args RX7 RX7 84 yX7_ops cX7_ops 1 (some .int) (ws_ yX7_ops cX7_ops 1 (some .int)) r7_ops 0 0 0 :=
  cwV 0 ht (lw_V q2970 q2972 qs116 q178 q2973) rfl rfl rfl (by decide +kernel) hR
theorem m7_ops (l : Launch) (D : va_G) (cl : vC2) (Z : (Nat → Prop) → State → Heap → Prop) (hz : ZK Z) (ci : Nat) (A : Nat → Nat) (d : Nat → ClassId) (tm : List (ClassId × FieldType)) (hc : cl.1[ci]? = some (RX7, TX7, 42)) (σ : MS) (r : Int32) (σ' : MS) (hf : f7_ops σ = some (r, σ')) : MMi l yX7_ops (ws_ yX7_ops cX7_ops 1 (some .int)) r7_ops D cl Z ci A d tm σ [] r σ' := by
  refine m_openi hz (by decide) (by exact Nat.le_of_ble_eq_true rfl) (fun p e s m args below meth c ls A0 Q X hI hl hret => ?_)
  have X : XC p s m args meth c cX7_ops 1 RX7 D cl (mty d tm) A0 Z := X
  have hx := X.1
  have hb := X.2.1
  have hown := X.2.2.2.1
  have hts := X.2.2.2.2.1
  have hl : lv_has ls 1 [(0, .ref (A 0))] := hl
  unfold f7_ops at hf
  obtain ⟨H, eH⟩ : ∃ H, H = s.heap := ⟨_, rfl⟩
  obtain ⟨locs, eL⟩ : ∃ locs : List Loc, locs = [] := ⟨_, rfl⟩
  have hI : XI D cl (mw ci A d σ) A0 s.heap H locs := by rw [eH, eL]; exact hI
  rw [← eL]
  suffices h : W p l e r7_ops s m args below meth c H locs 0 0 Q (F0 m 0 ls []) by rw [eH] at h; exact h
  clear eH eL
  refine lv_aload_n hx hb dX7_ops_0 rfl (lv_at hl 0 rfl) ?_
  refine m_get (v := .ref (A 1)) X hI hc 1 (by decide) q2659 rfl dX7_ops_1 ?_
  refine lv_iconst (v := 5) hx hb dX7_ops_4 (by decide) ?_
  refine m_iald (k := 5) X hI 1 1 76 rfl rfl rfl dX7_ops_5 ?_
  exact hret hf hI dX7_ops_6
/-! isOp -/
def f7_isOp (p0 : Int32) (σ : MS) : oI Int32 :=
  bnd (f7_ops σ) fun r2 σ1 =>
  bn1 (f7_in p0.toInt64 0 ((r2 - 1).toInt64)) fun r3 =>
  grd (bZ r3) <|
  some (r3, σ1)
abbrev r7_isOp : Room := { frames := 1, cells := 0, slots := 0, locals := 25 }
theorem cw7_isOp {R : Room} {s : State} {args : Array Value} (ht : ∀ w ∈ lw_all, w.before args s = true) (hR : r7_isOp.frames + 1 ≤ R.frames ∧ 8 + (2 + 11) + r7_isOp.locals ≤ R.locals) : CallW R s args RX7 RX7 267 yX7_isOp cX7_isOp 2 (some .boolean) (ws_ yX7_isOp cX7_isOp 2 (some .boolean)) r7_isOp 0 0 1 :=
  cwV 1 ht (lw_V q2966 q2968 qs115 q178 q2969) rfl rfl rfl (by decide +kernel) hR
theorem m7_isOp (l : Launch) (D : va_G) (cl : vC2) (Z : (Nat → Prop) → State → Heap → Prop) (hz : ZK Z) (ci : Nat) (A : Nat → Nat) (d : Nat → ClassId) (tm : List (ClassId × FieldType)) (hc : cl.1[ci]? = some (RX7, TX7, 42)) (p0 : Int32) (σ : MS) (r : Int32) (σ' : MS) (hf : f7_isOp p0 σ = some (r, σ')) : MMi l yX7_isOp (ws_ yX7_isOp cX7_isOp 2 (some .boolean)) r7_isOp D cl Z ci A d tm σ [.int p0] r σ' := by
  refine m_openz hz (by decide) (by exact Nat.le_of_ble_eq_true rfl) (fun p e s m args below meth c ls A0 Q X hI hl hret => ?_)
  have X : XC p s m args meth c cX7_isOp 2 RX7 D cl (mty d tm) A0 Z := X
  have hx := X.1
  have hb := X.2.1
  have hown := X.2.2.2.1
  have hts := X.2.2.2.2.1
  have hl : lv_has ls 2 [(0, .ref (A 0)), (1, .int p0)] := hl
  unfold f7_isOp at hf
  obtain ⟨H, eH⟩ : ∃ H, H = s.heap := ⟨_, rfl⟩
  obtain ⟨locs, eL⟩ : ∃ locs : List Loc, locs = [] := ⟨_, rfl⟩
  have hI : XI D cl (mw ci A d σ) A0 s.heap H locs := by rw [eH, eL]; exact hI
  rw [← eL]
  suffices h : W p l e r7_isOp s m args below meth c H locs 0 0 Q (F0 m 0 ls []) by rw [eH] at h; exact h
  clear eH eL
  refine lv_iload_n hx hb dX7_isOp_0 rfl (lv_at hl 1 rfl) ?_
  refine lv_i2l hx hb dX7_isOp_1 rfl ?_
  refine lv_lconst (v := 0) hx hb dX7_isOp_2 (by decide) ?_
  refine lv_aload_n hx hb dX7_isOp_3 rfl (lv_at hl 0 rfl) ?_
  obtain ⟨r2, σ1, hσ1, hf⟩ := bnd_some hf
  refine m_calli X hI hc [] (m7_ops l D cl Z hz ci A d tm hc σ r2 σ1 hσ1) (cw7_ops hts ⟨Nat.le_of_ble_eq_true rfl, Nat.le_of_ble_eq_true rfl⟩) rfl hl.1 (Nat.le_of_ble_eq_true rfl) rfl dX7_isOp_4 ⟨Nat.le_of_ble_eq_true rfl, Nat.le_of_ble_eq_true rfl⟩ (fun H locs hI => ?_)
  refine lv_iconst (v := 1) hx hb dX7_isOp_7 (by decide) ?_
  refine lv_isub hx hb dX7_isOp_8 ?_
  refine lv_i2l hx hb dX7_isOp_9 rfl ?_
  obtain ⟨r3, hr3, hf⟩ := bn1_some hf
  refine x_callSi (As := [.long p0.toInt64, .long 0, .long ((r2 - 1).toInt64)]) X hI (m7_in l p0.toInt64 0 ((r2 - 1).toInt64) r3 hr3) (cw7_in hts ⟨Nat.le_of_ble_eq_true rfl, Nat.le_of_ble_eq_true rfl⟩) rfl hl.1 (Nat.le_of_ble_eq_true rfl) rfl dX7_isOp_10 ⟨Nat.le_of_ble_eq_true rfl, Nat.le_of_ble_eq_true rfl⟩ (fun H locs hI => ?_)
  obtain ⟨g4, hf⟩ := grd_some hf
  exact hret hf g4 hI dX7_isOp_13
/-! opOf -/
def f7_opOf (p0 : Int32) (p1 : Int32) (σ : MS) : oI Int32 :=
  grd (inB (((36 : Int32) + ((4 : Int32) * p0)) + p1) 76) <|
  some (gA σ 1 (((36 : Int32) + ((4 : Int32) * p0)) + p1).toNatClampNeg, σ)
abbrev r7_opOf : Room := { frames := 0, cells := 0, slots := 0, locals := 0 }
theorem cw7_opOf {R : Room} {s : State} {args : Array Value} (ht : ∀ w ∈ lw_all, w.before args s = true) (hR : r7_opOf.frames + 1 ≤ R.frames ∧ 8 + (3 + 11) + r7_opOf.locals ≤ R.locals) : CallW R s args RX7 RX7 270 yX7_opOf cX7_opOf 3 (some .int) (ws_ yX7_opOf cX7_opOf 3 (some .int)) r7_opOf 0 0 2 :=
  cwV 2 ht (lw_V q2975 q2977 qs117 q178 q2978) rfl rfl rfl (by decide +kernel) hR
theorem m7_opOf (l : Launch) (D : va_G) (cl : vC2) (Z : (Nat → Prop) → State → Heap → Prop) (hz : ZK Z) (ci : Nat) (A : Nat → Nat) (d : Nat → ClassId) (tm : List (ClassId × FieldType)) (hc : cl.1[ci]? = some (RX7, TX7, 42)) (p0 : Int32) (p1 : Int32) (σ : MS) (r : Int32) (σ' : MS) (hf : f7_opOf p0 p1 σ = some (r, σ')) : MMi l yX7_opOf (ws_ yX7_opOf cX7_opOf 3 (some .int)) r7_opOf D cl Z ci A d tm σ [.int p0, .int p1] r σ' := by
  refine m_openi hz (by decide) (by exact Nat.le_of_ble_eq_true rfl) (fun p e s m args below meth c ls A0 Q X hI hl hret => ?_)
  have X : XC p s m args meth c cX7_opOf 3 RX7 D cl (mty d tm) A0 Z := X
  have hx := X.1
  have hb := X.2.1
  have hown := X.2.2.2.1
  have hts := X.2.2.2.2.1
  have hl : lv_has ls 3 [(0, .ref (A 0)), (1, .int p0), (2, .int p1)] := hl
  unfold f7_opOf at hf
  obtain ⟨H, eH⟩ : ∃ H, H = s.heap := ⟨_, rfl⟩
  obtain ⟨locs, eL⟩ : ∃ locs : List Loc, locs = [] := ⟨_, rfl⟩
  have hI : XI D cl (mw ci A d σ) A0 s.heap H locs := by rw [eH, eL]; exact hI
  rw [← eL]
  suffices h : W p l e r7_opOf s m args below meth c H locs 0 0 Q (F0 m 0 ls []) by rw [eH] at h; exact h
  clear eH eL
  refine lv_aload_n hx hb dX7_opOf_0 rfl (lv_at hl 0 rfl) ?_
  refine m_get (v := .ref (A 1)) X hI hc 1 (by decide) q2659 rfl dX7_opOf_1 ?_
  refine lv_bipush (v := 36) hx hb dX7_opOf_4 (by decide) ?_
  refine lv_iconst (v := 4) hx hb dX7_opOf_6 (by decide) ?_
  refine lv_iload_n hx hb dX7_opOf_7 rfl (lv_at hl 1 rfl) ?_
  refine lv_imul hx hb dX7_opOf_8 ?_
  refine lv_iadd hx hb dX7_opOf_9 ?_
  refine lv_iload_n hx hb dX7_opOf_10 rfl (lv_at hl 2 rfl) ?_
  refine lv_iadd hx hb dX7_opOf_11 ?_
  obtain ⟨g1, hf⟩ := grd_some hf
  refine m_iald X hI 1 1 76 rfl rfl g1 dX7_opOf_12 ?_
  exact hret hf hI dX7_opOf_13
/-! opNumbers -/
def f7_opNumbers (p0 : Int32) : Option Int32 :=
  if p0 = 3 then (some 3) else (some 2)
abbrev r7_opNumbers : Room := { frames := 0, cells := 0, slots := 0, locals := 0 }
theorem cw7_opNumbers {R : Room} {s : State} {args : Array Value} (ht : ∀ w ∈ lw_all, w.before args s = true) (hR : r7_opNumbers.frames + 1 ≤ R.frames ∧ 8 + (1 + 11) + r7_opNumbers.locals ≤ R.locals) : CallB R s args RX7 273 yX7_opNumbers cX7_opNumbers 1 (some .int) (ws_ yX7_opNumbers cX7_opNumbers 1 (some .int)) r7_opNumbers 0 0 1 ∧ (Cond.static yX7_opNumbers).before args s = true :=
  va_cwS 1 ht (lw_S q2979 q2980 q178 q2981) rfl rfl rfl (by decide +kernel) hR
theorem m7_opNumbers (l : Launch) (p0 : Int32) (r : Int32) (hf : f7_opNumbers p0 = some r) : XPi l yX7_opNumbers (ws_ yX7_opNumbers cX7_opNumbers 1 (some .int)) r7_opNumbers [.int p0] r := by
  refine s_openi (by decide) (by exact Nat.le_of_ble_eq_true rfl) (fun p e s m args below meth c ls A0 Q D cl tys X hI hl hret => ?_)
  have X : XC p s m args meth c cX7_opNumbers 1 RX7 D cl tys A0 ZT := X
  have hx := X.1
  have hb := X.2.1
  have hown := X.2.2.2.1
  have hts := X.2.2.2.2.1
  have hl : lv_has ls 1 [(0, .int p0)] := hl
  unfold f7_opNumbers at hf
  obtain ⟨H, eH⟩ : ∃ H, H = s.heap := ⟨_, rfl⟩
  obtain ⟨locs, eL⟩ : ∃ locs : List Loc, locs = [] := ⟨_, rfl⟩
  have hI : XI D cl [] A0 s.heap H locs := by rw [eH, eL]; exact hI
  rw [← eL]
  suffices h : W p l e r7_opNumbers s m args below meth c H locs 0 0 Q (F0 m 0 ls []) by rw [eH] at h; exact h
  clear eH eL
  refine lv_iload_n hx hb dX7_opNumbers_0 rfl (lv_at hl 0 rfl) ?_
  refine lv_iconst (v := 3) hx hb dX7_opNumbers_1 (by decide) ?_
  refine lv_icmp_ne (tgt := 9) hx hb dX7_opNumbers_2 (by decide) (fun c1 => ?_) (fun c1 => ?_)
  · have hf := o_neg hf c1
    refine lv_iconst (v := 2) hx hb dX7_opNumbers_9 (by decide) ?_
    exact hret hf hI dX7_opNumbers_10
  · have hf := o_pos hf c1
    refine lv_iconst (v := 3) hx hb dX7_opNumbers_5 (by decide) ?_
    refine lv_goto (tgt := 10) hx hb dX7_opNumbers_6 (by decide) ?_
    exact hret hf hI dX7_opNumbers_10
/-! op -/
def f7_op (p0 : Int32) (p1 : Int32) (σ : MS) : oI Int32 :=
  bnd (f7_isOp p0 σ) fun r2 σ1 =>
  if r2 = 0 then (some ((-2), σ1)) else (bn1 (f7_in p1.toInt64 0 3) fun r4 =>
  if r4 = 0 then (some ((-2), σ1)) else (bnd (f7_opOf p0 0 σ1) fun r7 σ6 =>
  bn1 (f7_opNumbers r7) fun r8 =>
  if r8 < p1 then (some ((-1), σ6)) else (bnd (f7_opOf p0 p1 σ6) fun r11 σ10 =>
  some (r11, σ10))))
abbrev r7_op : Room := { frames := 2, cells := 0, slots := 0, locals := 46 }
theorem m7_op (l : Launch) (D : va_G) (cl : vC2) (Z : (Nat → Prop) → State → Heap → Prop) (hz : ZK Z) (ci : Nat) (A : Nat → Nat) (d : Nat → ClassId) (tm : List (ClassId × FieldType)) (hc : cl.1[ci]? = some (RX7, TX7, 42)) (p0 : Int32) (p1 : Int32) (σ : MS) (r : Int32) (σ' : MS) (hf : f7_op p0 p1 σ = some (r, σ')) : MMi l yX7_op (ws_ yX7_op cX7_op 3 (some .int)) r7_op D cl Z ci A d tm σ [.int p0, .int p1] r σ' := by
  refine m_openi hz (by decide) (by exact Nat.le_of_ble_eq_true rfl) (fun p e s m args below meth c ls A0 Q X hI hl hret => ?_)
  have X : XC p s m args meth c cX7_op 3 RX7 D cl (mty d tm) A0 Z := X
  have hx := X.1
  have hb := X.2.1
  have hown := X.2.2.2.1
  have hts := X.2.2.2.2.1
  have hl : lv_has ls 3 [(0, .ref (A 0)), (1, .int p0), (2, .int p1)] := hl
  unfold f7_op at hf
  obtain ⟨H, eH⟩ : ∃ H, H = s.heap := ⟨_, rfl⟩
  obtain ⟨locs, eL⟩ : ∃ locs : List Loc, locs = [] := ⟨_, rfl⟩
  have hI : XI D cl (mw ci A d σ) A0 s.heap H locs := by rw [eH, eL]; exact hI
  rw [← eL]
  suffices h : W p l e r7_op s m args below meth c H locs 0 0 Q (F0 m 0 ls []) by rw [eH] at h; exact h
  clear eH eL
  refine lv_aload_n hx hb dX7_op_0 rfl (lv_at hl 0 rfl) ?_
  refine lv_iload_n hx hb dX7_op_1 rfl (lv_at hl 1 rfl) ?_
  obtain ⟨r2, σ1, hσ1, hf⟩ := bnd_some hf
  refine m_calli X hI hc [.int p0] (m7_isOp l D cl Z hz ci A d tm hc p0 σ r2 σ1 hσ1) (cw7_isOp hts ⟨Nat.le_of_ble_eq_true rfl, Nat.le_of_ble_eq_true rfl⟩) rfl hl.1 (Nat.le_of_ble_eq_true rfl) rfl dX7_op_2 ⟨Nat.le_of_ble_eq_true rfl, Nat.le_of_ble_eq_true rfl⟩ (fun H locs hI => ?_)
  refine lv_if_eq (tgt := 20) hx hb dX7_op_5 (by decide) (fun c3 => ?_) (fun c3 => ?_)
  · have hf := o_pos hf c3
    refine lv_bipush (v := -2) hx hb dX7_op_20 (by decide) ?_
    exact hret hf hI dX7_op_22
  · have hf := o_neg hf c3
    refine lv_iload_n hx hb dX7_op_8 rfl (lv_at hl 2 rfl) ?_
    refine lv_i2l hx hb dX7_op_9 rfl ?_
    refine lv_lconst (v := 0) hx hb dX7_op_10 (by decide) ?_
    refine lv_ldc2 (v := 3) hx hb hown (hts _ q2974) dX7_op_11 ?_
    obtain ⟨r4, hr4, hf⟩ := bn1_some hf
    refine x_callSi (As := [.long p1.toInt64, .long 0, .long 3]) X hI (m7_in l p1.toInt64 0 3 r4 hr4) (cw7_in hts ⟨Nat.le_of_ble_eq_true rfl, Nat.le_of_ble_eq_true rfl⟩) rfl hl.1 (Nat.le_of_ble_eq_true rfl) rfl dX7_op_14 ⟨Nat.le_of_ble_eq_true rfl, Nat.le_of_ble_eq_true rfl⟩ (fun H locs hI => ?_)
    refine lv_if_ne (tgt := 23) hx hb dX7_op_17 (by decide) (fun c5 => ?_) (fun c5 => ?_)
    · have hf := o_neg hf c5
      refine lv_iload_n hx hb dX7_op_23 rfl (lv_at hl 2 rfl) ?_
      refine lv_aload_n hx hb dX7_op_24 rfl (lv_at hl 0 rfl) ?_
      refine lv_iload_n hx hb dX7_op_25 rfl (lv_at hl 1 rfl) ?_
      refine lv_iconst (v := 0) hx hb dX7_op_26 (by decide) ?_
      obtain ⟨r7, σ6, hσ6, hf⟩ := bnd_some hf
      refine m_calli X hI hc [.int p0, .int 0] (m7_opOf l D cl Z hz ci A d tm hc p0 0 σ1 r7 σ6 hσ6) (cw7_opOf hts ⟨Nat.le_of_ble_eq_true rfl, Nat.le_of_ble_eq_true rfl⟩) rfl hl.1 (Nat.le_of_ble_eq_true rfl) rfl dX7_op_27 ⟨Nat.le_of_ble_eq_true rfl, Nat.le_of_ble_eq_true rfl⟩ (fun H locs hI => ?_)
      obtain ⟨r8, hr8, hf⟩ := bn1_some hf
      refine x_callSi (As := [.int r7]) X hI (m7_opNumbers l r7 r8 hr8) (cw7_opNumbers hts ⟨Nat.le_of_ble_eq_true rfl, Nat.le_of_ble_eq_true rfl⟩) rfl hl.1 (Nat.le_of_ble_eq_true rfl) rfl dX7_op_30 ⟨Nat.le_of_ble_eq_true rfl, Nat.le_of_ble_eq_true rfl⟩ (fun H locs hI => ?_)
      refine lv_icmp_gt (tgt := 45) hx hb dX7_op_33 (by decide) (fun c9 => ?_) (fun c9 => ?_)
      · have hf := o_pos hf c9
        refine lv_iconst (v := -1) hx hb dX7_op_45 (by decide) ?_
        exact hret hf hI dX7_op_46
      · have hf := o_neg hf c9
        refine lv_aload_n hx hb dX7_op_36 rfl (lv_at hl 0 rfl) ?_
        refine lv_iload_n hx hb dX7_op_37 rfl (lv_at hl 1 rfl) ?_
        refine lv_iload_n hx hb dX7_op_38 rfl (lv_at hl 2 rfl) ?_
        obtain ⟨r11, σ10, hσ10, hf⟩ := bnd_some hf
        refine m_calli X hI hc [.int p0, .int p1] (m7_opOf l D cl Z hz ci A d tm hc p0 p1 σ6 r11 σ10 hσ10) (cw7_opOf hts ⟨Nat.le_of_ble_eq_true rfl, Nat.le_of_ble_eq_true rfl⟩) rfl hl.1 (Nat.le_of_ble_eq_true rfl) rfl dX7_op_39 ⟨Nat.le_of_ble_eq_true rfl, Nat.le_of_ble_eq_true rfl⟩ (fun H locs hI => ?_)
        refine lv_goto (tgt := 46) hx hb dX7_op_42 (by decide) ?_
        exact hret hf hI dX7_op_46
    · have hf := o_pos hf c5
      refine lv_bipush (v := -2) hx hb dX7_op_20 (by decide) ?_
      exact hret hf hI dX7_op_22
/-! isBase -/
def f7_isBase (σ : MS) : oI Int32 :=
  if (gA σ 1 7) ≤ 0 then (some (0, σ)) else (some (1, σ))
abbrev r7_isBase : Room := { frames := 0, cells := 0, slots := 0, locals := 0 }
theorem cw7_isBase {R : Room} {s : State} {args : Array Value} (ht : ∀ w ∈ lw_all, w.before args s = true) (hR : r7_isBase.frames + 1 ≤ R.frames ∧ 8 + (1 + 11) + r7_isBase.locals ≤ R.locals) : CallW R s args RX7 RX7 92 yX7_isBase cX7_isBase 1 (some .boolean) (ws_ yX7_isBase cX7_isBase 1 (some .boolean)) r7_isBase 0 0 0 :=
  cwV 0 ht (lw_V q2986 q2988 qs118 q178 q2989) rfl rfl rfl (by decide +kernel) hR
theorem m7_isBase (l : Launch) (D : va_G) (cl : vC2) (Z : (Nat → Prop) → State → Heap → Prop) (hz : ZK Z) (ci : Nat) (A : Nat → Nat) (d : Nat → ClassId) (tm : List (ClassId × FieldType)) (hc : cl.1[ci]? = some (RX7, TX7, 42)) (σ : MS) (r : Int32) (σ' : MS) (hf : f7_isBase σ = some (r, σ')) : MMi l yX7_isBase (ws_ yX7_isBase cX7_isBase 1 (some .boolean)) r7_isBase D cl Z ci A d tm σ [] r σ' := by
  refine m_openz hz (by decide) (by exact Nat.le_of_ble_eq_true rfl) (fun p e s m args below meth c ls A0 Q X hI hl hret => ?_)
  have X : XC p s m args meth c cX7_isBase 1 RX7 D cl (mty d tm) A0 Z := X
  have hx := X.1
  have hb := X.2.1
  have hown := X.2.2.2.1
  have hts := X.2.2.2.2.1
  have hl : lv_has ls 1 [(0, .ref (A 0))] := hl
  unfold f7_isBase at hf
  obtain ⟨H, eH⟩ : ∃ H, H = s.heap := ⟨_, rfl⟩
  obtain ⟨locs, eL⟩ : ∃ locs : List Loc, locs = [] := ⟨_, rfl⟩
  have hI : XI D cl (mw ci A d σ) A0 s.heap H locs := by rw [eH, eL]; exact hI
  rw [← eL]
  suffices h : W p l e r7_isBase s m args below meth c H locs 0 0 Q (F0 m 0 ls []) by rw [eH] at h; exact h
  clear eH eL
  refine lv_aload_n hx hb dX7_isBase_0 rfl (lv_at hl 0 rfl) ?_
  refine m_get (v := .ref (A 1)) X hI hc 1 (by decide) q2659 rfl dX7_isBase_1 ?_
  refine lv_bipush (v := 7) hx hb dX7_isBase_4 (by decide) ?_
  refine m_iald (k := 7) X hI 1 1 76 rfl rfl rfl dX7_isBase_6 ?_
  refine lv_if_le (tgt := 14) hx hb dX7_isBase_7 (by decide) (fun c1 => ?_) (fun c1 => ?_)
  · have hf := o_pos hf c1
    refine lv_iconst (v := 0) hx hb dX7_isBase_14 (by decide) ?_
    exact hret hf rfl hI dX7_isBase_15
  · have hf := o_neg hf c1
    refine lv_iconst (v := 1) hx hb dX7_isBase_10 (by decide) ?_
    refine lv_goto (tgt := 15) hx hb dX7_isBase_11 (by decide) ?_
    exact hret hf rfl hI dX7_isBase_15
/-! stateMany -/
def f7_stateMany_b4 (K4 : Int32 → Int32 → MS → oI Int32) (x1 : Int32) (x2 : Int32) (σ : MS) : oI Int32 :=
  bnd (f7_cells σ) fun r2 σ1 =>
  if r2 ≤ x2 then (some (x1, σ1)) else (K4 (x1 * ((gA σ1 1 0) + 1)) (x2 + 1) σ1)
def f7_stateMany_l4 : Nat → Int32 → Int32 → MS → oI Int32
  | 0 => fun _ _ _ => none
  | n + 1 => fun x1 x2 σ => f7_stateMany_b4 (f7_stateMany_l4 n) x1 x2 σ
def f7_stateMany (σ : MS) : oI Int32 :=
  f7_stateMany_l4 FU 1 0 σ
abbrev r7_stateMany : Room := { frames := 1, cells := 0, slots := 0, locals := 20 }
theorem cw7_stateMany {R : Room} {s : State} {args : Array Value} (ht : ∀ w ∈ lw_all, w.before args s = true) (hR : r7_stateMany.frames + 1 ≤ R.frames ∧ 8 + (3 + 11) + r7_stateMany.locals ≤ R.locals) : CallW R s args RX7 RX7 96 yX7_stateMany cX7_stateMany 3 (some .int) (ws_ yX7_stateMany cX7_stateMany 3 (some .int)) r7_stateMany 0 0 0 :=
  cwV 0 ht (lw_V q2990 q2992 qs119 q178 q2993) rfl rfl rfl (by decide +kernel) hR
theorem m7_stateMany (l : Launch) (D : va_G) (cl : vC2) (Z : (Nat → Prop) → State → Heap → Prop) (hz : ZK Z) (ci : Nat) (A : Nat → Nat) (d : Nat → ClassId) (tm : List (ClassId × FieldType)) (hc : cl.1[ci]? = some (RX7, TX7, 42)) (σ : MS) (r : Int32) (σ' : MS) (hf : f7_stateMany σ = some (r, σ')) : MMi l yX7_stateMany (ws_ yX7_stateMany cX7_stateMany 3 (some .int)) r7_stateMany D cl Z ci A d tm σ [] r σ' := by
  refine m_openi hz (by decide) (by exact Nat.le_of_ble_eq_true rfl) (fun p e s m args below meth c ls A0 Q X hI hl hret => ?_)
  have X : XC p s m args meth c cX7_stateMany 3 RX7 D cl (mty d tm) A0 Z := X
  have hx := X.1
  have hb := X.2.1
  have hown := X.2.2.2.1
  have hts := X.2.2.2.2.1
  have L4 : ∀ (n : Nat) (x1 : Int32) (x2 : Int32) (σ : MS), f7_stateMany_l4 n x1 x2 σ = some (r, σ') → ∀ (H : Heap) (locs : List Loc), XI D cl (mw ci A d σ) A0 s.heap H locs → ∀ (ls : Array Slot), lv_has ls 3 [(0, .ref (A 0)), (1, .int x1), (2, .int x2)] → W p l e r7_stateMany s m args below meth c H locs 0 0 Q (F0 m 4 ls []) := by
    intro n4
    induction n4 with
    | zero => intro x1 x2 σ hf; cases hf
    | succ n4 ih4 =>
      intro x1 x2 σ hf H locs hI ls hl
      have hf : f7_stateMany_b4 (f7_stateMany_l4 n4) x1 x2 σ = some (r, σ') := hf
      unfold f7_stateMany_b4 at hf
      refine lv_iload_n hx hb dX7_stateMany_4 rfl (lv_at hl 2 rfl) ?_
      refine lv_aload_n hx hb dX7_stateMany_5 rfl (lv_at hl 0 rfl) ?_
      obtain ⟨r2, σ1, hσ1, hf⟩ := bnd_some hf
      refine m_calli X hI hc [] (m7_cells l D cl Z hz ci A d tm hc σ r2 σ1 hσ1) (cw7_cells hts ⟨Nat.le_of_ble_eq_true rfl, Nat.le_of_ble_eq_true rfl⟩) rfl hl.1 (Nat.le_of_ble_eq_true rfl) rfl dX7_stateMany_6 ⟨Nat.le_of_ble_eq_true rfl, Nat.le_of_ble_eq_true rfl⟩ (fun H locs hI => ?_)
      refine lv_icmp_ge (tgt := 29) hx hb dX7_stateMany_9 (by decide) (fun c3 => ?_) (fun c3 => ?_)
      · have hf := o_pos hf c3
        refine lv_iload_n hx hb dX7_stateMany_29 rfl (lv_at hl 1 rfl) ?_
        exact hret hf hI dX7_stateMany_30
      · have hf := o_neg hf c3
        refine lv_iload_n hx hb dX7_stateMany_12 rfl (lv_at hl 1 rfl) ?_
        refine lv_aload_n hx hb dX7_stateMany_13 rfl (lv_at hl 0 rfl) ?_
        refine m_get (v := .ref (A 1)) X hI hc 1 (by decide) q2659 rfl dX7_stateMany_14 ?_
        refine lv_iconst (v := 0) hx hb dX7_stateMany_17 (by decide) ?_
        refine m_iald (k := 0) X hI 1 1 76 rfl rfl rfl dX7_stateMany_18 ?_
        refine lv_iconst (v := 1) hx hb dX7_stateMany_19 (by decide) ?_
        refine lv_iadd hx hb dX7_stateMany_20 ?_
        refine lv_imul hx hb dX7_stateMany_21 ?_
        refine lv_istore_n (lv' := [(1, .int (x1 * ((gA σ1 1 0) + 1))), (0, .ref (A 0)), (2, .int x2)]) hx hb dX7_stateMany_22 rfl hl (by decide) rfl (fun ls hl => ?_)
        refine lv_iinc (v := x2 + 1) (lv' := [(2, .int (x2 + 1)), (1, .int (x1 * ((gA σ1 1 0) + 1))), (0, .ref (A 0))]) hx hb dX7_stateMany_23 hl (k := 2) rfl rfl (by decide) rfl (fun ls hl => ?_)
        refine lv_goto (tgt := 4) hx hb dX7_stateMany_26 (by decide) ?_
        exact ih4 (x1 * ((gA σ1 1 0) + 1)) (x2 + 1) σ1 hf H locs hI ls (lv_sub hl [2, 1, 0] rfl)
  have hl : lv_has ls 3 [(0, .ref (A 0))] := hl
  unfold f7_stateMany at hf
  obtain ⟨H, eH⟩ : ∃ H, H = s.heap := ⟨_, rfl⟩
  obtain ⟨locs, eL⟩ : ∃ locs : List Loc, locs = [] := ⟨_, rfl⟩
  have hI : XI D cl (mw ci A d σ) A0 s.heap H locs := by rw [eH, eL]; exact hI
  rw [← eL]
  suffices h : W p l e r7_stateMany s m args below meth c H locs 0 0 Q (F0 m 0 ls []) by rw [eH] at h; exact h
  clear eH eL
  refine lv_iconst (v := 1) hx hb dX7_stateMany_0 (by decide) ?_
  refine lv_istore_n (lv' := [(1, .int 1), (0, .ref (A 0))]) hx hb dX7_stateMany_1 rfl hl (by decide) rfl (fun ls hl => ?_)
  refine lv_iconst (v := 0) hx hb dX7_stateMany_2 (by decide) ?_
  refine lv_istore_n (lv' := [(2, .int 0), (1, .int 1), (0, .ref (A 0))]) hx hb dX7_stateMany_3 rfl hl (by decide) rfl (fun ls hl => ?_)
  exact L4 FU 1 0 σ hf H locs hI ls (lv_sub hl [2, 1, 0] rfl)
/-! states -/
def f7_states (σ : MS) : oI Int32 :=
  bnd (f7_isBase σ) fun r2 σ1 =>
  if r2 = 0 then (some ((-2), σ1)) else (bnd (f7_stateMany σ1) fun r5 σ4 =>
  some (r5, σ4))
abbrev r7_states : Room := { frames := 2, cells := 0, slots := 0, locals := 42 }
theorem m7_states (l : Launch) (D : va_G) (cl : vC2) (Z : (Nat → Prop) → State → Heap → Prop) (hz : ZK Z) (ci : Nat) (A : Nat → Nat) (d : Nat → ClassId) (tm : List (ClassId × FieldType)) (hc : cl.1[ci]? = some (RX7, TX7, 42)) (σ : MS) (r : Int32) (σ' : MS) (hf : f7_states σ = some (r, σ')) : MMi l yX7_states (ws_ yX7_states cX7_states 1 (some .int)) r7_states D cl Z ci A d tm σ [] r σ' := by
  refine m_openi hz (by decide) (by exact Nat.le_of_ble_eq_true rfl) (fun p e s m args below meth c ls A0 Q X hI hl hret => ?_)
  have X : XC p s m args meth c cX7_states 1 RX7 D cl (mty d tm) A0 Z := X
  have hx := X.1
  have hb := X.2.1
  have hown := X.2.2.2.1
  have hts := X.2.2.2.2.1
  have hl : lv_has ls 1 [(0, .ref (A 0))] := hl
  unfold f7_states at hf
  obtain ⟨H, eH⟩ : ∃ H, H = s.heap := ⟨_, rfl⟩
  obtain ⟨locs, eL⟩ : ∃ locs : List Loc, locs = [] := ⟨_, rfl⟩
  have hI : XI D cl (mw ci A d σ) A0 s.heap H locs := by rw [eH, eL]; exact hI
  rw [← eL]
  suffices h : W p l e r7_states s m args below meth c H locs 0 0 Q (F0 m 0 ls []) by rw [eH] at h; exact h
  clear eH eL
  refine lv_aload_n hx hb dX7_states_0 rfl (lv_at hl 0 rfl) ?_
  obtain ⟨r2, σ1, hσ1, hf⟩ := bnd_some hf
  refine m_calli X hI hc [] (m7_isBase l D cl Z hz ci A d tm hc σ r2 σ1 hσ1) (cw7_isBase hts ⟨Nat.le_of_ble_eq_true rfl, Nat.le_of_ble_eq_true rfl⟩) rfl hl.1 (Nat.le_of_ble_eq_true rfl) rfl dX7_states_1 ⟨Nat.le_of_ble_eq_true rfl, Nat.le_of_ble_eq_true rfl⟩ (fun H locs hI => ?_)
  refine lv_if_eq (tgt := 14) hx hb dX7_states_4 (by decide) (fun c3 => ?_) (fun c3 => ?_)
  · have hf := o_pos hf c3
    refine lv_bipush (v := -2) hx hb dX7_states_14 (by decide) ?_
    exact hret hf hI dX7_states_16
  · have hf := o_neg hf c3
    refine lv_aload_n hx hb dX7_states_7 rfl (lv_at hl 0 rfl) ?_
    obtain ⟨r5, σ4, hσ4, hf⟩ := bnd_some hf
    refine m_calli X hI hc [] (m7_stateMany l D cl Z hz ci A d tm hc σ1 r5 σ4 hσ4) (cw7_stateMany hts ⟨Nat.le_of_ble_eq_true rfl, Nat.le_of_ble_eq_true rfl⟩) rfl hl.1 (Nat.le_of_ble_eq_true rfl) rfl dX7_states_8 ⟨Nat.le_of_ble_eq_true rfl, Nat.le_of_ble_eq_true rfl⟩ (fun H locs hI => ?_)
    refine lv_goto (tgt := 16) hx hb dX7_states_11 (by decide) ?_
    exact hret hf hI dX7_states_16
/-! isState -/
def f7_isState (p0 : Int64) (σ : MS) : oI Int32 :=
  bnd (f7_isBase σ) fun r2 σ1 =>
  if r2 = 0 then (some (0, σ1)) else (bnd (f7_stateMany σ1) fun r5 σ4 =>
  bn1 (f7_in p0 0 ((r5 - 1).toInt64)) fun r6 =>
  if r6 = 0 then (some (0, σ4)) else (some (1, σ4)))
abbrev r7_isState : Room := { frames := 2, cells := 0, slots := 0, locals := 42 }
theorem cw7_isState {R : Room} {s : State} {args : Array Value} (ht : ∀ w ∈ lw_all, w.before args s = true) (hR : r7_isState.frames + 1 ≤ R.frames ∧ 8 + (3 + 11) + r7_isState.locals ≤ R.locals) : CallW R s args RX7 RX7 314 yX7_isState cX7_isState 3 (some .boolean) (ws_ yX7_isState cX7_isState 3 (some .boolean)) r7_isState 0 0 1 :=
  cwV 1 ht (lw_V q2998 q3000 qs120 q178 q3001) rfl rfl rfl (by decide +kernel) hR
theorem m7_isState (l : Launch) (D : va_G) (cl : vC2) (Z : (Nat → Prop) → State → Heap → Prop) (hz : ZK Z) (ci : Nat) (A : Nat → Nat) (d : Nat → ClassId) (tm : List (ClassId × FieldType)) (hc : cl.1[ci]? = some (RX7, TX7, 42)) (p0 : Int64) (σ : MS) (r : Int32) (σ' : MS) (hf : f7_isState p0 σ = some (r, σ')) : MMi l yX7_isState (ws_ yX7_isState cX7_isState 3 (some .boolean)) r7_isState D cl Z ci A d tm σ [.long p0] r σ' := by
  refine m_openz hz (by decide) (by exact Nat.le_of_ble_eq_true rfl) (fun p e s m args below meth c ls A0 Q X hI hl hret => ?_)
  have X : XC p s m args meth c cX7_isState 3 RX7 D cl (mty d tm) A0 Z := X
  have hx := X.1
  have hb := X.2.1
  have hown := X.2.2.2.1
  have hts := X.2.2.2.2.1
  have hl : lv_has ls 3 [(0, .ref (A 0)), (1, .long p0)] := hl
  unfold f7_isState at hf
  obtain ⟨H, eH⟩ : ∃ H, H = s.heap := ⟨_, rfl⟩
  obtain ⟨locs, eL⟩ : ∃ locs : List Loc, locs = [] := ⟨_, rfl⟩
  have hI : XI D cl (mw ci A d σ) A0 s.heap H locs := by rw [eH, eL]; exact hI
  rw [← eL]
  suffices h : W p l e r7_isState s m args below meth c H locs 0 0 Q (F0 m 0 ls []) by rw [eH] at h; exact h
  clear eH eL
  refine lv_aload_n hx hb dX7_isState_0 rfl (lv_at hl 0 rfl) ?_
  obtain ⟨r2, σ1, hσ1, hf⟩ := bnd_some hf
  refine m_calli X hI hc [] (m7_isBase l D cl Z hz ci A d tm hc σ r2 σ1 hσ1) (cw7_isBase hts ⟨Nat.le_of_ble_eq_true rfl, Nat.le_of_ble_eq_true rfl⟩) rfl hl.1 (Nat.le_of_ble_eq_true rfl) rfl dX7_isState_1 ⟨Nat.le_of_ble_eq_true rfl, Nat.le_of_ble_eq_true rfl⟩ (fun H locs hI => ?_)
  refine lv_if_eq (tgt := 26) hx hb dX7_isState_4 (by decide) (fun c3 => ?_) (fun c3 => ?_)
  · have hf := o_pos hf c3
    refine lv_iconst (v := 0) hx hb dX7_isState_26 (by decide) ?_
    exact hret hf rfl hI dX7_isState_27
  · have hf := o_neg hf c3
    refine lv_lload_n hx hb dX7_isState_7 rfl (lv_at hl 1 rfl) ?_
    refine lv_lconst (v := 0) hx hb dX7_isState_8 (by decide) ?_
    refine lv_aload_n hx hb dX7_isState_9 rfl (lv_at hl 0 rfl) ?_
    obtain ⟨r5, σ4, hσ4, hf⟩ := bnd_some hf
    refine m_calli X hI hc [] (m7_stateMany l D cl Z hz ci A d tm hc σ1 r5 σ4 hσ4) (cw7_stateMany hts ⟨Nat.le_of_ble_eq_true rfl, Nat.le_of_ble_eq_true rfl⟩) rfl hl.1 (Nat.le_of_ble_eq_true rfl) rfl dX7_isState_10 ⟨Nat.le_of_ble_eq_true rfl, Nat.le_of_ble_eq_true rfl⟩ (fun H locs hI => ?_)
    refine lv_iconst (v := 1) hx hb dX7_isState_13 (by decide) ?_
    refine lv_isub hx hb dX7_isState_14 ?_
    refine lv_i2l hx hb dX7_isState_15 rfl ?_
    obtain ⟨r6, hr6, hf⟩ := bn1_some hf
    refine x_callSi (As := [.long p0, .long 0, .long ((r5 - 1).toInt64)]) X hI (m7_in l p0 0 ((r5 - 1).toInt64) r6 hr6) (cw7_in hts ⟨Nat.le_of_ble_eq_true rfl, Nat.le_of_ble_eq_true rfl⟩) rfl hl.1 (Nat.le_of_ble_eq_true rfl) rfl dX7_isState_16 ⟨Nat.le_of_ble_eq_true rfl, Nat.le_of_ble_eq_true rfl⟩ (fun H locs hI => ?_)
    refine lv_if_eq (tgt := 26) hx hb dX7_isState_19 (by decide) (fun c7 => ?_) (fun c7 => ?_)
    · have hf := o_pos hf c7
      refine lv_iconst (v := 0) hx hb dX7_isState_26 (by decide) ?_
      exact hret hf rfl hI dX7_isState_27
    · have hf := o_neg hf c7
      refine lv_iconst (v := 1) hx hb dX7_isState_22 (by decide) ?_
      refine lv_goto (tgt := 27) hx hb dX7_isState_23 (by decide) ?_
      exact hret hf rfl hI dX7_isState_27
/-! valueOf -/
def f7_valueOf_b5 (K5 : Int32 → Int32 → Int32 → MS → oI Int32) (x2 : Int32) (x3 : Int32) (x4 : Int32) (σ : MS) : oI Int32 :=
  if x2 ≤ x4 then (grd (nz ((gA σ 1 0) + 1)) <|
  some (x3 - x3 / ((gA σ 1 0) + 1) * ((gA σ 1 0) + 1), σ)) else (grd (nz ((gA σ 1 0) + 1)) <|
  K5 x2 (x3 / ((gA σ 1 0) + 1)) (x4 + 1) σ)
def f7_valueOf_l5 : Nat → Int32 → Int32 → Int32 → MS → oI Int32
  | 0 => fun _ _ _ _ => none
  | n + 1 => fun x2 x3 x4 σ => f7_valueOf_b5 (f7_valueOf_l5 n) x2 x3 x4 σ
def f7_valueOf (p0 : Int32) (p1 : Int32) (σ : MS) : oI Int32 :=
  f7_valueOf_l5 FU p1 p0 0 σ
abbrev r7_valueOf : Room := { frames := 0, cells := 0, slots := 0, locals := 0 }
theorem cw7_valueOf {R : Room} {s : State} {args : Array Value} (ht : ∀ w ∈ lw_all, w.before args s = true) (hR : r7_valueOf.frames + 1 ≤ R.frames ∧ 8 + (5 + 11) + r7_valueOf.locals ≤ R.locals) : CallW R s args RX7 RX7 285 yX7_valueOf cX7_valueOf 5 (some .int) (ws_ yX7_valueOf cX7_valueOf 5 (some .int)) r7_valueOf 0 0 2 :=
  cwV 2 ht (lw_V q3002 q3004 qs121 q178 q3005) rfl rfl rfl (by decide +kernel) hR
theorem m7_valueOf (l : Launch) (D : va_G) (cl : vC2) (Z : (Nat → Prop) → State → Heap → Prop) (hz : ZK Z) (ci : Nat) (A : Nat → Nat) (d : Nat → ClassId) (tm : List (ClassId × FieldType)) (hc : cl.1[ci]? = some (RX7, TX7, 42)) (p0 : Int32) (p1 : Int32) (σ : MS) (r : Int32) (σ' : MS) (hf : f7_valueOf p0 p1 σ = some (r, σ')) : MMi l yX7_valueOf (ws_ yX7_valueOf cX7_valueOf 5 (some .int)) r7_valueOf D cl Z ci A d tm σ [.int p0, .int p1] r σ' := by
  refine m_openi hz (by decide) (by exact Nat.le_of_ble_eq_true rfl) (fun p e s m args below meth c ls A0 Q X hI hl hret => ?_)
  have X : XC p s m args meth c cX7_valueOf 5 RX7 D cl (mty d tm) A0 Z := X
  have hx := X.1
  have hb := X.2.1
  have hown := X.2.2.2.1
  have hts := X.2.2.2.2.1
  have L5 : ∀ (n : Nat) (x2 : Int32) (x3 : Int32) (x4 : Int32) (σ : MS), f7_valueOf_l5 n x2 x3 x4 σ = some (r, σ') → ∀ (H : Heap) (locs : List Loc), XI D cl (mw ci A d σ) A0 s.heap H locs → ∀ (ls : Array Slot), lv_has ls 5 [(0, .ref (A 0)), (2, .int x2), (3, .int x3), (4, .int x4)] → W p l e r7_valueOf s m args below meth c H locs 0 0 Q (F0 m 5 ls []) := by
    intro n5
    induction n5 with
    | zero => intro x2 x3 x4 σ hf; cases hf
    | succ n5 ih5 =>
      intro x2 x3 x4 σ hf H locs hI ls hl
      have hf : f7_valueOf_b5 (f7_valueOf_l5 n5) x2 x3 x4 σ = some (r, σ') := hf
      unfold f7_valueOf_b5 at hf
      refine lv_iload hx hb dX7_valueOf_5 (lv_at hl 3 rfl) ?_
      refine lv_iload_n hx hb dX7_valueOf_7 rfl (lv_at hl 1 rfl) ?_
      refine lv_icmp_ge (tgt := 28) hx hb dX7_valueOf_8 (by decide) (fun c1 => ?_) (fun c1 => ?_)
      · have hf := o_pos hf c1
        refine lv_iload_n hx hb dX7_valueOf_28 rfl (lv_at hl 2 rfl) ?_
        refine lv_aload_n hx hb dX7_valueOf_29 rfl (lv_at hl 0 rfl) ?_
        refine m_get (v := .ref (A 1)) X hI hc 1 (by decide) q2659 rfl dX7_valueOf_30 ?_
        refine lv_iconst (v := 0) hx hb dX7_valueOf_33 (by decide) ?_
        refine m_iald (k := 0) X hI 1 1 76 rfl rfl rfl dX7_valueOf_34 ?_
        refine lv_iconst (v := 1) hx hb dX7_valueOf_35 (by decide) ?_
        refine lv_iadd hx hb dX7_valueOf_36 ?_
        obtain ⟨g2, hf⟩ := grd_some hf
        refine lv_irem hx hb dX7_valueOf_37 (nz_n g2) ?_
        exact hret hf hI dX7_valueOf_38
      · have hf := o_neg hf c1
        refine lv_iload_n hx hb dX7_valueOf_11 rfl (lv_at hl 2 rfl) ?_
        refine lv_aload_n hx hb dX7_valueOf_12 rfl (lv_at hl 0 rfl) ?_
        refine m_get (v := .ref (A 1)) X hI hc 1 (by decide) q2659 rfl dX7_valueOf_13 ?_
        refine lv_iconst (v := 0) hx hb dX7_valueOf_16 (by decide) ?_
        refine m_iald (k := 0) X hI 1 1 76 rfl rfl rfl dX7_valueOf_17 ?_
        refine lv_iconst (v := 1) hx hb dX7_valueOf_18 (by decide) ?_
        refine lv_iadd hx hb dX7_valueOf_19 ?_
        obtain ⟨g3, hf⟩ := grd_some hf
        refine lv_idiv hx hb dX7_valueOf_20 (nz_n g3) ?_
        refine lv_istore_n (lv' := [(3, .int (x3 / ((gA σ 1 0) + 1))), (0, .ref (A 0)), (2, .int x2), (4, .int x4)]) hx hb dX7_valueOf_21 rfl hl (by decide) rfl (fun ls hl => ?_)
        refine lv_iinc (v := x4 + 1) (lv' := [(4, .int (x4 + 1)), (3, .int (x3 / ((gA σ 1 0) + 1))), (0, .ref (A 0)), (2, .int x2)]) hx hb dX7_valueOf_22 hl (k := 3) rfl rfl (by decide) rfl (fun ls hl => ?_)
        refine lv_goto (tgt := 5) hx hb dX7_valueOf_25 (by decide) ?_
        exact ih5 x2 (x3 / ((gA σ 1 0) + 1)) (x4 + 1) σ hf H locs hI ls (lv_sub hl [2, 3, 1, 0] rfl)
  have hl : lv_has ls 5 [(0, .ref (A 0)), (1, .int p0), (2, .int p1)] := hl
  unfold f7_valueOf at hf
  obtain ⟨H, eH⟩ : ∃ H, H = s.heap := ⟨_, rfl⟩
  obtain ⟨locs, eL⟩ : ∃ locs : List Loc, locs = [] := ⟨_, rfl⟩
  have hI : XI D cl (mw ci A d σ) A0 s.heap H locs := by rw [eH, eL]; exact hI
  rw [← eL]
  suffices h : W p l e r7_valueOf s m args below meth c H locs 0 0 Q (F0 m 0 ls []) by rw [eH] at h; exact h
  clear eH eL
  refine lv_iload_n hx hb dX7_valueOf_0 rfl (lv_at hl 1 rfl) ?_
  refine lv_istore_n (lv' := [(3, .int p0), (0, .ref (A 0)), (1, .int p0), (2, .int p1)]) hx hb dX7_valueOf_1 rfl hl (by decide) rfl (fun ls hl => ?_)
  refine lv_iconst (v := 0) hx hb dX7_valueOf_2 (by decide) ?_
  refine lv_istore (lv' := [(4, .int 0), (3, .int p0), (0, .ref (A 0)), (1, .int p0), (2, .int p1)]) hx hb dX7_valueOf_3 hl (by decide) rfl (fun ls hl => ?_)
  exact L5 FU p1 p0 0 σ hf H locs hI ls (lv_sub hl [2, 4, 1, 0] rfl)
/-! value -/
def f7_value (p0 : Int32) (p1 : Int32) (σ : MS) : oI Int32 :=
  bnd (f7_isState p0.toInt64 σ) fun r2 σ1 =>
  if r2 = 0 then (some ((-2), σ1)) else (bnd (f7_isCell p1 σ1) fun r5 σ4 =>
  if r5 = 0 then (some ((-2), σ4)) else (bnd (f7_valueOf p0 p1 σ4) fun r8 σ7 =>
  some (r8, σ7)))
abbrev r7_value : Room := { frames := 3, cells := 0, slots := 0, locals := 64 }
theorem m7_value (l : Launch) (D : va_G) (cl : vC2) (Z : (Nat → Prop) → State → Heap → Prop) (hz : ZK Z) (ci : Nat) (A : Nat → Nat) (d : Nat → ClassId) (tm : List (ClassId × FieldType)) (hc : cl.1[ci]? = some (RX7, TX7, 42)) (p0 : Int32) (p1 : Int32) (σ : MS) (r : Int32) (σ' : MS) (hf : f7_value p0 p1 σ = some (r, σ')) : MMi l yX7_value (ws_ yX7_value cX7_value 3 (some .int)) r7_value D cl Z ci A d tm σ [.int p0, .int p1] r σ' := by
  refine m_openi hz (by decide) (by exact Nat.le_of_ble_eq_true rfl) (fun p e s m args below meth c ls A0 Q X hI hl hret => ?_)
  have X : XC p s m args meth c cX7_value 3 RX7 D cl (mty d tm) A0 Z := X
  have hx := X.1
  have hb := X.2.1
  have hown := X.2.2.2.1
  have hts := X.2.2.2.2.1
  have hl : lv_has ls 3 [(0, .ref (A 0)), (1, .int p0), (2, .int p1)] := hl
  unfold f7_value at hf
  obtain ⟨H, eH⟩ : ∃ H, H = s.heap := ⟨_, rfl⟩
  obtain ⟨locs, eL⟩ : ∃ locs : List Loc, locs = [] := ⟨_, rfl⟩
  have hI : XI D cl (mw ci A d σ) A0 s.heap H locs := by rw [eH, eL]; exact hI
  rw [← eL]
  suffices h : W p l e r7_value s m args below meth c H locs 0 0 Q (F0 m 0 ls []) by rw [eH] at h; exact h
  clear eH eL
  refine lv_aload_n hx hb dX7_value_0 rfl (lv_at hl 0 rfl) ?_
  refine lv_iload_n hx hb dX7_value_1 rfl (lv_at hl 1 rfl) ?_
  refine lv_i2l hx hb dX7_value_2 rfl ?_
  obtain ⟨r2, σ1, hσ1, hf⟩ := bnd_some hf
  refine m_calli X hI hc [.long p0.toInt64] (m7_isState l D cl Z hz ci A d tm hc p0.toInt64 σ r2 σ1 hσ1) (cw7_isState hts ⟨Nat.le_of_ble_eq_true rfl, Nat.le_of_ble_eq_true rfl⟩) rfl hl.1 (Nat.le_of_ble_eq_true rfl) rfl dX7_value_3 ⟨Nat.le_of_ble_eq_true rfl, Nat.le_of_ble_eq_true rfl⟩ (fun H locs hI => ?_)
  refine lv_if_eq (tgt := 26) hx hb dX7_value_6 (by decide) (fun c3 => ?_) (fun c3 => ?_)
  · have hf := o_pos hf c3
    refine lv_bipush (v := -2) hx hb dX7_value_26 (by decide) ?_
    exact hret hf hI dX7_value_28
  · have hf := o_neg hf c3
    refine lv_aload_n hx hb dX7_value_9 rfl (lv_at hl 0 rfl) ?_
    refine lv_iload_n hx hb dX7_value_10 rfl (lv_at hl 2 rfl) ?_
    obtain ⟨r5, σ4, hσ4, hf⟩ := bnd_some hf
    refine m_calli X hI hc [.int p1] (m7_isCell l D cl Z hz ci A d tm hc p1 σ1 r5 σ4 hσ4) (cw7_isCell hts ⟨Nat.le_of_ble_eq_true rfl, Nat.le_of_ble_eq_true rfl⟩) rfl hl.1 (Nat.le_of_ble_eq_true rfl) rfl dX7_value_11 ⟨Nat.le_of_ble_eq_true rfl, Nat.le_of_ble_eq_true rfl⟩ (fun H locs hI => ?_)
    refine lv_if_eq (tgt := 26) hx hb dX7_value_14 (by decide) (fun c6 => ?_) (fun c6 => ?_)
    · have hf := o_pos hf c6
      refine lv_bipush (v := -2) hx hb dX7_value_26 (by decide) ?_
      exact hret hf hI dX7_value_28
    · have hf := o_neg hf c6
      refine lv_aload_n hx hb dX7_value_17 rfl (lv_at hl 0 rfl) ?_
      refine lv_iload_n hx hb dX7_value_18 rfl (lv_at hl 1 rfl) ?_
      refine lv_iload_n hx hb dX7_value_19 rfl (lv_at hl 2 rfl) ?_
      obtain ⟨r8, σ7, hσ7, hf⟩ := bnd_some hf
      refine m_calli X hI hc [.int p0, .int p1] (m7_valueOf l D cl Z hz ci A d tm hc p0 p1 σ4 r8 σ7 hσ7) (cw7_valueOf hts ⟨Nat.le_of_ble_eq_true rfl, Nat.le_of_ble_eq_true rfl⟩) rfl hl.1 (Nat.le_of_ble_eq_true rfl) rfl dX7_value_20 ⟨Nat.le_of_ble_eq_true rfl, Nat.le_of_ble_eq_true rfl⟩ (fun H locs hI => ?_)
      refine lv_goto (tgt := 28) hx hb dX7_value_23 (by decide) ?_
      exact hret hf hI dX7_value_28
/-! weight -/
def f7_weight_b16 (K16 : Int32 → Int32 → Int32 → MS → oI Int32) (x1 : Int32) (x2 : Int32) (x3 : Int32) (σ : MS) : oI Int32 :=
  bnd (f7_cells σ) fun r5 σ4 =>
  if r5 ≤ x3 then (some (x2, σ4)) else (bnd (f7_valueOf x1 x3 σ4) fun r8 σ7 =>
  K16 x1 (x2 + r8) (x3 + 1) σ7)
def f7_weight_l16 : Nat → Int32 → Int32 → Int32 → MS → oI Int32
  | 0 => fun _ _ _ _ => none
  | n + 1 => fun x1 x2 x3 σ => f7_weight_b16 (f7_weight_l16 n) x1 x2 x3 σ
def f7_weight (p0 : Int32) (σ : MS) : oI Int32 :=
  bnd (f7_isState p0.toInt64 σ) fun r2 σ1 =>
  if r2 = 0 then (some ((-2), σ1)) else (f7_weight_l16 FU p0 0 0 σ1)
abbrev r7_weight : Room := { frames := 3, cells := 0, slots := 0, locals := 64 }
theorem m7_weight (l : Launch) (D : va_G) (cl : vC2) (Z : (Nat → Prop) → State → Heap → Prop) (hz : ZK Z) (ci : Nat) (A : Nat → Nat) (d : Nat → ClassId) (tm : List (ClassId × FieldType)) (hc : cl.1[ci]? = some (RX7, TX7, 42)) (p0 : Int32) (σ : MS) (r : Int32) (σ' : MS) (hf : f7_weight p0 σ = some (r, σ')) : MMi l yX7_weight (ws_ yX7_weight cX7_weight 4 (some .int)) r7_weight D cl Z ci A d tm σ [.int p0] r σ' := by
  refine m_openi hz (by decide) (by exact Nat.le_of_ble_eq_true rfl) (fun p e s m args below meth c ls A0 Q X hI hl hret => ?_)
  have X : XC p s m args meth c cX7_weight 4 RX7 D cl (mty d tm) A0 Z := X
  have hx := X.1
  have hb := X.2.1
  have hown := X.2.2.2.1
  have hts := X.2.2.2.2.1
  have L16 : ∀ (n : Nat) (x1 : Int32) (x2 : Int32) (x3 : Int32) (σ : MS), f7_weight_l16 n x1 x2 x3 σ = some (r, σ') → ∀ (H : Heap) (locs : List Loc), XI D cl (mw ci A d σ) A0 s.heap H locs → ∀ (ls : Array Slot), lv_has ls 4 [(0, .ref (A 0)), (1, .int x1), (2, .int x2), (3, .int x3)] → W p l e r7_weight s m args below meth c H locs 0 0 Q (F0 m 16 ls []) := by
    intro n16
    induction n16 with
    | zero => intro x1 x2 x3 σ hf; cases hf
    | succ n16 ih16 =>
      intro x1 x2 x3 σ hf H locs hI ls hl
      have hf : f7_weight_b16 (f7_weight_l16 n16) x1 x2 x3 σ = some (r, σ') := hf
      unfold f7_weight_b16 at hf
      refine lv_iload_n hx hb dX7_weight_16 rfl (lv_at hl 3 rfl) ?_
      refine lv_aload_n hx hb dX7_weight_17 rfl (lv_at hl 0 rfl) ?_
      obtain ⟨r5, σ4, hσ4, hf⟩ := bnd_some hf
      refine m_calli X hI hc [] (m7_cells l D cl Z hz ci A d tm hc σ r5 σ4 hσ4) (cw7_cells hts ⟨Nat.le_of_ble_eq_true rfl, Nat.le_of_ble_eq_true rfl⟩) rfl hl.1 (Nat.le_of_ble_eq_true rfl) rfl dX7_weight_18 ⟨Nat.le_of_ble_eq_true rfl, Nat.le_of_ble_eq_true rfl⟩ (fun H locs hI => ?_)
      refine lv_icmp_ge (tgt := 39) hx hb dX7_weight_21 (by decide) (fun c6 => ?_) (fun c6 => ?_)
      · have hf := o_pos hf c6
        refine lv_iload_n hx hb dX7_weight_39 rfl (lv_at hl 2 rfl) ?_
        exact hret hf hI dX7_weight_40
      · have hf := o_neg hf c6
        refine lv_iload_n hx hb dX7_weight_24 rfl (lv_at hl 2 rfl) ?_
        refine lv_aload_n hx hb dX7_weight_25 rfl (lv_at hl 0 rfl) ?_
        refine lv_iload_n hx hb dX7_weight_26 rfl (lv_at hl 1 rfl) ?_
        refine lv_iload_n hx hb dX7_weight_27 rfl (lv_at hl 3 rfl) ?_
        obtain ⟨r8, σ7, hσ7, hf⟩ := bnd_some hf
        refine m_calli X hI hc [.int x1, .int x3] (m7_valueOf l D cl Z hz ci A d tm hc x1 x3 σ4 r8 σ7 hσ7) (cw7_valueOf hts ⟨Nat.le_of_ble_eq_true rfl, Nat.le_of_ble_eq_true rfl⟩) rfl hl.1 (Nat.le_of_ble_eq_true rfl) rfl dX7_weight_28 ⟨Nat.le_of_ble_eq_true rfl, Nat.le_of_ble_eq_true rfl⟩ (fun H locs hI => ?_)
        refine lv_iadd hx hb dX7_weight_31 ?_
        refine lv_istore_n (lv' := [(2, .int (x2 + r8)), (0, .ref (A 0)), (1, .int x1), (3, .int x3)]) hx hb dX7_weight_32 rfl hl (by decide) rfl (fun ls hl => ?_)
        refine lv_iinc (v := x3 + 1) (lv' := [(3, .int (x3 + 1)), (2, .int (x2 + r8)), (0, .ref (A 0)), (1, .int x1)]) hx hb dX7_weight_33 hl (k := 3) rfl rfl (by decide) rfl (fun ls hl => ?_)
        refine lv_goto (tgt := 16) hx hb dX7_weight_36 (by decide) ?_
        exact ih16 x1 (x2 + r8) (x3 + 1) σ7 hf H locs hI ls (lv_sub hl [2, 3, 1, 0] rfl)
  have hl : lv_has ls 4 [(0, .ref (A 0)), (1, .int p0)] := hl
  unfold f7_weight at hf
  obtain ⟨H, eH⟩ : ∃ H, H = s.heap := ⟨_, rfl⟩
  obtain ⟨locs, eL⟩ : ∃ locs : List Loc, locs = [] := ⟨_, rfl⟩
  have hI : XI D cl (mw ci A d σ) A0 s.heap H locs := by rw [eH, eL]; exact hI
  rw [← eL]
  suffices h : W p l e r7_weight s m args below meth c H locs 0 0 Q (F0 m 0 ls []) by rw [eH] at h; exact h
  clear eH eL
  refine lv_aload_n hx hb dX7_weight_0 rfl (lv_at hl 0 rfl) ?_
  refine lv_iload_n hx hb dX7_weight_1 rfl (lv_at hl 1 rfl) ?_
  refine lv_i2l hx hb dX7_weight_2 rfl ?_
  obtain ⟨r2, σ1, hσ1, hf⟩ := bnd_some hf
  refine m_calli X hI hc [.long p0.toInt64] (m7_isState l D cl Z hz ci A d tm hc p0.toInt64 σ r2 σ1 hσ1) (cw7_isState hts ⟨Nat.le_of_ble_eq_true rfl, Nat.le_of_ble_eq_true rfl⟩) rfl hl.1 (Nat.le_of_ble_eq_true rfl) rfl dX7_weight_3 ⟨Nat.le_of_ble_eq_true rfl, Nat.le_of_ble_eq_true rfl⟩ (fun H locs hI => ?_)
  refine lv_if_ne (tgt := 12) hx hb dX7_weight_6 (by decide) (fun c3 => ?_) (fun c3 => ?_)
  · have hf := o_neg hf c3
    refine lv_iconst (v := 0) hx hb dX7_weight_12 (by decide) ?_
    refine lv_istore_n (lv' := [(2, .int 0), (0, .ref (A 0)), (1, .int p0)]) hx hb dX7_weight_13 rfl hl (by decide) rfl (fun ls hl => ?_)
    refine lv_iconst (v := 0) hx hb dX7_weight_14 (by decide) ?_
    refine lv_istore_n (lv' := [(3, .int 0), (2, .int 0), (0, .ref (A 0)), (1, .int p0)]) hx hb dX7_weight_15 rfl hl (by decide) rfl (fun ls hl => ?_)
    exact L16 FU p0 0 0 σ1 hf H locs hI ls (lv_sub hl [2, 3, 1, 0] rfl)
  · have hf := o_pos hf c3
    refine lv_bipush (v := -2) hx hb dX7_weight_9 (by decide) ?_
    exact hret hf hI dX7_weight_11
/-! holdsIn -/
def f7_holdsIn_b168 (σ : MS) : oI Int32 :=
  some (1, σ)
def f7_holdsIn (p0 : Int32) (p1 : Int32) (σ : MS) : oI Int32 :=
  bnd (f7_ruleOf p0 1 σ) fun r2 σ1 =>
  bnd (f7_valueOf p1 r2 σ1) fun r4 σ3 =>
  bnd (f7_ruleOf p0 2 σ3) fun r6 σ5 =>
  bnd (f7_ruleOf p0 0 σ5) fun r8 σ7 =>
  if r8 = 0 then (if r6 < r4 then (some (0, σ7)) else (some (1, σ7))) else (if r8 = 1 then (if r4 < r6 then (some (0, σ7)) else (some (1, σ7))) else (if r8 = 2 then (bnd (f7_valueOf p1 r6 σ7) fun r15 σ14 =>
  if r4 = r15 then (some (0, σ14)) else (some (1, σ14))) else (if r8 = 3 then (bnd (f7_valueOf p1 r6 σ7) fun r19 σ18 =>
  bnd (f7_ruleOf p0 3 σ18) fun r21 σ20 =>
  if r21 < (r4 + r19) then (some (0, σ20)) else (some (1, σ20))) else (if r8 = 4 then (bnd (f7_valueOf p1 r6 σ7) fun r25 σ24 =>
  if r25 < r4 then (some (0, σ24)) else (some (1, σ24))) else (if r4 < r6 then (f7_holdsIn_b168 σ7) else (bnd (f7_ruleOf p0 3 σ7) fun r29 σ28 =>
  bnd (f7_valueOf p1 r29 σ28) fun r31 σ30 =>
  bnd (f7_ruleOf p0 4 σ30) fun r33 σ32 =>
  if r31 < r33 then (some (0, σ32)) else (f7_holdsIn_b168 σ32)))))))
abbrev r7_holdsIn : Room := { frames := 1, cells := 0, slots := 0, locals := 24 }
theorem cw7_holdsIn {R : Room} {s : State} {args : Array Value} (ht : ∀ w ∈ lw_all, w.before args s = true) (hR : r7_holdsIn.frames + 1 ≤ R.frames ∧ 8 + (5 + 11) + r7_holdsIn.locals ≤ R.locals) : CallW R s args RX7 RX7 291 yX7_holdsIn cX7_holdsIn 5 (some .boolean) (ws_ yX7_holdsIn cX7_holdsIn 5 (some .boolean)) r7_holdsIn 0 0 2 :=
  cwV 2 ht (lw_V q3014 q3016 qs122 q178 q3017) rfl rfl rfl (by decide +kernel) hR
theorem m7_holdsIn (l : Launch) (D : va_G) (cl : vC2) (Z : (Nat → Prop) → State → Heap → Prop) (hz : ZK Z) (ci : Nat) (A : Nat → Nat) (d : Nat → ClassId) (tm : List (ClassId × FieldType)) (hc : cl.1[ci]? = some (RX7, TX7, 42)) (p0 : Int32) (p1 : Int32) (σ : MS) (r : Int32) (σ' : MS) (hf : f7_holdsIn p0 p1 σ = some (r, σ')) : MMi l yX7_holdsIn (ws_ yX7_holdsIn cX7_holdsIn 5 (some .boolean)) r7_holdsIn D cl Z ci A d tm σ [.int p0, .int p1] r σ' := by
  refine m_openz hz (by decide) (by exact Nat.le_of_ble_eq_true rfl) (fun p e s m args below meth c ls A0 Q X hI hl hret => ?_)
  have X : XC p s m args meth c cX7_holdsIn 5 RX7 D cl (mty d tm) A0 Z := X
  have hx := X.1
  have hb := X.2.1
  have hown := X.2.2.2.1
  have hts := X.2.2.2.2.1
  have J168 : ∀ (σ : MS), f7_holdsIn_b168  σ = some (r, σ') → ∀ (H : Heap) (locs : List Loc), XI D cl (mw ci A d σ) A0 s.heap H locs → ∀ (ls : Array Slot), lv_has ls 5 [] → W p l e r7_holdsIn s m args below meth c H locs 0 0 Q (F0 m 168 ls []) := by
    intro  σ hf H locs hI ls hl
    unfold f7_holdsIn_b168 at hf
    refine lv_iconst (v := 1) hx hb dX7_holdsIn_168 (by decide) ?_
    refine lv_goto (tgt := 173) hx hb dX7_holdsIn_169 (by decide) ?_
    exact hret hf rfl hI dX7_holdsIn_173
  have hl : lv_has ls 5 [(0, .ref (A 0)), (1, .int p0), (2, .int p1)] := hl
  unfold f7_holdsIn at hf
  obtain ⟨H, eH⟩ : ∃ H, H = s.heap := ⟨_, rfl⟩
  obtain ⟨locs, eL⟩ : ∃ locs : List Loc, locs = [] := ⟨_, rfl⟩
  have hI : XI D cl (mw ci A d σ) A0 s.heap H locs := by rw [eH, eL]; exact hI
  rw [← eL]
  suffices h : W p l e r7_holdsIn s m args below meth c H locs 0 0 Q (F0 m 0 ls []) by rw [eH] at h; exact h
  clear eH eL
  refine lv_aload_n hx hb dX7_holdsIn_0 rfl (lv_at hl 0 rfl) ?_
  refine lv_iload_n hx hb dX7_holdsIn_1 rfl (lv_at hl 2 rfl) ?_
  refine lv_aload_n hx hb dX7_holdsIn_2 rfl (lv_at hl 0 rfl) ?_
  refine lv_iload_n hx hb dX7_holdsIn_3 rfl (lv_at hl 1 rfl) ?_
  refine lv_iconst (v := 1) hx hb dX7_holdsIn_4 (by decide) ?_
  obtain ⟨r2, σ1, hσ1, hf⟩ := bnd_some hf
  refine m_calli X hI hc [.int p0, .int 1] (m7_ruleOf l D cl Z hz ci A d tm hc p0 1 σ r2 σ1 hσ1) (cw7_ruleOf hts ⟨Nat.le_of_ble_eq_true rfl, Nat.le_of_ble_eq_true rfl⟩) rfl hl.1 (Nat.le_of_ble_eq_true rfl) rfl dX7_holdsIn_5 ⟨Nat.le_of_ble_eq_true rfl, Nat.le_of_ble_eq_true rfl⟩ (fun H locs hI => ?_)
  obtain ⟨r4, σ3, hσ3, hf⟩ := bnd_some hf
  refine m_calli X hI hc [.int p1, .int r2] (m7_valueOf l D cl Z hz ci A d tm hc p1 r2 σ1 r4 σ3 hσ3) (cw7_valueOf hts ⟨Nat.le_of_ble_eq_true rfl, Nat.le_of_ble_eq_true rfl⟩) rfl hl.1 (Nat.le_of_ble_eq_true rfl) rfl dX7_holdsIn_8 ⟨Nat.le_of_ble_eq_true rfl, Nat.le_of_ble_eq_true rfl⟩ (fun H locs hI => ?_)
  refine lv_istore_n (lv' := [(3, .int r4), (0, .ref (A 0)), (1, .int p0), (2, .int p1)]) hx hb dX7_holdsIn_11 rfl hl (by decide) rfl (fun ls hl => ?_)
  refine lv_aload_n hx hb dX7_holdsIn_12 rfl (lv_at hl 1 rfl) ?_
  refine lv_iload_n hx hb dX7_holdsIn_13 rfl (lv_at hl 2 rfl) ?_
  refine lv_iconst (v := 2) hx hb dX7_holdsIn_14 (by decide) ?_
  obtain ⟨r6, σ5, hσ5, hf⟩ := bnd_some hf
  refine m_calli X hI hc [.int p0, .int 2] (m7_ruleOf l D cl Z hz ci A d tm hc p0 2 σ3 r6 σ5 hσ5) (cw7_ruleOf hts ⟨Nat.le_of_ble_eq_true rfl, Nat.le_of_ble_eq_true rfl⟩) rfl hl.1 (Nat.le_of_ble_eq_true rfl) rfl dX7_holdsIn_15 ⟨Nat.le_of_ble_eq_true rfl, Nat.le_of_ble_eq_true rfl⟩ (fun H locs hI => ?_)
  refine lv_istore (lv' := [(4, .int r6), (3, .int r4), (0, .ref (A 0)), (1, .int p0), (2, .int p1)]) hx hb dX7_holdsIn_18 hl (by decide) rfl (fun ls hl => ?_)
  refine lv_aload_n hx hb dX7_holdsIn_20 rfl (lv_at hl 2 rfl) ?_
  refine lv_iload_n hx hb dX7_holdsIn_21 rfl (lv_at hl 3 rfl) ?_
  refine lv_iconst (v := 0) hx hb dX7_holdsIn_22 (by decide) ?_
  obtain ⟨r8, σ7, hσ7, hf⟩ := bnd_some hf
  refine m_calli X hI hc [.int p0, .int 0] (m7_ruleOf l D cl Z hz ci A d tm hc p0 0 σ5 r8 σ7 hσ7) (cw7_ruleOf hts ⟨Nat.le_of_ble_eq_true rfl, Nat.le_of_ble_eq_true rfl⟩) rfl hl.1 (Nat.le_of_ble_eq_true rfl) rfl dX7_holdsIn_23 ⟨Nat.le_of_ble_eq_true rfl, Nat.le_of_ble_eq_true rfl⟩ (fun H locs hI => ?_)
  by_cases c9 : r8 = 0
  · refine x_swIn (tgt := 60) hx hb c9 dX7_holdsIn_26 (by decide) (by decide) rfl (by decide) ?_
    have hf := o_pos hf c9
    refine lv_iload_n hx hb dX7_holdsIn_60 rfl (lv_at hl 1 rfl) ?_
    refine lv_iload hx hb dX7_holdsIn_61 (lv_at hl 0 rfl) ?_
    refine lv_icmp_gt (tgt := 70) hx hb dX7_holdsIn_63 (by decide) (fun c10 => ?_) (fun c10 => ?_)
    · have hf := o_pos hf c10
      refine lv_iconst (v := 0) hx hb dX7_holdsIn_70 (by decide) ?_
      exact hret hf rfl hI dX7_holdsIn_71
    · have hf := o_neg hf c10
      refine lv_iconst (v := 1) hx hb dX7_holdsIn_66 (by decide) ?_
      refine lv_goto (tgt := 71) hx hb dX7_holdsIn_67 (by decide) ?_
      exact hret hf rfl hI dX7_holdsIn_71
  have hf := o_neg hf c9
  by_cases c11 : r8 = 1
  · refine x_swIn (tgt := 72) hx hb c11 dX7_holdsIn_26 (by decide) (by decide) rfl (by decide) ?_
    have hf := o_pos hf c11
    refine lv_iload_n hx hb dX7_holdsIn_72 rfl (lv_at hl 1 rfl) ?_
    refine lv_iload hx hb dX7_holdsIn_73 (lv_at hl 0 rfl) ?_
    refine lv_icmp_lt (tgt := 82) hx hb dX7_holdsIn_75 (by decide) (fun c12 => ?_) (fun c12 => ?_)
    · have hf := o_pos hf c12
      refine lv_iconst (v := 0) hx hb dX7_holdsIn_82 (by decide) ?_
      exact hret hf rfl hI dX7_holdsIn_83
    · have hf := o_neg hf c12
      refine lv_iconst (v := 1) hx hb dX7_holdsIn_78 (by decide) ?_
      refine lv_goto (tgt := 83) hx hb dX7_holdsIn_79 (by decide) ?_
      exact hret hf rfl hI dX7_holdsIn_83
  have hf := o_neg hf c11
  by_cases c13 : r8 = 2
  · refine x_swIn (tgt := 84) hx hb c13 dX7_holdsIn_26 (by decide) (by decide) rfl (by decide) ?_
    have hf := o_pos hf c13
    refine lv_iload_n hx hb dX7_holdsIn_84 rfl (lv_at hl 1 rfl) ?_
    refine lv_aload_n hx hb dX7_holdsIn_85 rfl (lv_at hl 2 rfl) ?_
    refine lv_iload_n hx hb dX7_holdsIn_86 rfl (lv_at hl 4 rfl) ?_
    refine lv_iload hx hb dX7_holdsIn_87 (lv_at hl 0 rfl) ?_
    obtain ⟨r15, σ14, hσ14, hf⟩ := bnd_some hf
    refine m_calli X hI hc [.int p1, .int r6] (m7_valueOf l D cl Z hz ci A d tm hc p1 r6 σ7 r15 σ14 hσ14) (cw7_valueOf hts ⟨Nat.le_of_ble_eq_true rfl, Nat.le_of_ble_eq_true rfl⟩) rfl hl.1 (Nat.le_of_ble_eq_true rfl) rfl dX7_holdsIn_89 ⟨Nat.le_of_ble_eq_true rfl, Nat.le_of_ble_eq_true rfl⟩ (fun H locs hI => ?_)
    refine lv_icmp_eq (tgt := 99) hx hb dX7_holdsIn_92 (by decide) (fun c16 => ?_) (fun c16 => ?_)
    · have hf := o_pos hf c16
      refine lv_iconst (v := 0) hx hb dX7_holdsIn_99 (by decide) ?_
      exact hret hf rfl hI dX7_holdsIn_100
    · have hf := o_neg hf c16
      refine lv_iconst (v := 1) hx hb dX7_holdsIn_95 (by decide) ?_
      refine lv_goto (tgt := 100) hx hb dX7_holdsIn_96 (by decide) ?_
      exact hret hf rfl hI dX7_holdsIn_100
  have hf := o_neg hf c13
  by_cases c17 : r8 = 3
  · refine x_swIn (tgt := 101) hx hb c17 dX7_holdsIn_26 (by decide) (by decide) rfl (by decide) ?_
    have hf := o_pos hf c17
    refine lv_iload_n hx hb dX7_holdsIn_101 rfl (lv_at hl 1 rfl) ?_
    refine lv_aload_n hx hb dX7_holdsIn_102 rfl (lv_at hl 2 rfl) ?_
    refine lv_iload_n hx hb dX7_holdsIn_103 rfl (lv_at hl 4 rfl) ?_
    refine lv_iload hx hb dX7_holdsIn_104 (lv_at hl 0 rfl) ?_
    obtain ⟨r19, σ18, hσ18, hf⟩ := bnd_some hf
    refine m_calli X hI hc [.int p1, .int r6] (m7_valueOf l D cl Z hz ci A d tm hc p1 r6 σ7 r19 σ18 hσ18) (cw7_valueOf hts ⟨Nat.le_of_ble_eq_true rfl, Nat.le_of_ble_eq_true rfl⟩) rfl hl.1 (Nat.le_of_ble_eq_true rfl) rfl dX7_holdsIn_106 ⟨Nat.le_of_ble_eq_true rfl, Nat.le_of_ble_eq_true rfl⟩ (fun H locs hI => ?_)
    refine lv_iadd hx hb dX7_holdsIn_109 ?_
    refine lv_aload_n hx hb dX7_holdsIn_110 rfl (lv_at hl 2 rfl) ?_
    refine lv_iload_n hx hb dX7_holdsIn_111 rfl (lv_at hl 3 rfl) ?_
    refine lv_iconst (v := 3) hx hb dX7_holdsIn_112 (by decide) ?_
    obtain ⟨r21, σ20, hσ20, hf⟩ := bnd_some hf
    refine m_calli X hI hc [.int p0, .int 3] (m7_ruleOf l D cl Z hz ci A d tm hc p0 3 σ18 r21 σ20 hσ20) (cw7_ruleOf hts ⟨Nat.le_of_ble_eq_true rfl, Nat.le_of_ble_eq_true rfl⟩) rfl hl.1 (Nat.le_of_ble_eq_true rfl) rfl dX7_holdsIn_113 ⟨Nat.le_of_ble_eq_true rfl, Nat.le_of_ble_eq_true rfl⟩ (fun H locs hI => ?_)
    refine lv_icmp_gt (tgt := 123) hx hb dX7_holdsIn_116 (by decide) (fun c22 => ?_) (fun c22 => ?_)
    · have hf := o_pos hf c22
      refine lv_iconst (v := 0) hx hb dX7_holdsIn_123 (by decide) ?_
      exact hret hf rfl hI dX7_holdsIn_124
    · have hf := o_neg hf c22
      refine lv_iconst (v := 1) hx hb dX7_holdsIn_119 (by decide) ?_
      refine lv_goto (tgt := 124) hx hb dX7_holdsIn_120 (by decide) ?_
      exact hret hf rfl hI dX7_holdsIn_124
  have hf := o_neg hf c17
  by_cases c23 : r8 = 4
  · refine x_swIn (tgt := 125) hx hb c23 dX7_holdsIn_26 (by decide) (by decide) rfl (by decide) ?_
    have hf := o_pos hf c23
    refine lv_iload_n hx hb dX7_holdsIn_125 rfl (lv_at hl 1 rfl) ?_
    refine lv_aload_n hx hb dX7_holdsIn_126 rfl (lv_at hl 2 rfl) ?_
    refine lv_iload_n hx hb dX7_holdsIn_127 rfl (lv_at hl 4 rfl) ?_
    refine lv_iload hx hb dX7_holdsIn_128 (lv_at hl 0 rfl) ?_
    obtain ⟨r25, σ24, hσ24, hf⟩ := bnd_some hf
    refine m_calli X hI hc [.int p1, .int r6] (m7_valueOf l D cl Z hz ci A d tm hc p1 r6 σ7 r25 σ24 hσ24) (cw7_valueOf hts ⟨Nat.le_of_ble_eq_true rfl, Nat.le_of_ble_eq_true rfl⟩) rfl hl.1 (Nat.le_of_ble_eq_true rfl) rfl dX7_holdsIn_130 ⟨Nat.le_of_ble_eq_true rfl, Nat.le_of_ble_eq_true rfl⟩ (fun H locs hI => ?_)
    refine lv_icmp_gt (tgt := 140) hx hb dX7_holdsIn_133 (by decide) (fun c26 => ?_) (fun c26 => ?_)
    · have hf := o_pos hf c26
      refine lv_iconst (v := 0) hx hb dX7_holdsIn_140 (by decide) ?_
      exact hret hf rfl hI dX7_holdsIn_141
    · have hf := o_neg hf c26
      refine lv_iconst (v := 1) hx hb dX7_holdsIn_136 (by decide) ?_
      refine lv_goto (tgt := 141) hx hb dX7_holdsIn_137 (by decide) ?_
      exact hret hf rfl hI dX7_holdsIn_141
  have hf := o_neg hf c23
  refine lv_tableOut (tgt := 142) hx hb dX7_holdsIn_26 (by have t0 := lv_neT c9 (show (0 : Int32).toInt = 0 from rfl); have t1 := lv_neT c11 (show (1 : Int32).toInt = 1 from rfl); have t2 := lv_neT c13 (show (2 : Int32).toInt = 2 from rfl); have t3 := lv_neT c17 (show (3 : Int32).toInt = 3 from rfl); have t4 := lv_neT c23 (show (4 : Int32).toInt = 4 from rfl); omega) (by decide) ?_
  refine lv_iload_n hx hb dX7_holdsIn_142 rfl (lv_at hl 1 rfl) ?_
  refine lv_iload hx hb dX7_holdsIn_143 (lv_at hl 0 rfl) ?_
  refine lv_icmp_lt (tgt := 168) hx hb dX7_holdsIn_145 (by decide) (fun c27 => ?_) (fun c27 => ?_)
  · have hf := o_pos hf c27
    exact J168 σ7 hf H locs hI ls (lv_sub hl [] rfl)
  · have hf := o_neg hf c27
    refine lv_aload_n hx hb dX7_holdsIn_148 rfl (lv_at hl 2 rfl) ?_
    refine lv_iload_n hx hb dX7_holdsIn_149 rfl (lv_at hl 4 rfl) ?_
    refine lv_aload_n hx hb dX7_holdsIn_150 rfl (lv_at hl 2 rfl) ?_
    refine lv_iload_n hx hb dX7_holdsIn_151 rfl (lv_at hl 3 rfl) ?_
    refine lv_iconst (v := 3) hx hb dX7_holdsIn_152 (by decide) ?_
    obtain ⟨r29, σ28, hσ28, hf⟩ := bnd_some hf
    refine m_calli X hI hc [.int p0, .int 3] (m7_ruleOf l D cl Z hz ci A d tm hc p0 3 σ7 r29 σ28 hσ28) (cw7_ruleOf hts ⟨Nat.le_of_ble_eq_true rfl, Nat.le_of_ble_eq_true rfl⟩) rfl hl.1 (Nat.le_of_ble_eq_true rfl) rfl dX7_holdsIn_153 ⟨Nat.le_of_ble_eq_true rfl, Nat.le_of_ble_eq_true rfl⟩ (fun H locs hI => ?_)
    obtain ⟨r31, σ30, hσ30, hf⟩ := bnd_some hf
    refine m_calli X hI hc [.int p1, .int r29] (m7_valueOf l D cl Z hz ci A d tm hc p1 r29 σ28 r31 σ30 hσ30) (cw7_valueOf hts ⟨Nat.le_of_ble_eq_true rfl, Nat.le_of_ble_eq_true rfl⟩) rfl hl.1 (Nat.le_of_ble_eq_true rfl) rfl dX7_holdsIn_156 ⟨Nat.le_of_ble_eq_true rfl, Nat.le_of_ble_eq_true rfl⟩ (fun H locs hI => ?_)
    refine lv_aload_n hx hb dX7_holdsIn_159 rfl (lv_at hl 2 rfl) ?_
    refine lv_iload_n hx hb dX7_holdsIn_160 rfl (lv_at hl 3 rfl) ?_
    refine lv_iconst (v := 4) hx hb dX7_holdsIn_161 (by decide) ?_
    obtain ⟨r33, σ32, hσ32, hf⟩ := bnd_some hf
    refine m_calli X hI hc [.int p0, .int 4] (m7_ruleOf l D cl Z hz ci A d tm hc p0 4 σ30 r33 σ32 hσ32) (cw7_ruleOf hts ⟨Nat.le_of_ble_eq_true rfl, Nat.le_of_ble_eq_true rfl⟩) rfl hl.1 (Nat.le_of_ble_eq_true rfl) rfl dX7_holdsIn_162 ⟨Nat.le_of_ble_eq_true rfl, Nat.le_of_ble_eq_true rfl⟩ (fun H locs hI => ?_)
    refine lv_icmp_lt (tgt := 172) hx hb dX7_holdsIn_165 (by decide) (fun c34 => ?_) (fun c34 => ?_)
    · have hf := o_pos hf c34
      refine lv_iconst (v := 0) hx hb dX7_holdsIn_172 (by decide) ?_
      exact hret hf rfl hI dX7_holdsIn_173
    · have hf := o_neg hf c34
      exact J168 σ32 hf H locs hI ls (lv_sub hl [] rfl)
/-! holds -/
def f7_holds (p0 : Int32) (p1 : Int32) (σ : MS) : oI Int32 :=
  bnd (f7_isState p1.toInt64 σ) fun r2 σ1 =>
  if r2 = 0 then (some ((-2), σ1)) else (bnd (f7_isRule p0 σ1) fun r5 σ4 =>
  if r5 = 0 then (some ((-2), σ4)) else (bnd (f7_holdsIn p0 p1 σ4) fun r8 σ7 =>
  if r8 = 0 then (some (0, σ7)) else (some (1, σ7))))
abbrev r7_holds : Room := { frames := 3, cells := 0, slots := 0, locals := 64 }
theorem m7_holds (l : Launch) (D : va_G) (cl : vC2) (Z : (Nat → Prop) → State → Heap → Prop) (hz : ZK Z) (ci : Nat) (A : Nat → Nat) (d : Nat → ClassId) (tm : List (ClassId × FieldType)) (hc : cl.1[ci]? = some (RX7, TX7, 42)) (p0 : Int32) (p1 : Int32) (σ : MS) (r : Int32) (σ' : MS) (hf : f7_holds p0 p1 σ = some (r, σ')) : MMi l yX7_holds (ws_ yX7_holds cX7_holds 3 (some .int)) r7_holds D cl Z ci A d tm σ [.int p0, .int p1] r σ' := by
  refine m_openi hz (by decide) (by exact Nat.le_of_ble_eq_true rfl) (fun p e s m args below meth c ls A0 Q X hI hl hret => ?_)
  have X : XC p s m args meth c cX7_holds 3 RX7 D cl (mty d tm) A0 Z := X
  have hx := X.1
  have hb := X.2.1
  have hown := X.2.2.2.1
  have hts := X.2.2.2.2.1
  have hl : lv_has ls 3 [(0, .ref (A 0)), (1, .int p0), (2, .int p1)] := hl
  unfold f7_holds at hf
  obtain ⟨H, eH⟩ : ∃ H, H = s.heap := ⟨_, rfl⟩
  obtain ⟨locs, eL⟩ : ∃ locs : List Loc, locs = [] := ⟨_, rfl⟩
  have hI : XI D cl (mw ci A d σ) A0 s.heap H locs := by rw [eH, eL]; exact hI
  rw [← eL]
  suffices h : W p l e r7_holds s m args below meth c H locs 0 0 Q (F0 m 0 ls []) by rw [eH] at h; exact h
  clear eH eL
  refine lv_aload_n hx hb dX7_holds_0 rfl (lv_at hl 0 rfl) ?_
  refine lv_iload_n hx hb dX7_holds_1 rfl (lv_at hl 2 rfl) ?_
  refine lv_i2l hx hb dX7_holds_2 rfl ?_
  obtain ⟨r2, σ1, hσ1, hf⟩ := bnd_some hf
  refine m_calli X hI hc [.long p1.toInt64] (m7_isState l D cl Z hz ci A d tm hc p1.toInt64 σ r2 σ1 hσ1) (cw7_isState hts ⟨Nat.le_of_ble_eq_true rfl, Nat.le_of_ble_eq_true rfl⟩) rfl hl.1 (Nat.le_of_ble_eq_true rfl) rfl dX7_holds_3 ⟨Nat.le_of_ble_eq_true rfl, Nat.le_of_ble_eq_true rfl⟩ (fun H locs hI => ?_)
  refine lv_if_eq (tgt := 17) hx hb dX7_holds_6 (by decide) (fun c3 => ?_) (fun c3 => ?_)
  · have hf := o_pos hf c3
    refine lv_bipush (v := -2) hx hb dX7_holds_17 (by decide) ?_
    exact hret hf hI dX7_holds_19
  · have hf := o_neg hf c3
    refine lv_aload_n hx hb dX7_holds_9 rfl (lv_at hl 0 rfl) ?_
    refine lv_iload_n hx hb dX7_holds_10 rfl (lv_at hl 1 rfl) ?_
    obtain ⟨r5, σ4, hσ4, hf⟩ := bnd_some hf
    refine m_calli X hI hc [.int p0] (m7_isRule l D cl Z hz ci A d tm hc p0 σ1 r5 σ4 hσ4) (cw7_isRule hts ⟨Nat.le_of_ble_eq_true rfl, Nat.le_of_ble_eq_true rfl⟩) rfl hl.1 (Nat.le_of_ble_eq_true rfl) rfl dX7_holds_11 ⟨Nat.le_of_ble_eq_true rfl, Nat.le_of_ble_eq_true rfl⟩ (fun H locs hI => ?_)
    refine lv_if_ne (tgt := 20) hx hb dX7_holds_14 (by decide) (fun c6 => ?_) (fun c6 => ?_)
    · have hf := o_neg hf c6
      refine lv_aload_n hx hb dX7_holds_20 rfl (lv_at hl 0 rfl) ?_
      refine lv_iload_n hx hb dX7_holds_21 rfl (lv_at hl 1 rfl) ?_
      refine lv_iload_n hx hb dX7_holds_22 rfl (lv_at hl 2 rfl) ?_
      obtain ⟨r8, σ7, hσ7, hf⟩ := bnd_some hf
      refine m_calli X hI hc [.int p0, .int p1] (m7_holdsIn l D cl Z hz ci A d tm hc p0 p1 σ4 r8 σ7 hσ7) (cw7_holdsIn hts ⟨Nat.le_of_ble_eq_true rfl, Nat.le_of_ble_eq_true rfl⟩) rfl hl.1 (Nat.le_of_ble_eq_true rfl) rfl dX7_holds_23 ⟨Nat.le_of_ble_eq_true rfl, Nat.le_of_ble_eq_true rfl⟩ (fun H locs hI => ?_)
      refine lv_if_eq (tgt := 33) hx hb dX7_holds_26 (by decide) (fun c9 => ?_) (fun c9 => ?_)
      · have hf := o_pos hf c9
        refine lv_iconst (v := 0) hx hb dX7_holds_33 (by decide) ?_
        exact hret hf hI dX7_holds_34
      · have hf := o_neg hf c9
        refine lv_iconst (v := 1) hx hb dX7_holds_29 (by decide) ?_
        refine lv_goto (tgt := 34) hx hb dX7_holds_30 (by decide) ?_
        exact hret hf hI dX7_holds_34
    · have hf := o_pos hf c6
      refine lv_bipush (v := -2) hx hb dX7_holds_17 (by decide) ?_
      exact hret hf hI dX7_holds_19
/-! asItIs -/
def f7_asItIs_b140 (K50 : Int32 → MS → Option MS) (x1 : Int32) (σ : MS) : Option MS :=
  K50 (x1 + 1) σ
def f7_asItIs_b50 (K50 : Int32 → MS → Option MS) (x1 : Int32) (σ : MS) : Option MS :=
  if (gA σ 1 6) ≤ x1 then (some σ) else (grd (inB ((56 : Int32) + x1) 76) <|
  nxt (gA σ 1 ((56 : Int32) + x1).toNatClampNeg) fun v10 =>
  if v10 < 300 then (if v10 < 200 then (nxt (sI σ 17 ((gI σ 17) ||| ((1 : Int32) <<< ((v10 - 100) &&& 31)))) fun σ13 =>
  f7_asItIs_b140 K50 x1 σ13) else (nxt (sI σ 17 ((gI σ 17) &&& (((1 : Int32) <<< ((v10 - 200) &&& 31)) ^^^ (-1)))) fun σ14 =>
  f7_asItIs_b140 K50 x1 σ14)) else (nxt (sI σ 18 ((gI σ 18) ||| ((1 : Int32) <<< ((v10 - 300) &&& 31)))) fun σ15 =>
  f7_asItIs_b140 K50 x1 σ15))
def f7_asItIs_l50 : Nat → Int32 → MS → Option MS
  | 0 => fun _ _ => none
  | n + 1 => fun x1 σ => f7_asItIs_b50 (f7_asItIs_l50 n) x1 σ
def f7_asItIs_b22 (K22 : Int32 → MS → Option MS) (x1 : Int32) (σ : MS) : Option MS :=
  if 3 ≤ x1 then (f7_asItIs_l50 FU 0 σ) else (grd (inB ((8 : Int32) + x1) 76) <|
  grd (inB x1 3) <|
  nxt (sA σ 15 x1.toNatClampNeg (gA σ 1 ((8 : Int32) + x1).toNatClampNeg)) fun σ7 =>
  K22 (x1 + 1) σ7)
def f7_asItIs_l22 : Nat → Int32 → MS → Option MS
  | 0 => fun _ _ => none
  | n + 1 => fun x1 σ => f7_asItIs_b22 (f7_asItIs_l22 n) x1 σ
def f7_asItIs (σ : MS) : Option MS :=
  nxt (sI σ 16 (gA σ 1 1)) fun σ1 =>
  nxt (sI σ1 17 0) fun σ2 =>
  nxt (sI σ2 18 0) fun σ3 =>
  f7_asItIs_l22 FU 0 σ3
abbrev r7_asItIs : Room := { frames := 0, cells := 0, slots := 0, locals := 0 }
theorem cw7_asItIs {R : Room} {s : State} {args : Array Value} (ht : ∀ w ∈ lw_all, w.before args s = true) (hR : r7_asItIs.frames + 1 ≤ R.frames ∧ 8 + (3 + 11) + r7_asItIs.locals ≤ R.locals) : CallW R s args RX7 RX7 308 yX7_asItIs cX7_asItIs 3 none (ws_ yX7_asItIs cX7_asItIs 3 none) r7_asItIs 0 0 0 :=
  cwV 0 ht (lw_V q3026 q3028 qs124 q178 q3029) rfl rfl rfl (by decide +kernel) hR
theorem m7_asItIs (l : Launch) (D : va_G) (cl : vC2) (Z : (Nat → Prop) → State → Heap → Prop) (hz : ZK Z) (ci : Nat) (A : Nat → Nat) (d : Nat → ClassId) (tm : List (ClassId × FieldType)) (hc : cl.1[ci]? = some (RX7, TX7, 42)) (σ : MS) (σ' : MS) (hf : f7_asItIs σ = some σ') : MMv l yX7_asItIs (ws_ yX7_asItIs cX7_asItIs 3 none) r7_asItIs D cl Z ci A d tm σ [] σ' := by
  refine m_openv hz (by decide) (by exact Nat.le_of_ble_eq_true rfl) (fun p e s m args below meth c ls A0 Q X hI hl hret => ?_)
  have X : XC p s m args meth c cX7_asItIs 3 RX7 D cl (mty d tm) A0 Z := X
  have hx := X.1
  have hb := X.2.1
  have hown := X.2.2.2.1
  have hts := X.2.2.2.2.1
  have L50 : ∀ (n : Nat) (x1 : Int32) (σ : MS), f7_asItIs_l50 n x1 σ = some σ' → ∀ (H : Heap) (locs : List Loc), XI D cl (mw ci A d σ) A0 s.heap H locs → ∀ (ls : Array Slot), lv_has ls 3 [(0, .ref (A 0)), (1, .int x1)] → W p l e r7_asItIs s m args below meth c H locs 0 0 Q (F0 m 50 ls []) := by
    intro n50
    induction n50 with
    | zero => intro x1 σ hf; cases hf
    | succ n50 ih50 =>
      have J140 : ∀ (x1 : Int32) (σ : MS), f7_asItIs_b140 (f7_asItIs_l50 n50) x1 σ = some σ' → ∀ (H : Heap) (locs : List Loc), XI D cl (mw ci A d σ) A0 s.heap H locs → ∀ (ls : Array Slot), lv_has ls 3 [(0, .ref (A 0)), (1, .int x1)] → W p l e r7_asItIs s m args below meth c H locs 0 0 Q (F0 m 140 ls []) := by
        intro x1 σ hf H locs hI ls hl
        unfold f7_asItIs_b140 at hf
        refine lv_iinc (v := x1 + 1) (lv' := [(1, .int (x1 + 1)), (0, .ref (A 0))]) hx hb dX7_asItIs_140 hl (k := 1) rfl rfl (by decide) rfl (fun ls hl => ?_)
        refine lv_goto (tgt := 50) hx hb dX7_asItIs_143 (by decide) ?_
        exact ih50 (x1 + 1) σ hf H locs hI ls (lv_sub hl [1, 0] rfl)
      intro x1 σ hf H locs hI ls hl
      have hf : f7_asItIs_b50 (f7_asItIs_l50 n50) x1 σ = some σ' := hf
      unfold f7_asItIs_b50 at hf
      refine lv_iload_n hx hb dX7_asItIs_50 rfl (lv_at hl 1 rfl) ?_
      refine lv_aload_n hx hb dX7_asItIs_51 rfl (lv_at hl 0 rfl) ?_
      refine m_get (v := .ref (A 1)) X hI hc 1 (by decide) q2659 rfl dX7_asItIs_52 ?_
      refine lv_bipush (v := 6) hx hb dX7_asItIs_55 (by decide) ?_
      refine m_iald (k := 6) X hI 1 1 76 rfl rfl rfl dX7_asItIs_57 ?_
      refine lv_icmp_ge (tgt := 146) hx hb dX7_asItIs_58 (by decide) (fun c8 => ?_) (fun c8 => ?_)
      · have hf := o_pos hf c8
        exact hret hf hI dX7_asItIs_146
      · have hf := o_neg hf c8
        refine lv_aload_n hx hb dX7_asItIs_61 rfl (lv_at hl 0 rfl) ?_
        refine m_get (v := .ref (A 1)) X hI hc 1 (by decide) q2659 rfl dX7_asItIs_62 ?_
        refine lv_bipush (v := 56) hx hb dX7_asItIs_65 (by decide) ?_
        refine lv_iload_n hx hb dX7_asItIs_67 rfl (lv_at hl 1 rfl) ?_
        refine lv_iadd hx hb dX7_asItIs_68 ?_
        obtain ⟨g9, hf⟩ := grd_some hf
        refine m_iald X hI 1 1 76 rfl rfl g9 dX7_asItIs_69 ?_
        obtain ⟨v10, ev10, hf⟩ := nxt_some hf
        rw [← ev10]
        clear ev10
        refine lv_istore_n (lv' := [(2, .int v10), (0, .ref (A 0)), (1, .int x1)]) hx hb dX7_asItIs_70 rfl hl (by decide) rfl (fun ls hl => ?_)
        refine lv_iload_n hx hb dX7_asItIs_71 rfl (lv_at hl 0 rfl) ?_
        refine lv_sipush (v := 300) hx hb dX7_asItIs_72 (by decide) ?_
        refine lv_icmp_lt (tgt := 97) hx hb dX7_asItIs_75 (by decide) (fun c11 => ?_) (fun c11 => ?_)
        · have hf := o_pos hf c11
          refine lv_iload_n hx hb dX7_asItIs_97 rfl (lv_at hl 0 rfl) ?_
          refine lv_sipush (v := 200) hx hb dX7_asItIs_98 (by decide) ?_
          refine lv_icmp_lt (tgt := 125) hx hb dX7_asItIs_101 (by decide) (fun c12 => ?_) (fun c12 => ?_)
          · have hf := o_pos hf c12
            refine lv_aload_n hx hb dX7_asItIs_125 rfl (lv_at hl 1 rfl) ?_
            refine lv_dup hx hb dX7_asItIs_126 rfl ?_
            refine m_get (v := .int (gI σ 17)) X hI hc 17 (by decide) q2675 rfl dX7_asItIs_127 ?_
            refine lv_iconst (v := 1) hx hb dX7_asItIs_130 (by decide) ?_
            refine lv_iload_n hx hb dX7_asItIs_131 rfl (lv_at hl 0 rfl) ?_
            refine lv_bipush (v := 100) hx hb dX7_asItIs_132 (by decide) ?_
            refine lv_isub hx hb dX7_asItIs_134 ?_
            refine lv_ishl hx hb dX7_asItIs_135 ?_
            refine lv_ior hx hb dX7_asItIs_136 ?_
            refine m_puti X hI hc 17 (by decide) q2675 rfl rfl rfl dX7_asItIs_137 (fun H locs hI => ?_)
            obtain ⟨σ13, eσ13, hf⟩ := nxt_some hf
            rw [← eσ13] at hI
            clear eσ13
            exact J140 x1 σ13 hf H locs hI ls (lv_sub hl [1, 2] rfl)
          · have hf := o_neg hf c12
            refine lv_aload_n hx hb dX7_asItIs_104 rfl (lv_at hl 1 rfl) ?_
            refine lv_dup hx hb dX7_asItIs_105 rfl ?_
            refine m_get (v := .int (gI σ 17)) X hI hc 17 (by decide) q2675 rfl dX7_asItIs_106 ?_
            refine lv_iconst (v := 1) hx hb dX7_asItIs_109 (by decide) ?_
            refine lv_iload_n hx hb dX7_asItIs_110 rfl (lv_at hl 0 rfl) ?_
            refine lv_sipush (v := 200) hx hb dX7_asItIs_111 (by decide) ?_
            refine lv_isub hx hb dX7_asItIs_114 ?_
            refine lv_ishl hx hb dX7_asItIs_115 ?_
            refine lv_iconst (v := -1) hx hb dX7_asItIs_116 (by decide) ?_
            refine lv_ixor hx hb dX7_asItIs_117 ?_
            refine lv_iand hx hb dX7_asItIs_118 ?_
            refine m_puti X hI hc 17 (by decide) q2675 rfl rfl rfl dX7_asItIs_119 (fun H locs hI => ?_)
            obtain ⟨σ14, eσ14, hf⟩ := nxt_some hf
            rw [← eσ14] at hI
            clear eσ14
            refine lv_goto (tgt := 140) hx hb dX7_asItIs_122 (by decide) ?_
            exact J140 x1 σ14 hf H locs hI ls (lv_sub hl [1, 2] rfl)
        · have hf := o_neg hf c11
          refine lv_aload_n hx hb dX7_asItIs_78 rfl (lv_at hl 1 rfl) ?_
          refine lv_dup hx hb dX7_asItIs_79 rfl ?_
          refine m_get (v := .int (gI σ 18)) X hI hc 18 (by decide) q2676 rfl dX7_asItIs_80 ?_
          refine lv_iconst (v := 1) hx hb dX7_asItIs_83 (by decide) ?_
          refine lv_iload_n hx hb dX7_asItIs_84 rfl (lv_at hl 0 rfl) ?_
          refine lv_sipush (v := 300) hx hb dX7_asItIs_85 (by decide) ?_
          refine lv_isub hx hb dX7_asItIs_88 ?_
          refine lv_ishl hx hb dX7_asItIs_89 ?_
          refine lv_ior hx hb dX7_asItIs_90 ?_
          refine m_puti X hI hc 18 (by decide) q2676 rfl rfl rfl dX7_asItIs_91 (fun H locs hI => ?_)
          obtain ⟨σ15, eσ15, hf⟩ := nxt_some hf
          rw [← eσ15] at hI
          clear eσ15
          refine lv_goto (tgt := 140) hx hb dX7_asItIs_94 (by decide) ?_
          exact J140 x1 σ15 hf H locs hI ls (lv_sub hl [1, 2] rfl)
  have L22 : ∀ (n : Nat) (x1 : Int32) (σ : MS), f7_asItIs_l22 n x1 σ = some σ' → ∀ (H : Heap) (locs : List Loc), XI D cl (mw ci A d σ) A0 s.heap H locs → ∀ (ls : Array Slot), lv_has ls 3 [(0, .ref (A 0)), (1, .int x1)] → W p l e r7_asItIs s m args below meth c H locs 0 0 Q (F0 m 22 ls []) := by
    intro n22
    induction n22 with
    | zero => intro x1 σ hf; cases hf
    | succ n22 ih22 =>
      intro x1 σ hf H locs hI ls hl
      have hf : f7_asItIs_b22 (f7_asItIs_l22 n22) x1 σ = some σ' := hf
      unfold f7_asItIs_b22 at hf
      refine lv_iload_n hx hb dX7_asItIs_22 rfl (lv_at hl 1 rfl) ?_
      refine lv_iconst (v := 3) hx hb dX7_asItIs_23 (by decide) ?_
      refine lv_icmp_ge (tgt := 48) hx hb dX7_asItIs_24 (by decide) (fun c4 => ?_) (fun c4 => ?_)
      · have hf := o_pos hf c4
        refine lv_iconst (v := 0) hx hb dX7_asItIs_48 (by decide) ?_
        refine lv_istore_n (lv' := [(1, .int 0), (0, .ref (A 0))]) hx hb dX7_asItIs_49 rfl hl (by decide) rfl (fun ls hl => ?_)
        exact L50 FU 0 σ hf H locs hI ls (lv_sub hl [1, 0] rfl)
      · have hf := o_neg hf c4
        refine lv_aload_n hx hb dX7_asItIs_27 rfl (lv_at hl 0 rfl) ?_
        refine m_get (v := .ref (A 15)) X hI hc 15 (by decide) q2673 rfl dX7_asItIs_28 ?_
        refine lv_iload_n hx hb dX7_asItIs_31 rfl (lv_at hl 1 rfl) ?_
        refine lv_aload_n hx hb dX7_asItIs_32 rfl (lv_at hl 0 rfl) ?_
        refine m_get (v := .ref (A 1)) X hI hc 1 (by decide) q2659 rfl dX7_asItIs_33 ?_
        refine lv_bipush (v := 8) hx hb dX7_asItIs_36 (by decide) ?_
        refine lv_iload_n hx hb dX7_asItIs_38 rfl (lv_at hl 1 rfl) ?_
        refine lv_iadd hx hb dX7_asItIs_39 ?_
        obtain ⟨g5, hf⟩ := grd_some hf
        refine m_iald X hI 1 1 76 rfl rfl g5 dX7_asItIs_40 ?_
        obtain ⟨g6, hf⟩ := grd_some hf
        refine m_iast X hI 15 7 3 rfl rfl g6 rfl dX7_asItIs_41 (fun H locs hI => ?_)
        obtain ⟨σ7, eσ7, hf⟩ := nxt_some hf
        rw [← eσ7] at hI
        clear eσ7
        refine lv_iinc (v := x1 + 1) (lv' := [(1, .int (x1 + 1)), (0, .ref (A 0))]) hx hb dX7_asItIs_42 hl (k := 1) rfl rfl (by decide) rfl (fun ls hl => ?_)
        refine lv_goto (tgt := 22) hx hb dX7_asItIs_45 (by decide) ?_
        exact ih22 (x1 + 1) σ7 hf H locs hI ls (lv_sub hl [1, 0] rfl)
  have hl : lv_has ls 3 [(0, .ref (A 0))] := hl
  unfold f7_asItIs at hf
  obtain ⟨H, eH⟩ : ∃ H, H = s.heap := ⟨_, rfl⟩
  obtain ⟨locs, eL⟩ : ∃ locs : List Loc, locs = [] := ⟨_, rfl⟩
  have hI : XI D cl (mw ci A d σ) A0 s.heap H locs := by rw [eH, eL]; exact hI
  rw [← eL]
  suffices h : W p l e r7_asItIs s m args below meth c H locs 0 0 Q (F0 m 0 ls []) by rw [eH] at h; exact h
  clear eH eL
  refine lv_aload_n hx hb dX7_asItIs_0 rfl (lv_at hl 0 rfl) ?_
  refine lv_aload_n hx hb dX7_asItIs_1 rfl (lv_at hl 0 rfl) ?_
  refine m_get (v := .ref (A 1)) X hI hc 1 (by decide) q2659 rfl dX7_asItIs_2 ?_
  refine lv_iconst (v := 1) hx hb dX7_asItIs_5 (by decide) ?_
  refine m_iald (k := 1) X hI 1 1 76 rfl rfl rfl dX7_asItIs_6 ?_
  refine m_puti X hI hc 16 (by decide) q2674 rfl rfl rfl dX7_asItIs_7 (fun H locs hI => ?_)
  obtain ⟨σ1, eσ1, hf⟩ := nxt_some hf
  rw [← eσ1] at hI
  clear eσ1
  refine lv_aload_n hx hb dX7_asItIs_10 rfl (lv_at hl 0 rfl) ?_
  refine lv_iconst (v := 0) hx hb dX7_asItIs_11 (by decide) ?_
  refine m_puti X hI hc 17 (by decide) q2675 rfl rfl rfl dX7_asItIs_12 (fun H locs hI => ?_)
  obtain ⟨σ2, eσ2, hf⟩ := nxt_some hf
  rw [← eσ2] at hI
  clear eσ2
  refine lv_aload_n hx hb dX7_asItIs_15 rfl (lv_at hl 0 rfl) ?_
  refine lv_iconst (v := 0) hx hb dX7_asItIs_16 (by decide) ?_
  refine m_puti X hI hc 18 (by decide) q2676 rfl rfl rfl dX7_asItIs_17 (fun H locs hI => ?_)
  obtain ⟨σ3, eσ3, hf⟩ := nxt_some hf
  rw [← eσ3] at hI
  clear eσ3
  refine lv_iconst (v := 0) hx hb dX7_asItIs_20 (by decide) ?_
  refine lv_istore_n (lv' := [(1, .int 0), (0, .ref (A 0))]) hx hb dX7_asItIs_21 rfl hl (by decide) rfl (fun ls hl => ?_)
  exact L22 FU 0 σ3 hf H locs hI ls (lv_sub hl [1, 0] rfl)
/-! bit -/
def f7_bit (p0 : Int32) (p1 : Int32) : Option Int32 :=
  some ((p0 >>> (p1 &&& 31)) &&& 1)
abbrev r7_bit : Room := { frames := 0, cells := 0, slots := 0, locals := 0 }
theorem cw7_bit {R : Room} {s : State} {args : Array Value} (ht : ∀ w ∈ lw_all, w.before args s = true) (hR : r7_bit.frames + 1 ≤ R.frames ∧ 8 + (2 + 11) + r7_bit.locals ≤ R.locals) : CallB R s args RX7 288 yX7_bit cX7_bit 2 (some .int) (ws_ yX7_bit cX7_bit 2 (some .int)) r7_bit 0 0 2 ∧ (Cond.static yX7_bit).before args s = true :=
  va_cwS 2 ht (lw_S q3038 q3039 q178 q3040) rfl rfl rfl (by decide +kernel) hR
theorem m7_bit (l : Launch) (p0 : Int32) (p1 : Int32) (r : Int32) (hf : f7_bit p0 p1 = some r) : XPi l yX7_bit (ws_ yX7_bit cX7_bit 2 (some .int)) r7_bit [.int p0, .int p1] r := by
  refine s_openi (by decide) (by exact Nat.le_of_ble_eq_true rfl) (fun p e s m args below meth c ls A0 Q D cl tys X hI hl hret => ?_)
  have X : XC p s m args meth c cX7_bit 2 RX7 D cl tys A0 ZT := X
  have hx := X.1
  have hb := X.2.1
  have hown := X.2.2.2.1
  have hts := X.2.2.2.2.1
  have hl : lv_has ls 2 [(0, .int p0), (1, .int p1)] := hl
  unfold f7_bit at hf
  obtain ⟨H, eH⟩ : ∃ H, H = s.heap := ⟨_, rfl⟩
  obtain ⟨locs, eL⟩ : ∃ locs : List Loc, locs = [] := ⟨_, rfl⟩
  have hI : XI D cl [] A0 s.heap H locs := by rw [eH, eL]; exact hI
  rw [← eL]
  suffices h : W p l e r7_bit s m args below meth c H locs 0 0 Q (F0 m 0 ls []) by rw [eH] at h; exact h
  clear eH eL
  refine lv_iload_n hx hb dX7_bit_0 rfl (lv_at hl 0 rfl) ?_
  refine lv_iload_n hx hb dX7_bit_1 rfl (lv_at hl 1 rfl) ?_
  refine lv_ishr hx hb dX7_bit_2 ?_
  refine lv_iconst (v := 1) hx hb dX7_bit_3 (by decide) ?_
  refine lv_iand hx hb dX7_bit_4 ?_
  exact hret hf hI dX7_bit_5
/-! brokenBy -/
def f7_brokenBy_b32 (K2 : Int32 → Int32 → MS → oI Int32) (x1 : Int32) (x2 : Int32) (σ : MS) : oI Int32 :=
  K2 x1 (x2 + 1) σ
def f7_brokenBy_b2 (K2 : Int32 → Int32 → MS → oI Int32) (x1 : Int32) (x2 : Int32) (σ : MS) : oI Int32 :=
  bnd (f7_rules σ) fun r2 σ1 =>
  if r2 ≤ x2 then (some ((-1), σ1)) else (bn1 (f7_bit (gI σ1 18) x2) fun r4 =>
  if r4 = 0 then (bnd (f7_holdsIn x2 x1 σ1) fun r7 σ6 =>
  if r7 = 0 then (some (x2, σ6)) else (f7_brokenBy_b32 K2 x1 x2 σ6)) else (f7_brokenBy_b32 K2 x1 x2 σ1))
def f7_brokenBy_l2 : Nat → Int32 → Int32 → MS → oI Int32
  | 0 => fun _ _ _ => none
  | n + 1 => fun x1 x2 σ => f7_brokenBy_b2 (f7_brokenBy_l2 n) x1 x2 σ
def f7_brokenBy (p0 : Int32) (σ : MS) : oI Int32 :=
  f7_brokenBy_l2 FU p0 0 σ
abbrev r7_brokenBy : Room := { frames := 2, cells := 0, slots := 0, locals := 48 }
theorem cw7_brokenBy {R : Room} {s : State} {args : Array Value} (ht : ∀ w ∈ lw_all, w.before args s = true) (hR : r7_brokenBy.frames + 1 ≤ R.frames ∧ 8 + (3 + 11) + r7_brokenBy.locals ≤ R.locals) : CallW R s args RX7 RX7 302 yX7_brokenBy cX7_brokenBy 3 (some .int) (ws_ yX7_brokenBy cX7_brokenBy 3 (some .int)) r7_brokenBy 0 0 1 :=
  cwV 1 ht (lw_V q3034 q3036 qs126 q178 q3037) rfl rfl rfl (by decide +kernel) hR
theorem m7_brokenBy (l : Launch) (D : va_G) (cl : vC2) (Z : (Nat → Prop) → State → Heap → Prop) (hz : ZK Z) (ci : Nat) (A : Nat → Nat) (d : Nat → ClassId) (tm : List (ClassId × FieldType)) (hc : cl.1[ci]? = some (RX7, TX7, 42)) (p0 : Int32) (σ : MS) (r : Int32) (σ' : MS) (hf : f7_brokenBy p0 σ = some (r, σ')) : MMi l yX7_brokenBy (ws_ yX7_brokenBy cX7_brokenBy 3 (some .int)) r7_brokenBy D cl Z ci A d tm σ [.int p0] r σ' := by
  refine m_openi hz (by decide) (by exact Nat.le_of_ble_eq_true rfl) (fun p e s m args below meth c ls A0 Q X hI hl hret => ?_)
  have X : XC p s m args meth c cX7_brokenBy 3 RX7 D cl (mty d tm) A0 Z := X
  have hx := X.1
  have hb := X.2.1
  have hown := X.2.2.2.1
  have hts := X.2.2.2.2.1
  have L2 : ∀ (n : Nat) (x1 : Int32) (x2 : Int32) (σ : MS), f7_brokenBy_l2 n x1 x2 σ = some (r, σ') → ∀ (H : Heap) (locs : List Loc), XI D cl (mw ci A d σ) A0 s.heap H locs → ∀ (ls : Array Slot), lv_has ls 3 [(0, .ref (A 0)), (1, .int x1), (2, .int x2)] → W p l e r7_brokenBy s m args below meth c H locs 0 0 Q (F0 m 2 ls []) := by
    intro n2
    induction n2 with
    | zero => intro x1 x2 σ hf; cases hf
    | succ n2 ih2 =>
      have J32 : ∀ (x1 : Int32) (x2 : Int32) (σ : MS), f7_brokenBy_b32 (f7_brokenBy_l2 n2) x1 x2 σ = some (r, σ') → ∀ (H : Heap) (locs : List Loc), XI D cl (mw ci A d σ) A0 s.heap H locs → ∀ (ls : Array Slot), lv_has ls 3 [(0, .ref (A 0)), (1, .int x1), (2, .int x2)] → W p l e r7_brokenBy s m args below meth c H locs 0 0 Q (F0 m 32 ls []) := by
        intro x1 x2 σ hf H locs hI ls hl
        unfold f7_brokenBy_b32 at hf
        refine lv_iinc (v := x2 + 1) (lv' := [(2, .int (x2 + 1)), (0, .ref (A 0)), (1, .int x1)]) hx hb dX7_brokenBy_32 hl (k := 2) rfl rfl (by decide) rfl (fun ls hl => ?_)
        refine lv_goto (tgt := 2) hx hb dX7_brokenBy_35 (by decide) ?_
        exact ih2 x1 (x2 + 1) σ hf H locs hI ls (lv_sub hl [1, 2, 0] rfl)
      intro x1 x2 σ hf H locs hI ls hl
      have hf : f7_brokenBy_b2 (f7_brokenBy_l2 n2) x1 x2 σ = some (r, σ') := hf
      unfold f7_brokenBy_b2 at hf
      refine lv_iload_n hx hb dX7_brokenBy_2 rfl (lv_at hl 2 rfl) ?_
      refine lv_aload_n hx hb dX7_brokenBy_3 rfl (lv_at hl 0 rfl) ?_
      obtain ⟨r2, σ1, hσ1, hf⟩ := bnd_some hf
      refine m_calli X hI hc [] (m7_rules l D cl Z hz ci A d tm hc σ r2 σ1 hσ1) (cw7_rules hts ⟨Nat.le_of_ble_eq_true rfl, Nat.le_of_ble_eq_true rfl⟩) rfl hl.1 (Nat.le_of_ble_eq_true rfl) rfl dX7_brokenBy_4 ⟨Nat.le_of_ble_eq_true rfl, Nat.le_of_ble_eq_true rfl⟩ (fun H locs hI => ?_)
      refine lv_icmp_ge (tgt := 38) hx hb dX7_brokenBy_7 (by decide) (fun c3 => ?_) (fun c3 => ?_)
      · have hf := o_pos hf c3
        refine lv_iconst (v := -1) hx hb dX7_brokenBy_38 (by decide) ?_
        exact hret hf hI dX7_brokenBy_39
      · have hf := o_neg hf c3
        refine lv_aload_n hx hb dX7_brokenBy_10 rfl (lv_at hl 0 rfl) ?_
        refine m_get (v := .int (gI σ1 18)) X hI hc 18 (by decide) q2676 rfl dX7_brokenBy_11 ?_
        refine lv_iload_n hx hb dX7_brokenBy_14 rfl (lv_at hl 2 rfl) ?_
        obtain ⟨r4, hr4, hf⟩ := bn1_some hf
        refine x_callSi (As := [.int (gI σ1 18), .int x2]) X hI (m7_bit l (gI σ1 18) x2 r4 hr4) (cw7_bit hts ⟨Nat.le_of_ble_eq_true rfl, Nat.le_of_ble_eq_true rfl⟩) rfl hl.1 (Nat.le_of_ble_eq_true rfl) rfl dX7_brokenBy_15 ⟨Nat.le_of_ble_eq_true rfl, Nat.le_of_ble_eq_true rfl⟩ (fun H locs hI => ?_)
        refine lv_if_ne (tgt := 32) hx hb dX7_brokenBy_18 (by decide) (fun c5 => ?_) (fun c5 => ?_)
        · have hf := o_neg hf c5
          exact J32 x1 x2 σ1 hf H locs hI ls (lv_sub hl [0, 1, 2] rfl)
        · have hf := o_pos hf c5
          refine lv_aload_n hx hb dX7_brokenBy_21 rfl (lv_at hl 0 rfl) ?_
          refine lv_iload_n hx hb dX7_brokenBy_22 rfl (lv_at hl 2 rfl) ?_
          refine lv_iload_n hx hb dX7_brokenBy_23 rfl (lv_at hl 1 rfl) ?_
          obtain ⟨r7, σ6, hσ6, hf⟩ := bnd_some hf
          refine m_calli X hI hc [.int x2, .int x1] (m7_holdsIn l D cl Z hz ci A d tm hc x2 x1 σ1 r7 σ6 hσ6) (cw7_holdsIn hts ⟨Nat.le_of_ble_eq_true rfl, Nat.le_of_ble_eq_true rfl⟩) rfl hl.1 (Nat.le_of_ble_eq_true rfl) rfl dX7_brokenBy_24 ⟨Nat.le_of_ble_eq_true rfl, Nat.le_of_ble_eq_true rfl⟩ (fun H locs hI => ?_)
          refine lv_if_ne (tgt := 32) hx hb dX7_brokenBy_27 (by decide) (fun c8 => ?_) (fun c8 => ?_)
          · have hf := o_neg hf c8
            exact J32 x1 x2 σ6 hf H locs hI ls (lv_sub hl [0, 1, 2] rfl)
          · have hf := o_pos hf c8
            refine lv_iload_n hx hb dX7_brokenBy_30 rfl (lv_at hl 2 rfl) ?_
            exact hret hf hI dX7_brokenBy_31
  have hl : lv_has ls 3 [(0, .ref (A 0)), (1, .int p0)] := hl
  unfold f7_brokenBy at hf
  obtain ⟨H, eH⟩ : ∃ H, H = s.heap := ⟨_, rfl⟩
  obtain ⟨locs, eL⟩ : ∃ locs : List Loc, locs = [] := ⟨_, rfl⟩
  have hI : XI D cl (mw ci A d σ) A0 s.heap H locs := by rw [eH, eL]; exact hI
  rw [← eL]
  suffices h : W p l e r7_brokenBy s m args below meth c H locs 0 0 Q (F0 m 0 ls []) by rw [eH] at h; exact h
  clear eH eL
  refine lv_iconst (v := 0) hx hb dX7_brokenBy_0 (by decide) ?_
  refine lv_istore_n (lv' := [(2, .int 0), (0, .ref (A 0)), (1, .int p0)]) hx hb dX7_brokenBy_1 rfl hl (by decide) rfl (fun ls hl => ?_)
  exact L2 FU p0 0 σ hf H locs hI ls (lv_sub hl [1, 2, 0] rfl)
/-! withValue -/
def f7_withValue_b6 (K6 : Int32 → Int32 → Int32 → Int32 → Int32 → MS → oI Int32) (x1 : Int32) (x2 : Int32) (x3 : Int32) (x4 : Int32) (x5 : Int32) (σ : MS) : oI Int32 :=
  if x2 ≤ x5 then (bnd (f7_valueOf x1 x2 σ) fun r3 σ2 =>
  some (x1 + (x4 * (x3 - r3)), σ2)) else (K6 x1 x2 x3 (x4 * ((gA σ 1 0) + 1)) (x5 + 1) σ)
def f7_withValue_l6 : Nat → Int32 → Int32 → Int32 → Int32 → Int32 → MS → oI Int32
  | 0 => fun _ _ _ _ _ _ => none
  | n + 1 => fun x1 x2 x3 x4 x5 σ => f7_withValue_b6 (f7_withValue_l6 n) x1 x2 x3 x4 x5 σ
def f7_withValue (p0 : Int32) (p1 : Int32) (p2 : Int32) (σ : MS) : oI Int32 :=
  f7_withValue_l6 FU p0 p1 p2 1 0 σ
abbrev r7_withValue : Room := { frames := 1, cells := 0, slots := 0, locals := 24 }
theorem cw7_withValue {R : Room} {s : State} {args : Array Value} (ht : ∀ w ∈ lw_all, w.before args s = true) (hR : r7_withValue.frames + 1 ≤ R.frames ∧ 8 + (6 + 11) + r7_withValue.locals ≤ R.locals) : CallW R s args RX7 RX7 295 yX7_withValue cX7_withValue 6 (some .int) (ws_ yX7_withValue cX7_withValue 6 (some .int)) r7_withValue 0 0 3 :=
  cwV 3 ht (lw_V q3049 q3051 qs129 q178 q3052) rfl rfl rfl (by decide +kernel) hR
theorem m7_withValue (l : Launch) (D : va_G) (cl : vC2) (Z : (Nat → Prop) → State → Heap → Prop) (hz : ZK Z) (ci : Nat) (A : Nat → Nat) (d : Nat → ClassId) (tm : List (ClassId × FieldType)) (hc : cl.1[ci]? = some (RX7, TX7, 42)) (p0 : Int32) (p1 : Int32) (p2 : Int32) (σ : MS) (r : Int32) (σ' : MS) (hf : f7_withValue p0 p1 p2 σ = some (r, σ')) : MMi l yX7_withValue (ws_ yX7_withValue cX7_withValue 6 (some .int)) r7_withValue D cl Z ci A d tm σ [.int p0, .int p1, .int p2] r σ' := by
  refine m_openi hz (by decide) (by exact Nat.le_of_ble_eq_true rfl) (fun p e s m args below meth c ls A0 Q X hI hl hret => ?_)
  have X : XC p s m args meth c cX7_withValue 6 RX7 D cl (mty d tm) A0 Z := X
  have hx := X.1
  have hb := X.2.1
  have hown := X.2.2.2.1
  have hts := X.2.2.2.2.1
  have L6 : ∀ (n : Nat) (x1 : Int32) (x2 : Int32) (x3 : Int32) (x4 : Int32) (x5 : Int32) (σ : MS), f7_withValue_l6 n x1 x2 x3 x4 x5 σ = some (r, σ') → ∀ (H : Heap) (locs : List Loc), XI D cl (mw ci A d σ) A0 s.heap H locs → ∀ (ls : Array Slot), lv_has ls 6 [(0, .ref (A 0)), (1, .int x1), (2, .int x2), (3, .int x3), (4, .int x4), (5, .int x5)] → W p l e r7_withValue s m args below meth c H locs 0 0 Q (F0 m 6 ls []) := by
    intro n6
    induction n6 with
    | zero => intro x1 x2 x3 x4 x5 σ hf; cases hf
    | succ n6 ih6 =>
      intro x1 x2 x3 x4 x5 σ hf H locs hI ls hl
      have hf : f7_withValue_b6 (f7_withValue_l6 n6) x1 x2 x3 x4 x5 σ = some (r, σ') := hf
      unfold f7_withValue_b6 at hf
      refine lv_iload hx hb dX7_withValue_6 (lv_at hl 5 rfl) ?_
      refine lv_iload_n hx hb dX7_withValue_8 rfl (lv_at hl 2 rfl) ?_
      refine lv_icmp_ge (tgt := 31) hx hb dX7_withValue_9 (by decide) (fun c1 => ?_) (fun c1 => ?_)
      · have hf := o_pos hf c1
        refine lv_iload_n hx hb dX7_withValue_31 rfl (lv_at hl 1 rfl) ?_
        refine lv_iload hx hb dX7_withValue_32 (lv_at hl 4 rfl) ?_
        refine lv_iload_n hx hb dX7_withValue_34 rfl (lv_at hl 3 rfl) ?_
        refine lv_aload_n hx hb dX7_withValue_35 rfl (lv_at hl 0 rfl) ?_
        refine lv_iload_n hx hb dX7_withValue_36 rfl (lv_at hl 1 rfl) ?_
        refine lv_iload_n hx hb dX7_withValue_37 rfl (lv_at hl 2 rfl) ?_
        obtain ⟨r3, σ2, hσ2, hf⟩ := bnd_some hf
        refine m_calli X hI hc [.int x1, .int x2] (m7_valueOf l D cl Z hz ci A d tm hc x1 x2 σ r3 σ2 hσ2) (cw7_valueOf hts ⟨Nat.le_of_ble_eq_true rfl, Nat.le_of_ble_eq_true rfl⟩) rfl hl.1 (Nat.le_of_ble_eq_true rfl) rfl dX7_withValue_38 ⟨Nat.le_of_ble_eq_true rfl, Nat.le_of_ble_eq_true rfl⟩ (fun H locs hI => ?_)
        refine lv_isub hx hb dX7_withValue_41 ?_
        refine lv_imul hx hb dX7_withValue_42 ?_
        refine lv_iadd hx hb dX7_withValue_43 ?_
        exact hret hf hI dX7_withValue_44
      · have hf := o_neg hf c1
        refine lv_iload hx hb dX7_withValue_12 (lv_at hl 4 rfl) ?_
        refine lv_aload_n hx hb dX7_withValue_14 rfl (lv_at hl 0 rfl) ?_
        refine m_get (v := .ref (A 1)) X hI hc 1 (by decide) q2659 rfl dX7_withValue_15 ?_
        refine lv_iconst (v := 0) hx hb dX7_withValue_18 (by decide) ?_
        refine m_iald (k := 0) X hI 1 1 76 rfl rfl rfl dX7_withValue_19 ?_
        refine lv_iconst (v := 1) hx hb dX7_withValue_20 (by decide) ?_
        refine lv_iadd hx hb dX7_withValue_21 ?_
        refine lv_imul hx hb dX7_withValue_22 ?_
        refine lv_istore (lv' := [(4, .int (x4 * ((gA σ 1 0) + 1))), (0, .ref (A 0)), (1, .int x1), (2, .int x2), (3, .int x3), (5, .int x5)]) hx hb dX7_withValue_23 hl (by decide) rfl (fun ls hl => ?_)
        refine lv_iinc (v := x5 + 1) (lv' := [(5, .int (x5 + 1)), (4, .int (x4 * ((gA σ 1 0) + 1))), (0, .ref (A 0)), (1, .int x1), (2, .int x2), (3, .int x3)]) hx hb dX7_withValue_25 hl (k := 5) rfl rfl (by decide) rfl (fun ls hl => ?_)
        refine lv_goto (tgt := 6) hx hb dX7_withValue_28 (by decide) ?_
        exact ih6 x1 x2 x3 (x4 * ((gA σ 1 0) + 1)) (x5 + 1) σ hf H locs hI ls (lv_sub hl [2, 3, 4, 5, 1, 0] rfl)
  have hl : lv_has ls 6 [(0, .ref (A 0)), (1, .int p0), (2, .int p1), (3, .int p2)] := hl
  unfold f7_withValue at hf
  obtain ⟨H, eH⟩ : ∃ H, H = s.heap := ⟨_, rfl⟩
  obtain ⟨locs, eL⟩ : ∃ locs : List Loc, locs = [] := ⟨_, rfl⟩
  have hI : XI D cl (mw ci A d σ) A0 s.heap H locs := by rw [eH, eL]; exact hI
  rw [← eL]
  suffices h : W p l e r7_withValue s m args below meth c H locs 0 0 Q (F0 m 0 ls []) by rw [eH] at h; exact h
  clear eH eL
  refine lv_iconst (v := 1) hx hb dX7_withValue_0 (by decide) ?_
  refine lv_istore (lv' := [(4, .int 1), (0, .ref (A 0)), (1, .int p0), (2, .int p1), (3, .int p2)]) hx hb dX7_withValue_1 hl (by decide) rfl (fun ls hl => ?_)
  refine lv_iconst (v := 0) hx hb dX7_withValue_3 (by decide) ?_
  refine lv_istore (lv' := [(5, .int 0), (4, .int 1), (0, .ref (A 0)), (1, .int p0), (2, .int p1), (3, .int p2)]) hx hb dX7_withValue_4 hl (by decide) rfl (fun ls hl => ?_)
  exact L6 FU p0 p1 p2 1 0 σ hf H locs hI ls (lv_sub hl [2, 3, 4, 5, 1, 0] rfl)
/-! added -/
def f7_added (p0 : Int32) (p1 : Int32) (p2 : Int32) (σ : MS) : oI Int32 :=
  bnd (f7_valueOf p0 p1 σ) fun r2 σ1 =>
  bn1 (f7_in ((r2 + p2).toInt64) 0 ((gA σ1 1 0).toInt64)) fun r3 =>
  if r3 = 0 then (some ((-1), σ1)) else (bnd (f7_withValue p0 p1 (r2 + p2) σ1) fun r6 σ5 =>
  some (r6, σ5))
abbrev r7_added : Room := { frames := 2, cells := 0, slots := 0, locals := 49 }
theorem cw7_added {R : Room} {s : State} {args : Array Value} (ht : ∀ w ∈ lw_all, w.before args s = true) (hR : r7_added.frames + 1 ≤ R.frames ∧ 8 + (5 + 11) + r7_added.locals ≤ R.locals) : CallW R s args RX7 RX7 299 yX7_added cX7_added 5 (some .int) (ws_ yX7_added cX7_added 5 (some .int)) r7_added 0 0 3 :=
  cwV 3 ht (lw_V q3045 q3047 qs128 q178 q3048) rfl rfl rfl (by decide +kernel) hR
theorem m7_added (l : Launch) (D : va_G) (cl : vC2) (Z : (Nat → Prop) → State → Heap → Prop) (hz : ZK Z) (ci : Nat) (A : Nat → Nat) (d : Nat → ClassId) (tm : List (ClassId × FieldType)) (hc : cl.1[ci]? = some (RX7, TX7, 42)) (p0 : Int32) (p1 : Int32) (p2 : Int32) (σ : MS) (r : Int32) (σ' : MS) (hf : f7_added p0 p1 p2 σ = some (r, σ')) : MMi l yX7_added (ws_ yX7_added cX7_added 5 (some .int)) r7_added D cl Z ci A d tm σ [.int p0, .int p1, .int p2] r σ' := by
  refine m_openi hz (by decide) (by exact Nat.le_of_ble_eq_true rfl) (fun p e s m args below meth c ls A0 Q X hI hl hret => ?_)
  have X : XC p s m args meth c cX7_added 5 RX7 D cl (mty d tm) A0 Z := X
  have hx := X.1
  have hb := X.2.1
  have hown := X.2.2.2.1
  have hts := X.2.2.2.2.1
  have hl : lv_has ls 5 [(0, .ref (A 0)), (1, .int p0), (2, .int p1), (3, .int p2)] := hl
  unfold f7_added at hf
  obtain ⟨H, eH⟩ : ∃ H, H = s.heap := ⟨_, rfl⟩
  obtain ⟨locs, eL⟩ : ∃ locs : List Loc, locs = [] := ⟨_, rfl⟩
  have hI : XI D cl (mw ci A d σ) A0 s.heap H locs := by rw [eH, eL]; exact hI
  rw [← eL]
  suffices h : W p l e r7_added s m args below meth c H locs 0 0 Q (F0 m 0 ls []) by rw [eH] at h; exact h
  clear eH eL
  refine lv_aload_n hx hb dX7_added_0 rfl (lv_at hl 0 rfl) ?_
  refine lv_iload_n hx hb dX7_added_1 rfl (lv_at hl 1 rfl) ?_
  refine lv_iload_n hx hb dX7_added_2 rfl (lv_at hl 2 rfl) ?_
  obtain ⟨r2, σ1, hσ1, hf⟩ := bnd_some hf
  refine m_calli X hI hc [.int p0, .int p1] (m7_valueOf l D cl Z hz ci A d tm hc p0 p1 σ r2 σ1 hσ1) (cw7_valueOf hts ⟨Nat.le_of_ble_eq_true rfl, Nat.le_of_ble_eq_true rfl⟩) rfl hl.1 (Nat.le_of_ble_eq_true rfl) rfl dX7_added_3 ⟨Nat.le_of_ble_eq_true rfl, Nat.le_of_ble_eq_true rfl⟩ (fun H locs hI => ?_)
  refine lv_iload_n hx hb dX7_added_6 rfl (lv_at hl 3 rfl) ?_
  refine lv_iadd hx hb dX7_added_7 ?_
  refine lv_istore (lv' := [(4, .int (r2 + p2)), (0, .ref (A 0)), (1, .int p0), (2, .int p1), (3, .int p2)]) hx hb dX7_added_8 hl (by decide) rfl (fun ls hl => ?_)
  refine lv_iload hx hb dX7_added_10 (lv_at hl 0 rfl) ?_
  refine lv_i2l hx hb dX7_added_12 rfl ?_
  refine lv_lconst (v := 0) hx hb dX7_added_13 (by decide) ?_
  refine lv_aload_n hx hb dX7_added_14 rfl (lv_at hl 1 rfl) ?_
  refine m_get (v := .ref (A 1)) X hI hc 1 (by decide) q2659 rfl dX7_added_15 ?_
  refine lv_iconst (v := 0) hx hb dX7_added_18 (by decide) ?_
  refine m_iald (k := 0) X hI 1 1 76 rfl rfl rfl dX7_added_19 ?_
  refine lv_i2l hx hb dX7_added_20 rfl ?_
  obtain ⟨r3, hr3, hf⟩ := bn1_some hf
  refine x_callSi (As := [.long ((r2 + p2).toInt64), .long 0, .long ((gA σ1 1 0).toInt64)]) X hI (m7_in l ((r2 + p2).toInt64) 0 ((gA σ1 1 0).toInt64) r3 hr3) (cw7_in hts ⟨Nat.le_of_ble_eq_true rfl, Nat.le_of_ble_eq_true rfl⟩) rfl hl.1 (Nat.le_of_ble_eq_true rfl) rfl dX7_added_21 ⟨Nat.le_of_ble_eq_true rfl, Nat.le_of_ble_eq_true rfl⟩ (fun H locs hI => ?_)
  refine lv_if_eq (tgt := 38) hx hb dX7_added_24 (by decide) (fun c4 => ?_) (fun c4 => ?_)
  · have hf := o_pos hf c4
    refine lv_iconst (v := -1) hx hb dX7_added_38 (by decide) ?_
    exact hret hf hI dX7_added_39
  · have hf := o_neg hf c4
    refine lv_aload_n hx hb dX7_added_27 rfl (lv_at hl 1 rfl) ?_
    refine lv_iload_n hx hb dX7_added_28 rfl (lv_at hl 2 rfl) ?_
    refine lv_iload_n hx hb dX7_added_29 rfl (lv_at hl 3 rfl) ?_
    refine lv_iload hx hb dX7_added_30 (lv_at hl 0 rfl) ?_
    obtain ⟨r6, σ5, hσ5, hf⟩ := bnd_some hf
    refine m_calli X hI hc [.int p0, .int p1, .int (r2 + p2)] (m7_withValue l D cl Z hz ci A d tm hc p0 p1 (r2 + p2) σ1 r6 σ5 hσ5) (cw7_withValue hts ⟨Nat.le_of_ble_eq_true rfl, Nat.le_of_ble_eq_true rfl⟩) rfl hl.1 (Nat.le_of_ble_eq_true rfl) rfl dX7_added_32 ⟨Nat.le_of_ble_eq_true rfl, Nat.le_of_ble_eq_true rfl⟩ (fun H locs hI => ?_)
    refine lv_goto (tgt := 39) hx hb dX7_added_35 (by decide) ?_
    exact hret hf hI dX7_added_39
/-! doneBy -/
def f7_doneBy_b129 (x5 : Int32) (σ : MS) : oI Int32 :=
  if x5 = (-1) then (some ((-1), σ)) else (grd (inB x5 64) <|
  if (gA σ 19 x5.toNatClampNeg) = 0 then (some ((-1), σ)) else (some (x5, σ)))
def f7_doneBy (p0 : Int32) (p1 : Int32) (σ : MS) : oI Int32 :=
  bnd (f7_opOf p0 1 σ) fun r2 σ1 =>
  bnd (f7_opOf p0 2 σ1) fun r4 σ3 =>
  bnd (f7_opOf p0 0 σ3) fun r6 σ5 =>
  if r6 = 0 then (bnd (f7_added p1 r2 r4 σ5) fun r9 σ8 =>
  f7_doneBy_b129 r9 σ8) else (if r6 = 1 then (bnd (f7_added p1 r2 (-r4) σ5) fun r12 σ11 =>
  f7_doneBy_b129 r12 σ11) else (if r6 = 2 then (bnd (f7_withValue p1 r2 r4 σ5) fun r15 σ14 =>
  f7_doneBy_b129 r15 σ14) else (bnd (f7_opOf p0 3 σ5) fun r17 σ16 =>
  bnd (f7_added p1 r2 (-r17) σ16) fun r19 σ18 =>
  if r19 = (-1) then (f7_doneBy_b129 r19 σ18) else (bnd (f7_opOf p0 3 σ18) fun r22 σ21 =>
  bnd (f7_added r19 r4 r22 σ21) fun r24 σ23 =>
  f7_doneBy_b129 r24 σ23))))
abbrev r7_doneBy : Room := { frames := 3, cells := 0, slots := 0, locals := 73 }
theorem cw7_doneBy {R : Room} {s : State} {args : Array Value} (ht : ∀ w ∈ lw_all, w.before args s = true) (hR : r7_doneBy.frames + 1 ≤ R.frames ∧ 8 + (6 + 11) + r7_doneBy.locals ≤ R.locals) : CallW R s args RX7 RX7 305 yX7_doneBy cX7_doneBy 6 (some .int) (ws_ yX7_doneBy cX7_doneBy 6 (some .int)) r7_doneBy 0 0 2 :=
  cwV 2 ht (lw_V q3041 q3043 qs127 q178 q3044) rfl rfl rfl (by decide +kernel) hR
theorem m7_doneBy (l : Launch) (D : va_G) (cl : vC2) (Z : (Nat → Prop) → State → Heap → Prop) (hz : ZK Z) (ci : Nat) (A : Nat → Nat) (d : Nat → ClassId) (tm : List (ClassId × FieldType)) (hc : cl.1[ci]? = some (RX7, TX7, 42)) (p0 : Int32) (p1 : Int32) (σ : MS) (r : Int32) (σ' : MS) (hf : f7_doneBy p0 p1 σ = some (r, σ')) : MMi l yX7_doneBy (ws_ yX7_doneBy cX7_doneBy 6 (some .int)) r7_doneBy D cl Z ci A d tm σ [.int p0, .int p1] r σ' := by
  refine m_openi hz (by decide) (by exact Nat.le_of_ble_eq_true rfl) (fun p e s m args below meth c ls A0 Q X hI hl hret => ?_)
  have X : XC p s m args meth c cX7_doneBy 6 RX7 D cl (mty d tm) A0 Z := X
  have hx := X.1
  have hb := X.2.1
  have hown := X.2.2.2.1
  have hts := X.2.2.2.2.1
  have J129 : ∀ (x5 : Int32) (σ : MS), f7_doneBy_b129 x5 σ = some (r, σ') → ∀ (H : Heap) (locs : List Loc), XI D cl (mw ci A d σ) A0 s.heap H locs → ∀ (ls : Array Slot), lv_has ls 6 [(0, .ref (A 0)), (5, .int x5)] → W p l e r7_doneBy s m args below meth c H locs 0 0 Q (F0 m 129 ls []) := by
    intro x5 σ hf H locs hI ls hl
    unfold f7_doneBy_b129 at hf
    refine lv_iload hx hb dX7_doneBy_129 (lv_at hl 1 rfl) ?_
    refine lv_iconst (v := -1) hx hb dX7_doneBy_131 (by decide) ?_
    refine lv_icmp_eq (tgt := 150) hx hb dX7_doneBy_132 (by decide) (fun c25 => ?_) (fun c25 => ?_)
    · have hf := o_pos hf c25
      refine lv_iconst (v := -1) hx hb dX7_doneBy_150 (by decide) ?_
      exact hret hf hI dX7_doneBy_151
    · have hf := o_neg hf c25
      refine lv_aload_n hx hb dX7_doneBy_135 rfl (lv_at hl 0 rfl) ?_
      refine m_get (v := .ref (A 19)) X hI hc 19 (by decide) q2677 rfl dX7_doneBy_136 ?_
      refine lv_iload hx hb dX7_doneBy_139 (lv_at hl 1 rfl) ?_
      obtain ⟨g26, hf⟩ := grd_some hf
      refine m_zald X hI 19 8 64 rfl rfl g26 dX7_doneBy_141 ?_
      refine lv_if_eq (tgt := 150) hx hb dX7_doneBy_142 (by decide) (fun c27 => ?_) (fun c27 => ?_)
      · have hf := o_pos hf c27
        refine lv_iconst (v := -1) hx hb dX7_doneBy_150 (by decide) ?_
        exact hret hf hI dX7_doneBy_151
      · have hf := o_neg hf c27
        refine lv_iload hx hb dX7_doneBy_145 (lv_at hl 1 rfl) ?_
        refine lv_goto (tgt := 151) hx hb dX7_doneBy_147 (by decide) ?_
        exact hret hf hI dX7_doneBy_151
  have hl : lv_has ls 6 [(0, .ref (A 0)), (1, .int p0), (2, .int p1)] := hl
  unfold f7_doneBy at hf
  obtain ⟨H, eH⟩ : ∃ H, H = s.heap := ⟨_, rfl⟩
  obtain ⟨locs, eL⟩ : ∃ locs : List Loc, locs = [] := ⟨_, rfl⟩
  have hI : XI D cl (mw ci A d σ) A0 s.heap H locs := by rw [eH, eL]; exact hI
  rw [← eL]
  suffices h : W p l e r7_doneBy s m args below meth c H locs 0 0 Q (F0 m 0 ls []) by rw [eH] at h; exact h
  clear eH eL
  refine lv_aload_n hx hb dX7_doneBy_0 rfl (lv_at hl 0 rfl) ?_
  refine lv_iload_n hx hb dX7_doneBy_1 rfl (lv_at hl 1 rfl) ?_
  refine lv_iconst (v := 1) hx hb dX7_doneBy_2 (by decide) ?_
  obtain ⟨r2, σ1, hσ1, hf⟩ := bnd_some hf
  refine m_calli X hI hc [.int p0, .int 1] (m7_opOf l D cl Z hz ci A d tm hc p0 1 σ r2 σ1 hσ1) (cw7_opOf hts ⟨Nat.le_of_ble_eq_true rfl, Nat.le_of_ble_eq_true rfl⟩) rfl hl.1 (Nat.le_of_ble_eq_true rfl) rfl dX7_doneBy_3 ⟨Nat.le_of_ble_eq_true rfl, Nat.le_of_ble_eq_true rfl⟩ (fun H locs hI => ?_)
  refine lv_istore_n (lv' := [(3, .int r2), (0, .ref (A 0)), (1, .int p0), (2, .int p1)]) hx hb dX7_doneBy_6 rfl hl (by decide) rfl (fun ls hl => ?_)
  refine lv_aload_n hx hb dX7_doneBy_7 rfl (lv_at hl 1 rfl) ?_
  refine lv_iload_n hx hb dX7_doneBy_8 rfl (lv_at hl 2 rfl) ?_
  refine lv_iconst (v := 2) hx hb dX7_doneBy_9 (by decide) ?_
  obtain ⟨r4, σ3, hσ3, hf⟩ := bnd_some hf
  refine m_calli X hI hc [.int p0, .int 2] (m7_opOf l D cl Z hz ci A d tm hc p0 2 σ1 r4 σ3 hσ3) (cw7_opOf hts ⟨Nat.le_of_ble_eq_true rfl, Nat.le_of_ble_eq_true rfl⟩) rfl hl.1 (Nat.le_of_ble_eq_true rfl) rfl dX7_doneBy_10 ⟨Nat.le_of_ble_eq_true rfl, Nat.le_of_ble_eq_true rfl⟩ (fun H locs hI => ?_)
  refine lv_istore (lv' := [(4, .int r4), (3, .int r2), (0, .ref (A 0)), (1, .int p0), (2, .int p1)]) hx hb dX7_doneBy_13 hl (by decide) rfl (fun ls hl => ?_)
  refine lv_iload_n hx hb dX7_doneBy_15 rfl (lv_at hl 4 rfl) ?_
  refine lv_istore (lv' := [(5, .int p1), (4, .int r4), (3, .int r2), (0, .ref (A 0)), (1, .int p0), (2, .int p1)]) hx hb dX7_doneBy_16 hl (by decide) rfl (fun ls hl => ?_)
  refine lv_aload_n hx hb dX7_doneBy_18 rfl (lv_at hl 3 rfl) ?_
  refine lv_iload_n hx hb dX7_doneBy_19 rfl (lv_at hl 4 rfl) ?_
  refine lv_iconst (v := 0) hx hb dX7_doneBy_20 (by decide) ?_
  obtain ⟨r6, σ5, hσ5, hf⟩ := bnd_some hf
  refine m_calli X hI hc [.int p0, .int 0] (m7_opOf l D cl Z hz ci A d tm hc p0 0 σ3 r6 σ5 hσ5) (cw7_opOf hts ⟨Nat.le_of_ble_eq_true rfl, Nat.le_of_ble_eq_true rfl⟩) rfl hl.1 (Nat.le_of_ble_eq_true rfl) rfl dX7_doneBy_21 ⟨Nat.le_of_ble_eq_true rfl, Nat.le_of_ble_eq_true rfl⟩ (fun H locs hI => ?_)
  by_cases c7 : r6 = 0
  · refine x_swIn (tgt := 52) hx hb c7 dX7_doneBy_24 (by decide) (by decide) rfl (by decide) ?_
    have hf := o_pos hf c7
    refine lv_aload_n hx hb dX7_doneBy_52 rfl (lv_at hl 3 rfl) ?_
    refine lv_iload_n hx hb dX7_doneBy_53 rfl (lv_at hl 5 rfl) ?_
    refine lv_iload_n hx hb dX7_doneBy_54 rfl (lv_at hl 2 rfl) ?_
    refine lv_iload hx hb dX7_doneBy_55 (lv_at hl 1 rfl) ?_
    obtain ⟨r9, σ8, hσ8, hf⟩ := bnd_some hf
    refine m_calli X hI hc [.int p1, .int r2, .int r4] (m7_added l D cl Z hz ci A d tm hc p1 r2 r4 σ5 r9 σ8 hσ8) (cw7_added hts ⟨Nat.le_of_ble_eq_true rfl, Nat.le_of_ble_eq_true rfl⟩) rfl hl.1 (Nat.le_of_ble_eq_true rfl) rfl dX7_doneBy_57 ⟨Nat.le_of_ble_eq_true rfl, Nat.le_of_ble_eq_true rfl⟩ (fun H locs hI => ?_)
    refine lv_istore (lv' := [(5, .int r9), (4, .int r4), (3, .int r2), (0, .ref (A 0)), (1, .int p0), (2, .int p1)]) hx hb dX7_doneBy_60 hl (by decide) rfl (fun ls hl => ?_)
    refine lv_goto (tgt := 129) hx hb dX7_doneBy_62 (by decide) ?_
    exact J129 r9 σ8 hf H locs hI ls (lv_sub hl [3, 0] rfl)
  have hf := o_neg hf c7
  by_cases c10 : r6 = 1
  · refine x_swIn (tgt := 65) hx hb c10 dX7_doneBy_24 (by decide) (by decide) rfl (by decide) ?_
    have hf := o_pos hf c10
    refine lv_aload_n hx hb dX7_doneBy_65 rfl (lv_at hl 3 rfl) ?_
    refine lv_iload_n hx hb dX7_doneBy_66 rfl (lv_at hl 5 rfl) ?_
    refine lv_iload_n hx hb dX7_doneBy_67 rfl (lv_at hl 2 rfl) ?_
    refine lv_iload hx hb dX7_doneBy_68 (lv_at hl 1 rfl) ?_
    refine lv_ineg hx hb dX7_doneBy_70 ?_
    obtain ⟨r12, σ11, hσ11, hf⟩ := bnd_some hf
    refine m_calli X hI hc [.int p1, .int r2, .int (-r4)] (m7_added l D cl Z hz ci A d tm hc p1 r2 (-r4) σ5 r12 σ11 hσ11) (cw7_added hts ⟨Nat.le_of_ble_eq_true rfl, Nat.le_of_ble_eq_true rfl⟩) rfl hl.1 (Nat.le_of_ble_eq_true rfl) rfl dX7_doneBy_71 ⟨Nat.le_of_ble_eq_true rfl, Nat.le_of_ble_eq_true rfl⟩ (fun H locs hI => ?_)
    refine lv_istore (lv' := [(5, .int r12), (4, .int r4), (3, .int r2), (0, .ref (A 0)), (1, .int p0), (2, .int p1)]) hx hb dX7_doneBy_74 hl (by decide) rfl (fun ls hl => ?_)
    refine lv_goto (tgt := 129) hx hb dX7_doneBy_76 (by decide) ?_
    exact J129 r12 σ11 hf H locs hI ls (lv_sub hl [3, 0] rfl)
  have hf := o_neg hf c10
  by_cases c13 : r6 = 2
  · refine x_swIn (tgt := 79) hx hb c13 dX7_doneBy_24 (by decide) (by decide) rfl (by decide) ?_
    have hf := o_pos hf c13
    refine lv_aload_n hx hb dX7_doneBy_79 rfl (lv_at hl 3 rfl) ?_
    refine lv_iload_n hx hb dX7_doneBy_80 rfl (lv_at hl 5 rfl) ?_
    refine lv_iload_n hx hb dX7_doneBy_81 rfl (lv_at hl 2 rfl) ?_
    refine lv_iload hx hb dX7_doneBy_82 (lv_at hl 1 rfl) ?_
    obtain ⟨r15, σ14, hσ14, hf⟩ := bnd_some hf
    refine m_calli X hI hc [.int p1, .int r2, .int r4] (m7_withValue l D cl Z hz ci A d tm hc p1 r2 r4 σ5 r15 σ14 hσ14) (cw7_withValue hts ⟨Nat.le_of_ble_eq_true rfl, Nat.le_of_ble_eq_true rfl⟩) rfl hl.1 (Nat.le_of_ble_eq_true rfl) rfl dX7_doneBy_84 ⟨Nat.le_of_ble_eq_true rfl, Nat.le_of_ble_eq_true rfl⟩ (fun H locs hI => ?_)
    refine lv_istore (lv' := [(5, .int r15), (4, .int r4), (3, .int r2), (0, .ref (A 0)), (1, .int p0), (2, .int p1)]) hx hb dX7_doneBy_87 hl (by decide) rfl (fun ls hl => ?_)
    refine lv_goto (tgt := 129) hx hb dX7_doneBy_89 (by decide) ?_
    exact J129 r15 σ14 hf H locs hI ls (lv_sub hl [3, 0] rfl)
  have hf := o_neg hf c13
  refine lv_tableOut (tgt := 92) hx hb dX7_doneBy_24 (by have t0 := lv_neT c7 (show (0 : Int32).toInt = 0 from rfl); have t1 := lv_neT c10 (show (1 : Int32).toInt = 1 from rfl); have t2 := lv_neT c13 (show (2 : Int32).toInt = 2 from rfl); omega) (by decide) ?_
  refine lv_aload_n hx hb dX7_doneBy_92 rfl (lv_at hl 3 rfl) ?_
  refine lv_iload_n hx hb dX7_doneBy_93 rfl (lv_at hl 5 rfl) ?_
  refine lv_iload_n hx hb dX7_doneBy_94 rfl (lv_at hl 2 rfl) ?_
  refine lv_aload_n hx hb dX7_doneBy_95 rfl (lv_at hl 3 rfl) ?_
  refine lv_iload_n hx hb dX7_doneBy_96 rfl (lv_at hl 4 rfl) ?_
  refine lv_iconst (v := 3) hx hb dX7_doneBy_97 (by decide) ?_
  obtain ⟨r17, σ16, hσ16, hf⟩ := bnd_some hf
  refine m_calli X hI hc [.int p0, .int 3] (m7_opOf l D cl Z hz ci A d tm hc p0 3 σ5 r17 σ16 hσ16) (cw7_opOf hts ⟨Nat.le_of_ble_eq_true rfl, Nat.le_of_ble_eq_true rfl⟩) rfl hl.1 (Nat.le_of_ble_eq_true rfl) rfl dX7_doneBy_98 ⟨Nat.le_of_ble_eq_true rfl, Nat.le_of_ble_eq_true rfl⟩ (fun H locs hI => ?_)
  refine lv_ineg hx hb dX7_doneBy_101 ?_
  obtain ⟨r19, σ18, hσ18, hf⟩ := bnd_some hf
  refine m_calli X hI hc [.int p1, .int r2, .int (-r17)] (m7_added l D cl Z hz ci A d tm hc p1 r2 (-r17) σ16 r19 σ18 hσ18) (cw7_added hts ⟨Nat.le_of_ble_eq_true rfl, Nat.le_of_ble_eq_true rfl⟩) rfl hl.1 (Nat.le_of_ble_eq_true rfl) rfl dX7_doneBy_102 ⟨Nat.le_of_ble_eq_true rfl, Nat.le_of_ble_eq_true rfl⟩ (fun H locs hI => ?_)
  refine lv_istore (lv' := [(5, .int r19), (4, .int r4), (3, .int r2), (0, .ref (A 0)), (1, .int p0), (2, .int p1)]) hx hb dX7_doneBy_105 hl (by decide) rfl (fun ls hl => ?_)
  refine lv_iload hx hb dX7_doneBy_107 (lv_at hl 0 rfl) ?_
  refine lv_iconst (v := -1) hx hb dX7_doneBy_109 (by decide) ?_
  refine lv_icmp_eq (tgt := 129) hx hb dX7_doneBy_110 (by decide) (fun c20 => ?_) (fun c20 => ?_)
  · have hf := o_pos hf c20
    exact J129 r19 σ18 hf H locs hI ls (lv_sub hl [3, 0] rfl)
  · have hf := o_neg hf c20
    refine lv_aload_n hx hb dX7_doneBy_113 rfl (lv_at hl 3 rfl) ?_
    refine lv_iload hx hb dX7_doneBy_114 (lv_at hl 0 rfl) ?_
    refine lv_iload hx hb dX7_doneBy_116 (lv_at hl 1 rfl) ?_
    refine lv_aload_n hx hb dX7_doneBy_118 rfl (lv_at hl 3 rfl) ?_
    refine lv_iload_n hx hb dX7_doneBy_119 rfl (lv_at hl 4 rfl) ?_
    refine lv_iconst (v := 3) hx hb dX7_doneBy_120 (by decide) ?_
    obtain ⟨r22, σ21, hσ21, hf⟩ := bnd_some hf
    refine m_calli X hI hc [.int p0, .int 3] (m7_opOf l D cl Z hz ci A d tm hc p0 3 σ18 r22 σ21 hσ21) (cw7_opOf hts ⟨Nat.le_of_ble_eq_true rfl, Nat.le_of_ble_eq_true rfl⟩) rfl hl.1 (Nat.le_of_ble_eq_true rfl) rfl dX7_doneBy_121 ⟨Nat.le_of_ble_eq_true rfl, Nat.le_of_ble_eq_true rfl⟩ (fun H locs hI => ?_)
    obtain ⟨r24, σ23, hσ23, hf⟩ := bnd_some hf
    refine m_calli X hI hc [.int r19, .int r4, .int r22] (m7_added l D cl Z hz ci A d tm hc r19 r4 r22 σ21 r24 σ23 hσ23) (cw7_added hts ⟨Nat.le_of_ble_eq_true rfl, Nat.le_of_ble_eq_true rfl⟩) rfl hl.1 (Nat.le_of_ble_eq_true rfl) rfl dX7_doneBy_124 ⟨Nat.le_of_ble_eq_true rfl, Nat.le_of_ble_eq_true rfl⟩ (fun H locs hI => ?_)
    refine lv_istore (lv' := [(5, .int r24), (4, .int r4), (3, .int r2), (0, .ref (A 0)), (1, .int p0), (2, .int p1)]) hx hb dX7_doneBy_127 hl (by decide) rfl (fun ls hl => ?_)
    exact J129 r24 σ23 hf H locs hI ls (lv_sub hl [3, 0] rfl)
/-! layStates -/
def f7_layStates_b48 (K38 : Int32 → MS → Option MS) (K48 : Int32 → Int32 → MS → Option MS) (x1 : Int32) (x2 : Int32) (σ : MS) : Option MS :=
  bnd (f7_stateMany σ) fun r13 σ12 =>
  if r13 ≤ x2 then (K38 (x1 + 1) σ12) else (bnd (f7_doneBy x1 x2 σ12) fun r16 σ15 =>
  grd (inB (((64 : Int32) * x1) + x2) 320) <|
  nxt (sA σ15 20 (((64 : Int32) * x1) + x2).toNatClampNeg r16) fun σ18 =>
  K48 x1 (x2 + 1) σ18)
def f7_layStates_l48 (K38 : Int32 → MS → Option MS) : Nat → Int32 → Int32 → MS → Option MS
  | 0 => fun _ _ _ => none
  | n + 1 => fun x1 x2 σ => f7_layStates_b48 K38 (f7_layStates_l48 K38 n) x1 x2 σ
def f7_layStates_b38 (K38 : Int32 → MS → Option MS) (x1 : Int32) (σ : MS) : Option MS :=
  bnd (f7_ops σ) fun r8 σ7 =>
  if r8 ≤ x1 then (some σ7) else (f7_layStates_l48 K38 FU x1 0 σ7)
def f7_layStates_l38 : Nat → Int32 → MS → Option MS
  | 0 => fun _ _ => none
  | n + 1 => fun x1 σ => f7_layStates_b38 (f7_layStates_l38 n) x1 σ
def f7_layStates_b29 (K2 : Int32 → MS → Option MS) (x1 : Int32) (z1 : Int32) (z2 : Int32) (σ : MS) : Option MS :=
  grd (inB z1 64) <|
  nxt (sA σ 19 z1.toNatClampNeg (vp_nar .boolean z2)) fun σ11 =>
  K2 (x1 + 1) σ11
def f7_layStates_b2 (K2 : Int32 → MS → Option MS) (x1 : Int32) (σ : MS) : Option MS :=
  bnd (f7_stateMany σ) fun r2 σ1 =>
  if r2 ≤ x1 then (f7_layStates_l38 FU 0 σ1) else (bnd (f7_brokenBy x1 σ1) fun r5 σ4 =>
  if r5 = (-1) then (f7_layStates_b29 K2 x1 x1 1 σ4) else (f7_layStates_b29 K2 x1 x1 0 σ4))
def f7_layStates_l2 : Nat → Int32 → MS → Option MS
  | 0 => fun _ _ => none
  | n + 1 => fun x1 σ => f7_layStates_b2 (f7_layStates_l2 n) x1 σ
def f7_layStates (σ : MS) : Option MS :=
  f7_layStates_l2 FU 0 σ
abbrev r7_layStates : Room := { frames := 4, cells := 0, slots := 0, locals := 98 }
theorem cw7_layStates {R : Room} {s : State} {args : Array Value} (ht : ∀ w ∈ lw_all, w.before args s = true) (hR : r7_layStates.frames + 1 ≤ R.frames ∧ 8 + (3 + 11) + r7_layStates.locals ≤ R.locals) : CallW R s args RX7 RX7 311 yX7_layStates cX7_layStates 3 none (ws_ yX7_layStates cX7_layStates 3 none) r7_layStates 0 0 0 :=
  cwV 0 ht (lw_V q3030 q3032 qs125 q178 q3033) rfl rfl rfl (by decide +kernel) hR
theorem m7_layStates (l : Launch) (D : va_G) (cl : vC2) (Z : (Nat → Prop) → State → Heap → Prop) (hz : ZK Z) (ci : Nat) (A : Nat → Nat) (d : Nat → ClassId) (tm : List (ClassId × FieldType)) (hc : cl.1[ci]? = some (RX7, TX7, 42)) (σ : MS) (σ' : MS) (hf : f7_layStates σ = some σ') : MMv l yX7_layStates (ws_ yX7_layStates cX7_layStates 3 none) r7_layStates D cl Z ci A d tm σ [] σ' := by
  refine m_openv hz (by decide) (by exact Nat.le_of_ble_eq_true rfl) (fun p e s m args below meth c ls A0 Q X hI hl hret => ?_)
  have X : XC p s m args meth c cX7_layStates 3 RX7 D cl (mty d tm) A0 Z := X
  have hx := X.1
  have hb := X.2.1
  have hown := X.2.2.2.1
  have hts := X.2.2.2.2.1
  have L38 : ∀ (n : Nat) (x1 : Int32) (σ : MS), f7_layStates_l38 n x1 σ = some σ' → ∀ (H : Heap) (locs : List Loc), XI D cl (mw ci A d σ) A0 s.heap H locs → ∀ (ls : Array Slot), lv_has ls 3 [(0, .ref (A 0)), (1, .int x1)] → W p l e r7_layStates s m args below meth c H locs 0 0 Q (F0 m 38 ls []) := by
    intro n38
    induction n38 with
    | zero => intro x1 σ hf; cases hf
    | succ n38 ih38 =>
      have L48 : ∀ (n : Nat) (x1 : Int32) (x2 : Int32) (σ : MS), f7_layStates_l48 (f7_layStates_l38 n38) n x1 x2 σ = some σ' → ∀ (H : Heap) (locs : List Loc), XI D cl (mw ci A d σ) A0 s.heap H locs → ∀ (ls : Array Slot), lv_has ls 3 [(0, .ref (A 0)), (1, .int x1), (2, .int x2)] → W p l e r7_layStates s m args below meth c H locs 0 0 Q (F0 m 48 ls []) := by
        intro n48
        induction n48 with
        | zero => intro x1 x2 σ hf; cases hf
        | succ n48 ih48 =>
          intro x1 x2 σ hf H locs hI ls hl
          have hf : f7_layStates_b48 (f7_layStates_l38 n38) (f7_layStates_l48 (f7_layStates_l38 n38) n48) x1 x2 σ = some σ' := hf
          unfold f7_layStates_b48 at hf
          refine lv_iload_n hx hb dX7_layStates_48 rfl (lv_at hl 2 rfl) ?_
          refine lv_aload_n hx hb dX7_layStates_49 rfl (lv_at hl 0 rfl) ?_
          obtain ⟨r13, σ12, hσ12, hf⟩ := bnd_some hf
          refine m_calli X hI hc [] (m7_stateMany l D cl Z hz ci A d tm hc σ r13 σ12 hσ12) (cw7_stateMany hts ⟨Nat.le_of_ble_eq_true rfl, Nat.le_of_ble_eq_true rfl⟩) rfl hl.1 (Nat.le_of_ble_eq_true rfl) rfl dX7_layStates_50 ⟨Nat.le_of_ble_eq_true rfl, Nat.le_of_ble_eq_true rfl⟩ (fun H locs hI => ?_)
          refine lv_icmp_ge (tgt := 79) hx hb dX7_layStates_53 (by decide) (fun c14 => ?_) (fun c14 => ?_)
          · have hf := o_pos hf c14
            refine lv_iinc (v := x1 + 1) (lv' := [(1, .int (x1 + 1)), (0, .ref (A 0)), (2, .int x2)]) hx hb dX7_layStates_79 hl (k := 1) rfl rfl (by decide) rfl (fun ls hl => ?_)
            refine lv_goto (tgt := 38) hx hb dX7_layStates_82 (by decide) ?_
            exact ih38 (x1 + 1) σ12 hf H locs hI ls (lv_sub hl [1, 0] rfl)
          · have hf := o_neg hf c14
            refine lv_aload_n hx hb dX7_layStates_56 rfl (lv_at hl 0 rfl) ?_
            refine m_get (v := .ref (A 20)) X hI hc 20 (by decide) q2678 rfl dX7_layStates_57 ?_
            refine lv_bipush (v := 64) hx hb dX7_layStates_60 (by decide) ?_
            refine lv_iload_n hx hb dX7_layStates_62 rfl (lv_at hl 1 rfl) ?_
            refine lv_imul hx hb dX7_layStates_63 ?_
            refine lv_iload_n hx hb dX7_layStates_64 rfl (lv_at hl 2 rfl) ?_
            refine lv_iadd hx hb dX7_layStates_65 ?_
            refine lv_aload_n hx hb dX7_layStates_66 rfl (lv_at hl 0 rfl) ?_
            refine lv_iload_n hx hb dX7_layStates_67 rfl (lv_at hl 1 rfl) ?_
            refine lv_iload_n hx hb dX7_layStates_68 rfl (lv_at hl 2 rfl) ?_
            obtain ⟨r16, σ15, hσ15, hf⟩ := bnd_some hf
            refine m_calli X hI hc [.int x1, .int x2] (m7_doneBy l D cl Z hz ci A d tm hc x1 x2 σ12 r16 σ15 hσ15) (cw7_doneBy hts ⟨Nat.le_of_ble_eq_true rfl, Nat.le_of_ble_eq_true rfl⟩) rfl hl.1 (Nat.le_of_ble_eq_true rfl) rfl dX7_layStates_69 ⟨Nat.le_of_ble_eq_true rfl, Nat.le_of_ble_eq_true rfl⟩ (fun H locs hI => ?_)
            obtain ⟨g17, hf⟩ := grd_some hf
            refine m_iast X hI 20 9 320 rfl rfl g17 rfl dX7_layStates_72 (fun H locs hI => ?_)
            obtain ⟨σ18, eσ18, hf⟩ := nxt_some hf
            rw [← eσ18] at hI
            clear eσ18
            refine lv_iinc (v := x2 + 1) (lv' := [(2, .int (x2 + 1)), (0, .ref (A 0)), (1, .int x1)]) hx hb dX7_layStates_73 hl (k := 2) rfl rfl (by decide) rfl (fun ls hl => ?_)
            refine lv_goto (tgt := 48) hx hb dX7_layStates_76 (by decide) ?_
            exact ih48 x1 (x2 + 1) σ18 hf H locs hI ls (lv_sub hl [1, 2, 0] rfl)
      intro x1 σ hf H locs hI ls hl
      have hf : f7_layStates_b38 (f7_layStates_l38 n38) x1 σ = some σ' := hf
      unfold f7_layStates_b38 at hf
      refine lv_iload_n hx hb dX7_layStates_38 rfl (lv_at hl 1 rfl) ?_
      refine lv_aload_n hx hb dX7_layStates_39 rfl (lv_at hl 0 rfl) ?_
      obtain ⟨r8, σ7, hσ7, hf⟩ := bnd_some hf
      refine m_calli X hI hc [] (m7_ops l D cl Z hz ci A d tm hc σ r8 σ7 hσ7) (cw7_ops hts ⟨Nat.le_of_ble_eq_true rfl, Nat.le_of_ble_eq_true rfl⟩) rfl hl.1 (Nat.le_of_ble_eq_true rfl) rfl dX7_layStates_40 ⟨Nat.le_of_ble_eq_true rfl, Nat.le_of_ble_eq_true rfl⟩ (fun H locs hI => ?_)
      refine lv_icmp_ge (tgt := 85) hx hb dX7_layStates_43 (by decide) (fun c9 => ?_) (fun c9 => ?_)
      · have hf := o_pos hf c9
        exact hret hf hI dX7_layStates_85
      · have hf := o_neg hf c9
        refine lv_iconst (v := 0) hx hb dX7_layStates_46 (by decide) ?_
        refine lv_istore_n (lv' := [(2, .int 0), (0, .ref (A 0)), (1, .int x1)]) hx hb dX7_layStates_47 rfl hl (by decide) rfl (fun ls hl => ?_)
        exact L48 FU x1 0 σ7 hf H locs hI ls (lv_sub hl [1, 2, 0] rfl)
  have L2 : ∀ (n : Nat) (x1 : Int32) (σ : MS), f7_layStates_l2 n x1 σ = some σ' → ∀ (H : Heap) (locs : List Loc), XI D cl (mw ci A d σ) A0 s.heap H locs → ∀ (ls : Array Slot), lv_has ls 3 [(0, .ref (A 0)), (1, .int x1)] → W p l e r7_layStates s m args below meth c H locs 0 0 Q (F0 m 2 ls []) := by
    intro n2
    induction n2 with
    | zero => intro x1 σ hf; cases hf
    | succ n2 ih2 =>
      have J29 : ∀ (x1 : Int32) (z1 : Int32) (z2 : Int32) (σ : MS), f7_layStates_b29 (f7_layStates_l2 n2) x1 z1 z2 σ = some σ' → ∀ (H : Heap) (locs : List Loc), XI D cl (mw ci A d σ) A0 s.heap H locs → ∀ (ls : Array Slot), lv_has ls 3 [(0, .ref (A 0)), (1, .int x1)] → W p l e r7_layStates s m args below meth c H locs 0 0 Q (F0 m 29 ls [.int z2, .int z1, .ref (A 19)]) := by
        intro x1 z1 z2 σ hf H locs hI ls hl
        unfold f7_layStates_b29 at hf
        obtain ⟨g10, hf⟩ := grd_some hf
        refine m_zast X hI 19 8 64 rfl rfl g10 rfl dX7_layStates_29 (fun H locs hI => ?_)
        obtain ⟨σ11, eσ11, hf⟩ := nxt_some hf
        rw [← eσ11] at hI
        clear eσ11
        refine lv_iinc (v := x1 + 1) (lv' := [(1, .int (x1 + 1)), (0, .ref (A 0))]) hx hb dX7_layStates_30 hl (k := 1) rfl rfl (by decide) rfl (fun ls hl => ?_)
        refine lv_goto (tgt := 2) hx hb dX7_layStates_33 (by decide) ?_
        exact ih2 (x1 + 1) σ11 hf H locs hI ls (lv_sub hl [1, 0] rfl)
      intro x1 σ hf H locs hI ls hl
      have hf : f7_layStates_b2 (f7_layStates_l2 n2) x1 σ = some σ' := hf
      unfold f7_layStates_b2 at hf
      refine lv_iload_n hx hb dX7_layStates_2 rfl (lv_at hl 1 rfl) ?_
      refine lv_aload_n hx hb dX7_layStates_3 rfl (lv_at hl 0 rfl) ?_
      obtain ⟨r2, σ1, hσ1, hf⟩ := bnd_some hf
      refine m_calli X hI hc [] (m7_stateMany l D cl Z hz ci A d tm hc σ r2 σ1 hσ1) (cw7_stateMany hts ⟨Nat.le_of_ble_eq_true rfl, Nat.le_of_ble_eq_true rfl⟩) rfl hl.1 (Nat.le_of_ble_eq_true rfl) rfl dX7_layStates_4 ⟨Nat.le_of_ble_eq_true rfl, Nat.le_of_ble_eq_true rfl⟩ (fun H locs hI => ?_)
      refine lv_icmp_ge (tgt := 36) hx hb dX7_layStates_7 (by decide) (fun c3 => ?_) (fun c3 => ?_)
      · have hf := o_pos hf c3
        refine lv_iconst (v := 0) hx hb dX7_layStates_36 (by decide) ?_
        refine lv_istore_n (lv' := [(1, .int 0), (0, .ref (A 0))]) hx hb dX7_layStates_37 rfl hl (by decide) rfl (fun ls hl => ?_)
        exact L38 FU 0 σ1 hf H locs hI ls (lv_sub hl [1, 0] rfl)
      · have hf := o_neg hf c3
        refine lv_aload_n hx hb dX7_layStates_10 rfl (lv_at hl 0 rfl) ?_
        refine m_get (v := .ref (A 19)) X hI hc 19 (by decide) q2677 rfl dX7_layStates_11 ?_
        refine lv_iload_n hx hb dX7_layStates_14 rfl (lv_at hl 1 rfl) ?_
        refine lv_aload_n hx hb dX7_layStates_15 rfl (lv_at hl 0 rfl) ?_
        refine lv_iload_n hx hb dX7_layStates_16 rfl (lv_at hl 1 rfl) ?_
        obtain ⟨r5, σ4, hσ4, hf⟩ := bnd_some hf
        refine m_calli X hI hc [.int x1] (m7_brokenBy l D cl Z hz ci A d tm hc x1 σ1 r5 σ4 hσ4) (cw7_brokenBy hts ⟨Nat.le_of_ble_eq_true rfl, Nat.le_of_ble_eq_true rfl⟩) rfl hl.1 (Nat.le_of_ble_eq_true rfl) rfl dX7_layStates_17 ⟨Nat.le_of_ble_eq_true rfl, Nat.le_of_ble_eq_true rfl⟩ (fun H locs hI => ?_)
        refine lv_iconst (v := -1) hx hb dX7_layStates_20 (by decide) ?_
        refine lv_icmp_ne (tgt := 28) hx hb dX7_layStates_21 (by decide) (fun c6 => ?_) (fun c6 => ?_)
        · have hf := o_neg hf c6
          refine lv_iconst (v := 0) hx hb dX7_layStates_28 (by decide) ?_
          exact J29 x1 x1 0 σ4 hf H locs hI ls (lv_sub hl [0, 1] rfl)
        · have hf := o_pos hf c6
          refine lv_iconst (v := 1) hx hb dX7_layStates_24 (by decide) ?_
          refine lv_goto (tgt := 29) hx hb dX7_layStates_25 (by decide) ?_
          exact J29 x1 x1 1 σ4 hf H locs hI ls (lv_sub hl [0, 1] rfl)
  have hl : lv_has ls 3 [(0, .ref (A 0))] := hl
  unfold f7_layStates at hf
  obtain ⟨H, eH⟩ : ∃ H, H = s.heap := ⟨_, rfl⟩
  obtain ⟨locs, eL⟩ : ∃ locs : List Loc, locs = [] := ⟨_, rfl⟩
  have hI : XI D cl (mw ci A d σ) A0 s.heap H locs := by rw [eH, eL]; exact hI
  rw [← eL]
  suffices h : W p l e r7_layStates s m args below meth c H locs 0 0 Q (F0 m 0 ls []) by rw [eH] at h; exact h
  clear eH eL
  refine lv_iconst (v := 0) hx hb dX7_layStates_0 (by decide) ?_
  refine lv_istore_n (lv' := [(1, .int 0), (0, .ref (A 0))]) hx hb dX7_layStates_1 rfl hl (by decide) rfl (fun ls hl => ?_)
  exact L2 FU 0 σ hf H locs hI ls (lv_sub hl [1, 0] rfl)
/-! asks -/
def f7_asks (σ : MS) : oI Int32 :=
  bn1 (f7_asItIs σ) fun σ1 =>
  bnd (f7_isBase σ1) fun r3 σ2 =>
  if r3 = 0 then (some (0, σ2)) else (bn1 (f7_layStates σ2) fun σ5 =>
  some (1, σ5))
abbrev r7_asks : Room := { frames := 5, cells := 0, slots := 0, locals := 120 }
theorem cw7_asks {R : Room} {s : State} {args : Array Value} (ht : ∀ w ∈ lw_all, w.before args s = true) (hR : r7_asks.frames + 1 ≤ R.frames ∧ 8 + (1 + 11) + r7_asks.locals ≤ R.locals) : CallW R s args RX7 RX7 318 yX7_asks cX7_asks 1 (some .boolean) (ws_ yX7_asks cX7_asks 1 (some .boolean)) r7_asks 0 0 0 :=
  cwV 0 ht (lw_V q3022 q3024 qs123 q178 q3025) rfl rfl rfl (by decide +kernel) hR
theorem m7_asks (l : Launch) (D : va_G) (cl : vC2) (Z : (Nat → Prop) → State → Heap → Prop) (hz : ZK Z) (ci : Nat) (A : Nat → Nat) (d : Nat → ClassId) (tm : List (ClassId × FieldType)) (hc : cl.1[ci]? = some (RX7, TX7, 42)) (σ : MS) (r : Int32) (σ' : MS) (hf : f7_asks σ = some (r, σ')) : MMi l yX7_asks (ws_ yX7_asks cX7_asks 1 (some .boolean)) r7_asks D cl Z ci A d tm σ [] r σ' := by
  refine m_openz hz (by decide) (by exact Nat.le_of_ble_eq_true rfl) (fun p e s m args below meth c ls A0 Q X hI hl hret => ?_)
  have X : XC p s m args meth c cX7_asks 1 RX7 D cl (mty d tm) A0 Z := X
  have hx := X.1
  have hb := X.2.1
  have hown := X.2.2.2.1
  have hts := X.2.2.2.2.1
  have hl : lv_has ls 1 [(0, .ref (A 0))] := hl
  unfold f7_asks at hf
  obtain ⟨H, eH⟩ : ∃ H, H = s.heap := ⟨_, rfl⟩
  obtain ⟨locs, eL⟩ : ∃ locs : List Loc, locs = [] := ⟨_, rfl⟩
  have hI : XI D cl (mw ci A d σ) A0 s.heap H locs := by rw [eH, eL]; exact hI
  rw [← eL]
  suffices h : W p l e r7_asks s m args below meth c H locs 0 0 Q (F0 m 0 ls []) by rw [eH] at h; exact h
  clear eH eL
  refine lv_aload_n hx hb dX7_asks_0 rfl (lv_at hl 0 rfl) ?_
  obtain ⟨σ1, hσ1, hf⟩ := bn1_some hf
  refine m_callv X hI hc [] (m7_asItIs l D cl Z hz ci A d tm hc σ σ1 hσ1) (cw7_asItIs hts ⟨Nat.le_of_ble_eq_true rfl, Nat.le_of_ble_eq_true rfl⟩) rfl hl.1 (Nat.le_of_ble_eq_true rfl) rfl dX7_asks_1 ⟨Nat.le_of_ble_eq_true rfl, Nat.le_of_ble_eq_true rfl⟩ (fun H locs hI => ?_)
  refine lv_aload_n hx hb dX7_asks_4 rfl (lv_at hl 0 rfl) ?_
  obtain ⟨r3, σ2, hσ2, hf⟩ := bnd_some hf
  refine m_calli X hI hc [] (m7_isBase l D cl Z hz ci A d tm hc σ1 r3 σ2 hσ2) (cw7_isBase hts ⟨Nat.le_of_ble_eq_true rfl, Nat.le_of_ble_eq_true rfl⟩) rfl hl.1 (Nat.le_of_ble_eq_true rfl) rfl dX7_asks_5 ⟨Nat.le_of_ble_eq_true rfl, Nat.le_of_ble_eq_true rfl⟩ (fun H locs hI => ?_)
  refine lv_if_ne (tgt := 13) hx hb dX7_asks_8 (by decide) (fun c4 => ?_) (fun c4 => ?_)
  · have hf := o_neg hf c4
    refine lv_aload_n hx hb dX7_asks_13 rfl (lv_at hl 0 rfl) ?_
    obtain ⟨σ5, hσ5, hf⟩ := bn1_some hf
    refine m_callv X hI hc [] (m7_layStates l D cl Z hz ci A d tm hc σ2 σ5 hσ5) (cw7_layStates hts ⟨Nat.le_of_ble_eq_true rfl, Nat.le_of_ble_eq_true rfl⟩) rfl hl.1 (Nat.le_of_ble_eq_true rfl) rfl dX7_asks_14 ⟨Nat.le_of_ble_eq_true rfl, Nat.le_of_ble_eq_true rfl⟩ (fun H locs hI => ?_)
    refine lv_iconst (v := 1) hx hb dX7_asks_17 (by decide) ?_
    exact hret hf rfl hI dX7_asks_18
  · have hf := o_pos hf c4
    refine lv_iconst (v := 0) hx hb dX7_asks_11 (by decide) ?_
    exact hret hf rfl hI dX7_asks_12
/-! dropped -/
def f7_dropped (σ : MS) : oI Int32 :=
  bnd (f7_asks σ) fun r2 σ1 =>
  if r2 = 0 then (some ((-2), σ1)) else (some (gI σ1 18, σ1))
abbrev r7_dropped : Room := { frames := 6, cells := 0, slots := 0, locals := 140 }
theorem m7_dropped (l : Launch) (D : va_G) (cl : vC2) (Z : (Nat → Prop) → State → Heap → Prop) (hz : ZK Z) (ci : Nat) (A : Nat → Nat) (d : Nat → ClassId) (tm : List (ClassId × FieldType)) (hc : cl.1[ci]? = some (RX7, TX7, 42)) (σ : MS) (r : Int32) (σ' : MS) (hf : f7_dropped σ = some (r, σ')) : MMi l yX7_dropped (ws_ yX7_dropped cX7_dropped 1 (some .int)) r7_dropped D cl Z ci A d tm σ [] r σ' := by
  refine m_openi hz (by decide) (by exact Nat.le_of_ble_eq_true rfl) (fun p e s m args below meth c ls A0 Q X hI hl hret => ?_)
  have X : XC p s m args meth c cX7_dropped 1 RX7 D cl (mty d tm) A0 Z := X
  have hx := X.1
  have hb := X.2.1
  have hown := X.2.2.2.1
  have hts := X.2.2.2.2.1
  have hl : lv_has ls 1 [(0, .ref (A 0))] := hl
  unfold f7_dropped at hf
  obtain ⟨H, eH⟩ : ∃ H, H = s.heap := ⟨_, rfl⟩
  obtain ⟨locs, eL⟩ : ∃ locs : List Loc, locs = [] := ⟨_, rfl⟩
  have hI : XI D cl (mw ci A d σ) A0 s.heap H locs := by rw [eH, eL]; exact hI
  rw [← eL]
  suffices h : W p l e r7_dropped s m args below meth c H locs 0 0 Q (F0 m 0 ls []) by rw [eH] at h; exact h
  clear eH eL
  refine lv_aload_n hx hb dX7_dropped_0 rfl (lv_at hl 0 rfl) ?_
  obtain ⟨r2, σ1, hσ1, hf⟩ := bnd_some hf
  refine m_calli X hI hc [] (m7_asks l D cl Z hz ci A d tm hc σ r2 σ1 hσ1) (cw7_asks hts ⟨Nat.le_of_ble_eq_true rfl, Nat.le_of_ble_eq_true rfl⟩) rfl hl.1 (Nat.le_of_ble_eq_true rfl) rfl dX7_dropped_1 ⟨Nat.le_of_ble_eq_true rfl, Nat.le_of_ble_eq_true rfl⟩ (fun H locs hI => ?_)
  refine lv_if_eq (tgt := 14) hx hb dX7_dropped_4 (by decide) (fun c3 => ?_) (fun c3 => ?_)
  · have hf := o_pos hf c3
    refine lv_bipush (v := -2) hx hb dX7_dropped_14 (by decide) ?_
    exact hret hf hI dX7_dropped_16
  · have hf := o_neg hf c3
    refine lv_aload_n hx hb dX7_dropped_7 rfl (lv_at hl 0 rfl) ?_
    refine m_get (v := .int (gI σ1 18)) X hI hc 18 (by decide) q2676 rfl dX7_dropped_8 ?_
    refine lv_goto (tgt := 16) hx hb dX7_dropped_11 (by decide) ?_
    exact hret hf hI dX7_dropped_16
/-! locked -/
def f7_locked (σ : MS) : oI Int32 :=
  bnd (f7_asks σ) fun r2 σ1 =>
  if r2 = 0 then (some ((-2), σ1)) else (some (gI σ1 17, σ1))
abbrev r7_locked : Room := { frames := 6, cells := 0, slots := 0, locals := 140 }
theorem m7_locked (l : Launch) (D : va_G) (cl : vC2) (Z : (Nat → Prop) → State → Heap → Prop) (hz : ZK Z) (ci : Nat) (A : Nat → Nat) (d : Nat → ClassId) (tm : List (ClassId × FieldType)) (hc : cl.1[ci]? = some (RX7, TX7, 42)) (σ : MS) (r : Int32) (σ' : MS) (hf : f7_locked σ = some (r, σ')) : MMi l yX7_locked (ws_ yX7_locked cX7_locked 1 (some .int)) r7_locked D cl Z ci A d tm σ [] r σ' := by
  refine m_openi hz (by decide) (by exact Nat.le_of_ble_eq_true rfl) (fun p e s m args below meth c ls A0 Q X hI hl hret => ?_)
  have X : XC p s m args meth c cX7_locked 1 RX7 D cl (mty d tm) A0 Z := X
  have hx := X.1
  have hb := X.2.1
  have hown := X.2.2.2.1
  have hts := X.2.2.2.2.1
  have hl : lv_has ls 1 [(0, .ref (A 0))] := hl
  unfold f7_locked at hf
  obtain ⟨H, eH⟩ : ∃ H, H = s.heap := ⟨_, rfl⟩
  obtain ⟨locs, eL⟩ : ∃ locs : List Loc, locs = [] := ⟨_, rfl⟩
  have hI : XI D cl (mw ci A d σ) A0 s.heap H locs := by rw [eH, eL]; exact hI
  rw [← eL]
  suffices h : W p l e r7_locked s m args below meth c H locs 0 0 Q (F0 m 0 ls []) by rw [eH] at h; exact h
  clear eH eL
  refine lv_aload_n hx hb dX7_locked_0 rfl (lv_at hl 0 rfl) ?_
  obtain ⟨r2, σ1, hσ1, hf⟩ := bnd_some hf
  refine m_calli X hI hc [] (m7_asks l D cl Z hz ci A d tm hc σ r2 σ1 hσ1) (cw7_asks hts ⟨Nat.le_of_ble_eq_true rfl, Nat.le_of_ble_eq_true rfl⟩) rfl hl.1 (Nat.le_of_ble_eq_true rfl) rfl dX7_locked_1 ⟨Nat.le_of_ble_eq_true rfl, Nat.le_of_ble_eq_true rfl⟩ (fun H locs hI => ?_)
  refine lv_if_eq (tgt := 14) hx hb dX7_locked_4 (by decide) (fun c3 => ?_) (fun c3 => ?_)
  · have hf := o_pos hf c3
    refine lv_bipush (v := -2) hx hb dX7_locked_14 (by decide) ?_
    exact hret hf hI dX7_locked_16
  · have hf := o_neg hf c3
    refine lv_aload_n hx hb dX7_locked_7 rfl (lv_at hl 0 rfl) ?_
    refine m_get (v := .int (gI σ1 17)) X hI hc 17 (by decide) q2675 rfl dX7_locked_8 ?_
    refine lv_goto (tgt := 16) hx hb dX7_locked_11 (by decide) ?_
    exact hret hf hI dX7_locked_16
/-! valid -/
def f7_valid (p0 : Int32) (σ : MS) : oI Int32 :=
  bnd (f7_asks σ) fun r2 σ1 =>
  if r2 = 0 then (some ((-2), σ1)) else (bnd (f7_isState p0.toInt64 σ1) fun r5 σ4 =>
  if r5 = 0 then (some ((-2), σ4)) else (grd (inB p0 64) <|
  if (gA σ4 19 p0.toNatClampNeg) = 0 then (some (0, σ4)) else (some (1, σ4))))
abbrev r7_valid : Room := { frames := 6, cells := 0, slots := 0, locals := 140 }
theorem m7_valid (l : Launch) (D : va_G) (cl : vC2) (Z : (Nat → Prop) → State → Heap → Prop) (hz : ZK Z) (ci : Nat) (A : Nat → Nat) (d : Nat → ClassId) (tm : List (ClassId × FieldType)) (hc : cl.1[ci]? = some (RX7, TX7, 42)) (p0 : Int32) (σ : MS) (r : Int32) (σ' : MS) (hf : f7_valid p0 σ = some (r, σ')) : MMi l yX7_valid (ws_ yX7_valid cX7_valid 2 (some .int)) r7_valid D cl Z ci A d tm σ [.int p0] r σ' := by
  refine m_openi hz (by decide) (by exact Nat.le_of_ble_eq_true rfl) (fun p e s m args below meth c ls A0 Q X hI hl hret => ?_)
  have X : XC p s m args meth c cX7_valid 2 RX7 D cl (mty d tm) A0 Z := X
  have hx := X.1
  have hb := X.2.1
  have hown := X.2.2.2.1
  have hts := X.2.2.2.2.1
  have hl : lv_has ls 2 [(0, .ref (A 0)), (1, .int p0)] := hl
  unfold f7_valid at hf
  obtain ⟨H, eH⟩ : ∃ H, H = s.heap := ⟨_, rfl⟩
  obtain ⟨locs, eL⟩ : ∃ locs : List Loc, locs = [] := ⟨_, rfl⟩
  have hI : XI D cl (mw ci A d σ) A0 s.heap H locs := by rw [eH, eL]; exact hI
  rw [← eL]
  suffices h : W p l e r7_valid s m args below meth c H locs 0 0 Q (F0 m 0 ls []) by rw [eH] at h; exact h
  clear eH eL
  refine lv_aload_n hx hb dX7_valid_0 rfl (lv_at hl 0 rfl) ?_
  obtain ⟨r2, σ1, hσ1, hf⟩ := bnd_some hf
  refine m_calli X hI hc [] (m7_asks l D cl Z hz ci A d tm hc σ r2 σ1 hσ1) (cw7_asks hts ⟨Nat.le_of_ble_eq_true rfl, Nat.le_of_ble_eq_true rfl⟩) rfl hl.1 (Nat.le_of_ble_eq_true rfl) rfl dX7_valid_1 ⟨Nat.le_of_ble_eq_true rfl, Nat.le_of_ble_eq_true rfl⟩ (fun H locs hI => ?_)
  refine lv_if_eq (tgt := 16) hx hb dX7_valid_4 (by decide) (fun c3 => ?_) (fun c3 => ?_)
  · have hf := o_pos hf c3
    refine lv_bipush (v := -2) hx hb dX7_valid_16 (by decide) ?_
    exact hret hf hI dX7_valid_18
  · have hf := o_neg hf c3
    refine lv_aload_n hx hb dX7_valid_7 rfl (lv_at hl 0 rfl) ?_
    refine lv_iload_n hx hb dX7_valid_8 rfl (lv_at hl 1 rfl) ?_
    refine lv_i2l hx hb dX7_valid_9 rfl ?_
    obtain ⟨r5, σ4, hσ4, hf⟩ := bnd_some hf
    refine m_calli X hI hc [.long p0.toInt64] (m7_isState l D cl Z hz ci A d tm hc p0.toInt64 σ1 r5 σ4 hσ4) (cw7_isState hts ⟨Nat.le_of_ble_eq_true rfl, Nat.le_of_ble_eq_true rfl⟩) rfl hl.1 (Nat.le_of_ble_eq_true rfl) rfl dX7_valid_10 ⟨Nat.le_of_ble_eq_true rfl, Nat.le_of_ble_eq_true rfl⟩ (fun H locs hI => ?_)
    refine lv_if_ne (tgt := 19) hx hb dX7_valid_13 (by decide) (fun c6 => ?_) (fun c6 => ?_)
    · have hf := o_neg hf c6
      refine lv_aload_n hx hb dX7_valid_19 rfl (lv_at hl 0 rfl) ?_
      refine m_get (v := .ref (A 19)) X hI hc 19 (by decide) q2677 rfl dX7_valid_20 ?_
      refine lv_iload_n hx hb dX7_valid_23 rfl (lv_at hl 1 rfl) ?_
      obtain ⟨g7, hf⟩ := grd_some hf
      refine m_zald X hI 19 8 64 rfl rfl g7 dX7_valid_24 ?_
      refine lv_if_eq (tgt := 32) hx hb dX7_valid_25 (by decide) (fun c8 => ?_) (fun c8 => ?_)
      · have hf := o_pos hf c8
        refine lv_iconst (v := 0) hx hb dX7_valid_32 (by decide) ?_
        exact hret hf hI dX7_valid_33
      · have hf := o_neg hf c8
        refine lv_iconst (v := 1) hx hb dX7_valid_28 (by decide) ?_
        refine lv_goto (tgt := 33) hx hb dX7_valid_29 (by decide) ?_
        exact hret hf hI dX7_valid_33
    · have hf := o_pos hf c6
      refine lv_bipush (v := -2) hx hb dX7_valid_16 (by decide) ?_
      exact hret hf hI dX7_valid_18
/-! validMany -/
def f7_validMany_b27 (K4 : Int32 → Int32 → MS → oI Int32) (x2 : Int32) (z0 : Int32) (z1 : Int32) (σ : MS) : oI Int32 :=
  K4 (z0 + z1) (x2 + 1) σ
def f7_validMany_b4 (K4 : Int32 → Int32 → MS → oI Int32) (x1 : Int32) (x2 : Int32) (σ : MS) : oI Int32 :=
  bnd (f7_stateMany σ) fun r2 σ1 =>
  if r2 ≤ x2 then (some (x1, σ1)) else (grd (inB x2 64) <|
  if (gA σ1 19 x2.toNatClampNeg) = 0 then (f7_validMany_b27 K4 x2 x1 0 σ1) else (f7_validMany_b27 K4 x2 x1 1 σ1))
def f7_validMany_l4 : Nat → Int32 → Int32 → MS → oI Int32
  | 0 => fun _ _ _ => none
  | n + 1 => fun x1 x2 σ => f7_validMany_b4 (f7_validMany_l4 n) x1 x2 σ
def f7_validMany (σ : MS) : oI Int32 :=
  f7_validMany_l4 FU 0 0 σ
abbrev r7_validMany : Room := { frames := 2, cells := 0, slots := 0, locals := 42 }
theorem cw7_validMany {R : Room} {s : State} {args : Array Value} (ht : ∀ w ∈ lw_all, w.before args s = true) (hR : r7_validMany.frames + 1 ≤ R.frames ∧ 8 + (3 + 11) + r7_validMany.locals ≤ R.locals) : CallW R s args RX7 RX7 321 yX7_validMany cX7_validMany 3 (some .int) (ws_ yX7_validMany cX7_validMany 3 (some .int)) r7_validMany 0 0 0 :=
  cwV 0 ht (lw_V q3065 q3067 qs130 q178 q3068) rfl rfl rfl (by decide +kernel) hR
theorem m7_validMany (l : Launch) (D : va_G) (cl : vC2) (Z : (Nat → Prop) → State → Heap → Prop) (hz : ZK Z) (ci : Nat) (A : Nat → Nat) (d : Nat → ClassId) (tm : List (ClassId × FieldType)) (hc : cl.1[ci]? = some (RX7, TX7, 42)) (σ : MS) (r : Int32) (σ' : MS) (hf : f7_validMany σ = some (r, σ')) : MMi l yX7_validMany (ws_ yX7_validMany cX7_validMany 3 (some .int)) r7_validMany D cl Z ci A d tm σ [] r σ' := by
  refine m_openi hz (by decide) (by exact Nat.le_of_ble_eq_true rfl) (fun p e s m args below meth c ls A0 Q X hI hl hret => ?_)
  have X : XC p s m args meth c cX7_validMany 3 RX7 D cl (mty d tm) A0 Z := X
  have hx := X.1
  have hb := X.2.1
  have hown := X.2.2.2.1
  have hts := X.2.2.2.2.1
  have L4 : ∀ (n : Nat) (x1 : Int32) (x2 : Int32) (σ : MS), f7_validMany_l4 n x1 x2 σ = some (r, σ') → ∀ (H : Heap) (locs : List Loc), XI D cl (mw ci A d σ) A0 s.heap H locs → ∀ (ls : Array Slot), lv_has ls 3 [(0, .ref (A 0)), (1, .int x1), (2, .int x2)] → W p l e r7_validMany s m args below meth c H locs 0 0 Q (F0 m 4 ls []) := by
    intro n4
    induction n4 with
    | zero => intro x1 x2 σ hf; cases hf
    | succ n4 ih4 =>
      have J27 : ∀ (x2 : Int32) (z0 : Int32) (z1 : Int32) (σ : MS), f7_validMany_b27 (f7_validMany_l4 n4) x2 z0 z1 σ = some (r, σ') → ∀ (H : Heap) (locs : List Loc), XI D cl (mw ci A d σ) A0 s.heap H locs → ∀ (ls : Array Slot), lv_has ls 3 [(0, .ref (A 0)), (2, .int x2)] → W p l e r7_validMany s m args below meth c H locs 0 0 Q (F0 m 27 ls [.int z1, .int z0]) := by
        intro x2 z0 z1 σ hf H locs hI ls hl
        unfold f7_validMany_b27 at hf
        refine lv_iadd hx hb dX7_validMany_27 ?_
        refine lv_istore_n (lv' := [(1, .int (z0 + z1)), (0, .ref (A 0)), (2, .int x2)]) hx hb dX7_validMany_28 rfl hl (by decide) rfl (fun ls hl => ?_)
        refine lv_iinc (v := x2 + 1) (lv' := [(2, .int (x2 + 1)), (1, .int (z0 + z1)), (0, .ref (A 0))]) hx hb dX7_validMany_29 hl (k := 2) rfl rfl (by decide) rfl (fun ls hl => ?_)
        refine lv_goto (tgt := 4) hx hb dX7_validMany_32 (by decide) ?_
        exact ih4 (z0 + z1) (x2 + 1) σ hf H locs hI ls (lv_sub hl [2, 1, 0] rfl)
      intro x1 x2 σ hf H locs hI ls hl
      have hf : f7_validMany_b4 (f7_validMany_l4 n4) x1 x2 σ = some (r, σ') := hf
      unfold f7_validMany_b4 at hf
      refine lv_iload_n hx hb dX7_validMany_4 rfl (lv_at hl 2 rfl) ?_
      refine lv_aload_n hx hb dX7_validMany_5 rfl (lv_at hl 0 rfl) ?_
      obtain ⟨r2, σ1, hσ1, hf⟩ := bnd_some hf
      refine m_calli X hI hc [] (m7_stateMany l D cl Z hz ci A d tm hc σ r2 σ1 hσ1) (cw7_stateMany hts ⟨Nat.le_of_ble_eq_true rfl, Nat.le_of_ble_eq_true rfl⟩) rfl hl.1 (Nat.le_of_ble_eq_true rfl) rfl dX7_validMany_6 ⟨Nat.le_of_ble_eq_true rfl, Nat.le_of_ble_eq_true rfl⟩ (fun H locs hI => ?_)
      refine lv_icmp_ge (tgt := 35) hx hb dX7_validMany_9 (by decide) (fun c3 => ?_) (fun c3 => ?_)
      · have hf := o_pos hf c3
        refine lv_iload_n hx hb dX7_validMany_35 rfl (lv_at hl 1 rfl) ?_
        exact hret hf hI dX7_validMany_36
      · have hf := o_neg hf c3
        refine lv_iload_n hx hb dX7_validMany_12 rfl (lv_at hl 1 rfl) ?_
        refine lv_aload_n hx hb dX7_validMany_13 rfl (lv_at hl 0 rfl) ?_
        refine m_get (v := .ref (A 19)) X hI hc 19 (by decide) q2677 rfl dX7_validMany_14 ?_
        refine lv_iload_n hx hb dX7_validMany_17 rfl (lv_at hl 2 rfl) ?_
        obtain ⟨g4, hf⟩ := grd_some hf
        refine m_zald X hI 19 8 64 rfl rfl g4 dX7_validMany_18 ?_
        refine lv_if_eq (tgt := 26) hx hb dX7_validMany_19 (by decide) (fun c5 => ?_) (fun c5 => ?_)
        · have hf := o_pos hf c5
          refine lv_iconst (v := 0) hx hb dX7_validMany_26 (by decide) ?_
          exact J27 x2 x1 0 σ1 hf H locs hI ls (lv_sub hl [0, 2] rfl)
        · have hf := o_neg hf c5
          refine lv_iconst (v := 1) hx hb dX7_validMany_22 (by decide) ?_
          refine lv_goto (tgt := 27) hx hb dX7_validMany_23 (by decide) ?_
          exact J27 x2 x1 1 σ1 hf H locs hI ls (lv_sub hl [0, 2] rfl)
  have hl : lv_has ls 3 [(0, .ref (A 0))] := hl
  unfold f7_validMany at hf
  obtain ⟨H, eH⟩ : ∃ H, H = s.heap := ⟨_, rfl⟩
  obtain ⟨locs, eL⟩ : ∃ locs : List Loc, locs = [] := ⟨_, rfl⟩
  have hI : XI D cl (mw ci A d σ) A0 s.heap H locs := by rw [eH, eL]; exact hI
  rw [← eL]
  suffices h : W p l e r7_validMany s m args below meth c H locs 0 0 Q (F0 m 0 ls []) by rw [eH] at h; exact h
  clear eH eL
  refine lv_iconst (v := 0) hx hb dX7_validMany_0 (by decide) ?_
  refine lv_istore_n (lv' := [(1, .int 0), (0, .ref (A 0))]) hx hb dX7_validMany_1 rfl hl (by decide) rfl (fun ls hl => ?_)
  refine lv_iconst (v := 0) hx hb dX7_validMany_2 (by decide) ?_
  refine lv_istore_n (lv' := [(2, .int 0), (1, .int 0), (0, .ref (A 0))]) hx hb dX7_validMany_3 rfl hl (by decide) rfl (fun ls hl => ?_)
  exact L4 FU 0 0 σ hf H locs hI ls (lv_sub hl [2, 1, 0] rfl)
/-! valids -/
def f7_valids (σ : MS) : oI Int32 :=
  bnd (f7_asks σ) fun r2 σ1 =>
  if r2 = 0 then (some ((-2), σ1)) else (bnd (f7_validMany σ1) fun r5 σ4 =>
  some (r5, σ4))
abbrev r7_valids : Room := { frames := 6, cells := 0, slots := 0, locals := 140 }
theorem m7_valids (l : Launch) (D : va_G) (cl : vC2) (Z : (Nat → Prop) → State → Heap → Prop) (hz : ZK Z) (ci : Nat) (A : Nat → Nat) (d : Nat → ClassId) (tm : List (ClassId × FieldType)) (hc : cl.1[ci]? = some (RX7, TX7, 42)) (σ : MS) (r : Int32) (σ' : MS) (hf : f7_valids σ = some (r, σ')) : MMi l yX7_valids (ws_ yX7_valids cX7_valids 1 (some .int)) r7_valids D cl Z ci A d tm σ [] r σ' := by
  refine m_openi hz (by decide) (by exact Nat.le_of_ble_eq_true rfl) (fun p e s m args below meth c ls A0 Q X hI hl hret => ?_)
  have X : XC p s m args meth c cX7_valids 1 RX7 D cl (mty d tm) A0 Z := X
  have hx := X.1
  have hb := X.2.1
  have hown := X.2.2.2.1
  have hts := X.2.2.2.2.1
  have hl : lv_has ls 1 [(0, .ref (A 0))] := hl
  unfold f7_valids at hf
  obtain ⟨H, eH⟩ : ∃ H, H = s.heap := ⟨_, rfl⟩
  obtain ⟨locs, eL⟩ : ∃ locs : List Loc, locs = [] := ⟨_, rfl⟩
  have hI : XI D cl (mw ci A d σ) A0 s.heap H locs := by rw [eH, eL]; exact hI
  rw [← eL]
  suffices h : W p l e r7_valids s m args below meth c H locs 0 0 Q (F0 m 0 ls []) by rw [eH] at h; exact h
  clear eH eL
  refine lv_aload_n hx hb dX7_valids_0 rfl (lv_at hl 0 rfl) ?_
  obtain ⟨r2, σ1, hσ1, hf⟩ := bnd_some hf
  refine m_calli X hI hc [] (m7_asks l D cl Z hz ci A d tm hc σ r2 σ1 hσ1) (cw7_asks hts ⟨Nat.le_of_ble_eq_true rfl, Nat.le_of_ble_eq_true rfl⟩) rfl hl.1 (Nat.le_of_ble_eq_true rfl) rfl dX7_valids_1 ⟨Nat.le_of_ble_eq_true rfl, Nat.le_of_ble_eq_true rfl⟩ (fun H locs hI => ?_)
  refine lv_if_eq (tgt := 14) hx hb dX7_valids_4 (by decide) (fun c3 => ?_) (fun c3 => ?_)
  · have hf := o_pos hf c3
    refine lv_bipush (v := -2) hx hb dX7_valids_14 (by decide) ?_
    exact hret hf hI dX7_valids_16
  · have hf := o_neg hf c3
    refine lv_aload_n hx hb dX7_valids_7 rfl (lv_at hl 0 rfl) ?_
    obtain ⟨r5, σ4, hσ4, hf⟩ := bnd_some hf
    refine m_calli X hI hc [] (m7_validMany l D cl Z hz ci A d tm hc σ1 r5 σ4 hσ4) (cw7_validMany hts ⟨Nat.le_of_ble_eq_true rfl, Nat.le_of_ble_eq_true rfl⟩) rfl hl.1 (Nat.le_of_ble_eq_true rfl) rfl dX7_valids_8 ⟨Nat.le_of_ble_eq_true rfl, Nat.le_of_ble_eq_true rfl⟩ (fun H locs hI => ?_)
    refine lv_goto (tgt := 16) hx hb dX7_valids_11 (by decide) ?_
    exact hret hf hI dX7_valids_16
/-! breaks -/
def f7_breaks (p0 : Int32) (σ : MS) : oI Int32 :=
  bnd (f7_asks σ) fun r2 σ1 =>
  if r2 = 0 then (some ((-2), σ1)) else (bnd (f7_isState p0.toInt64 σ1) fun r5 σ4 =>
  if r5 = 0 then (some ((-2), σ4)) else (bnd (f7_brokenBy p0 σ4) fun r8 σ7 =>
  some (r8, σ7)))
abbrev r7_breaks : Room := { frames := 6, cells := 0, slots := 0, locals := 140 }
theorem m7_breaks (l : Launch) (D : va_G) (cl : vC2) (Z : (Nat → Prop) → State → Heap → Prop) (hz : ZK Z) (ci : Nat) (A : Nat → Nat) (d : Nat → ClassId) (tm : List (ClassId × FieldType)) (hc : cl.1[ci]? = some (RX7, TX7, 42)) (p0 : Int32) (σ : MS) (r : Int32) (σ' : MS) (hf : f7_breaks p0 σ = some (r, σ')) : MMi l yX7_breaks (ws_ yX7_breaks cX7_breaks 2 (some .int)) r7_breaks D cl Z ci A d tm σ [.int p0] r σ' := by
  refine m_openi hz (by decide) (by exact Nat.le_of_ble_eq_true rfl) (fun p e s m args below meth c ls A0 Q X hI hl hret => ?_)
  have X : XC p s m args meth c cX7_breaks 2 RX7 D cl (mty d tm) A0 Z := X
  have hx := X.1
  have hb := X.2.1
  have hown := X.2.2.2.1
  have hts := X.2.2.2.2.1
  have hl : lv_has ls 2 [(0, .ref (A 0)), (1, .int p0)] := hl
  unfold f7_breaks at hf
  obtain ⟨H, eH⟩ : ∃ H, H = s.heap := ⟨_, rfl⟩
  obtain ⟨locs, eL⟩ : ∃ locs : List Loc, locs = [] := ⟨_, rfl⟩
  have hI : XI D cl (mw ci A d σ) A0 s.heap H locs := by rw [eH, eL]; exact hI
  rw [← eL]
  suffices h : W p l e r7_breaks s m args below meth c H locs 0 0 Q (F0 m 0 ls []) by rw [eH] at h; exact h
  clear eH eL
  refine lv_aload_n hx hb dX7_breaks_0 rfl (lv_at hl 0 rfl) ?_
  obtain ⟨r2, σ1, hσ1, hf⟩ := bnd_some hf
  refine m_calli X hI hc [] (m7_asks l D cl Z hz ci A d tm hc σ r2 σ1 hσ1) (cw7_asks hts ⟨Nat.le_of_ble_eq_true rfl, Nat.le_of_ble_eq_true rfl⟩) rfl hl.1 (Nat.le_of_ble_eq_true rfl) rfl dX7_breaks_1 ⟨Nat.le_of_ble_eq_true rfl, Nat.le_of_ble_eq_true rfl⟩ (fun H locs hI => ?_)
  refine lv_if_eq (tgt := 24) hx hb dX7_breaks_4 (by decide) (fun c3 => ?_) (fun c3 => ?_)
  · have hf := o_pos hf c3
    refine lv_bipush (v := -2) hx hb dX7_breaks_24 (by decide) ?_
    exact hret hf hI dX7_breaks_26
  · have hf := o_neg hf c3
    refine lv_aload_n hx hb dX7_breaks_7 rfl (lv_at hl 0 rfl) ?_
    refine lv_iload_n hx hb dX7_breaks_8 rfl (lv_at hl 1 rfl) ?_
    refine lv_i2l hx hb dX7_breaks_9 rfl ?_
    obtain ⟨r5, σ4, hσ4, hf⟩ := bnd_some hf
    refine m_calli X hI hc [.long p0.toInt64] (m7_isState l D cl Z hz ci A d tm hc p0.toInt64 σ1 r5 σ4 hσ4) (cw7_isState hts ⟨Nat.le_of_ble_eq_true rfl, Nat.le_of_ble_eq_true rfl⟩) rfl hl.1 (Nat.le_of_ble_eq_true rfl) rfl dX7_breaks_10 ⟨Nat.le_of_ble_eq_true rfl, Nat.le_of_ble_eq_true rfl⟩ (fun H locs hI => ?_)
    refine lv_if_eq (tgt := 24) hx hb dX7_breaks_13 (by decide) (fun c6 => ?_) (fun c6 => ?_)
    · have hf := o_pos hf c6
      refine lv_bipush (v := -2) hx hb dX7_breaks_24 (by decide) ?_
      exact hret hf hI dX7_breaks_26
    · have hf := o_neg hf c6
      refine lv_aload_n hx hb dX7_breaks_16 rfl (lv_at hl 0 rfl) ?_
      refine lv_iload_n hx hb dX7_breaks_17 rfl (lv_at hl 1 rfl) ?_
      obtain ⟨r8, σ7, hσ7, hf⟩ := bnd_some hf
      refine m_calli X hI hc [.int p0] (m7_brokenBy l D cl Z hz ci A d tm hc p0 σ4 r8 σ7 hσ7) (cw7_brokenBy hts ⟨Nat.le_of_ble_eq_true rfl, Nat.le_of_ble_eq_true rfl⟩) rfl hl.1 (Nat.le_of_ble_eq_true rfl) rfl dX7_breaks_18 ⟨Nat.le_of_ble_eq_true rfl, Nat.le_of_ble_eq_true rfl⟩ (fun H locs hI => ?_)
      refine lv_goto (tgt := 26) hx hb dX7_breaks_21 (by decide) ?_
      exact hret hf hI dX7_breaks_26
/-! nearest -/
def f7_nearest_b111 (K28 : Int32 → Int32 → Int32 → Int32 → MS → oI Int32) (x1 : Int32) (x2 : Int32) (x3 : Int32) (x4 : Int32) (σ : MS) : oI Int32 :=
  K28 x1 x2 x3 (x4 + 1) σ
def f7_nearest_b77 (K28 : Int32 → Int32 → Int32 → Int32 → MS → oI Int32) (K43 : Int32 → Int32 → Int32 → Int32 → Int32 → Int32 → MS → oI Int32) (x1 : Int32) (x2 : Int32) (x3 : Int32) (x4 : Int32) (x6 : Int32) (z0 : Int32) (z1 : Int32) (σ : MS) : oI Int32 :=
  K43 x1 x2 x3 x4 (z0 + z1) (x6 + 1) σ
def f7_nearest_b43 (K28 : Int32 → Int32 → Int32 → Int32 → MS → oI Int32) (K43 : Int32 → Int32 → Int32 → Int32 → Int32 → Int32 → MS → oI Int32) (x1 : Int32) (x2 : Int32) (x3 : Int32) (x4 : Int32) (x5 : Int32) (x6 : Int32) (σ : MS) : oI Int32 :=
  bnd (f7_cells σ) fun r11 σ10 =>
  if r11 ≤ x6 then (grd (inB x4 64) <|
  if (gA σ10 19 x4.toNatClampNeg) = 0 then (f7_nearest_b111 K28 x1 x2 x3 x4 σ10) else (if x5 < x3 then (f7_nearest_b111 K28 x1 x4 x5 x4 σ10) else (f7_nearest_b111 K28 x1 x2 x3 x4 σ10))) else (bnd (f7_valueOf x1 x6 σ10) fun r17 σ16 =>
  bnd (f7_valueOf x4 x6 σ16) fun r19 σ18 =>
  if r17 = r19 then (f7_nearest_b77 K28 K43 x1 x2 x3 x4 x6 x5 0 σ18) else (f7_nearest_b77 K28 K43 x1 x2 x3 x4 x6 x5 1 σ18))
def f7_nearest_l43 (K28 : Int32 → Int32 → Int32 → Int32 → MS → oI Int32) : Nat → Int32 → Int32 → Int32 → Int32 → Int32 → Int32 → MS → oI Int32
  | 0 => fun _ _ _ _ _ _ _ => none
  | n + 1 => fun x1 x2 x3 x4 x5 x6 σ => f7_nearest_b43 K28 (f7_nearest_l43 K28 n) x1 x2 x3 x4 x5 x6 σ
def f7_nearest_b28 (K28 : Int32 → Int32 → Int32 → Int32 → MS → oI Int32) (x1 : Int32) (x2 : Int32) (x3 : Int32) (x4 : Int32) (σ : MS) : oI Int32 :=
  bnd (f7_stateMany σ) fun r8 σ7 =>
  if r8 ≤ x4 then (some (x2, σ7)) else (f7_nearest_l43 K28 FU x1 x2 x3 x4 0 0 σ7)
def f7_nearest_l28 : Nat → Int32 → Int32 → Int32 → Int32 → MS → oI Int32
  | 0 => fun _ _ _ _ _ => none
  | n + 1 => fun x1 x2 x3 x4 σ => f7_nearest_b28 (f7_nearest_l28 n) x1 x2 x3 x4 σ
def f7_nearest (p0 : Int32) (σ : MS) : oI Int32 :=
  bnd (f7_asks σ) fun r2 σ1 =>
  if r2 = 0 then (some ((-2), σ1)) else (bnd (f7_isState p0.toInt64 σ1) fun r5 σ4 =>
  if r5 = 0 then (some ((-2), σ4)) else (f7_nearest_l28 FU p0 (-1) 1000000000 0 σ4))
abbrev r7_nearest : Room := { frames := 6, cells := 0, slots := 0, locals := 140 }
theorem m7_nearest (l : Launch) (D : va_G) (cl : vC2) (Z : (Nat → Prop) → State → Heap → Prop) (hz : ZK Z) (ci : Nat) (A : Nat → Nat) (d : Nat → ClassId) (tm : List (ClassId × FieldType)) (hc : cl.1[ci]? = some (RX7, TX7, 42)) (p0 : Int32) (σ : MS) (r : Int32) (σ' : MS) (hf : f7_nearest p0 σ = some (r, σ')) : MMi l yX7_nearest (ws_ yX7_nearest cX7_nearest 7 (some .int)) r7_nearest D cl Z ci A d tm σ [.int p0] r σ' := by
  refine m_openi hz (by decide) (by exact Nat.le_of_ble_eq_true rfl) (fun p e s m args below meth c ls A0 Q X hI hl hret => ?_)
  have X : XC p s m args meth c cX7_nearest 7 RX7 D cl (mty d tm) A0 Z := X
  have hx := X.1
  have hb := X.2.1
  have hown := X.2.2.2.1
  have hts := X.2.2.2.2.1
  have L28 : ∀ (n : Nat) (x1 : Int32) (x2 : Int32) (x3 : Int32) (x4 : Int32) (σ : MS), f7_nearest_l28 n x1 x2 x3 x4 σ = some (r, σ') → ∀ (H : Heap) (locs : List Loc), XI D cl (mw ci A d σ) A0 s.heap H locs → ∀ (ls : Array Slot), lv_has ls 7 [(0, .ref (A 0)), (1, .int x1), (2, .int x2), (3, .int x3), (4, .int x4)] → W p l e r7_nearest s m args below meth c H locs 0 0 Q (F0 m 28 ls []) := by
    intro n28
    induction n28 with
    | zero => intro x1 x2 x3 x4 σ hf; cases hf
    | succ n28 ih28 =>
      have J111 : ∀ (x1 : Int32) (x2 : Int32) (x3 : Int32) (x4 : Int32) (σ : MS), f7_nearest_b111 (f7_nearest_l28 n28) x1 x2 x3 x4 σ = some (r, σ') → ∀ (H : Heap) (locs : List Loc), XI D cl (mw ci A d σ) A0 s.heap H locs → ∀ (ls : Array Slot), lv_has ls 7 [(0, .ref (A 0)), (1, .int x1), (2, .int x2), (3, .int x3), (4, .int x4)] → W p l e r7_nearest s m args below meth c H locs 0 0 Q (F0 m 111 ls []) := by
        intro x1 x2 x3 x4 σ hf H locs hI ls hl
        unfold f7_nearest_b111 at hf
        refine lv_iinc (v := x4 + 1) (lv' := [(4, .int (x4 + 1)), (0, .ref (A 0)), (1, .int x1), (2, .int x2), (3, .int x3)]) hx hb dX7_nearest_111 hl (k := 4) rfl rfl (by decide) rfl (fun ls hl => ?_)
        refine lv_goto (tgt := 28) hx hb dX7_nearest_114 (by decide) ?_
        exact ih28 x1 x2 x3 (x4 + 1) σ hf H locs hI ls (lv_sub hl [1, 2, 3, 4, 0] rfl)
      have L43 : ∀ (n : Nat) (x1 : Int32) (x2 : Int32) (x3 : Int32) (x4 : Int32) (x5 : Int32) (x6 : Int32) (σ : MS), f7_nearest_l43 (f7_nearest_l28 n28) n x1 x2 x3 x4 x5 x6 σ = some (r, σ') → ∀ (H : Heap) (locs : List Loc), XI D cl (mw ci A d σ) A0 s.heap H locs → ∀ (ls : Array Slot), lv_has ls 7 [(0, .ref (A 0)), (1, .int x1), (2, .int x2), (3, .int x3), (4, .int x4), (5, .int x5), (6, .int x6)] → W p l e r7_nearest s m args below meth c H locs 0 0 Q (F0 m 43 ls []) := by
        intro n43
        induction n43 with
        | zero => intro x1 x2 x3 x4 x5 x6 σ hf; cases hf
        | succ n43 ih43 =>
          have J77 : ∀ (x1 : Int32) (x2 : Int32) (x3 : Int32) (x4 : Int32) (x6 : Int32) (z0 : Int32) (z1 : Int32) (σ : MS), f7_nearest_b77 (f7_nearest_l28 n28) (f7_nearest_l43 (f7_nearest_l28 n28) n43) x1 x2 x3 x4 x6 z0 z1 σ = some (r, σ') → ∀ (H : Heap) (locs : List Loc), XI D cl (mw ci A d σ) A0 s.heap H locs → ∀ (ls : Array Slot), lv_has ls 7 [(0, .ref (A 0)), (1, .int x1), (2, .int x2), (3, .int x3), (4, .int x4), (6, .int x6)] → W p l e r7_nearest s m args below meth c H locs 0 0 Q (F0 m 77 ls [.int z1, .int z0]) := by
            intro x1 x2 x3 x4 x6 z0 z1 σ hf H locs hI ls hl
            unfold f7_nearest_b77 at hf
            refine lv_iadd hx hb dX7_nearest_77 ?_
            refine lv_istore (lv' := [(5, .int (z0 + z1)), (0, .ref (A 0)), (1, .int x1), (2, .int x2), (3, .int x3), (4, .int x4), (6, .int x6)]) hx hb dX7_nearest_78 hl (by decide) rfl (fun ls hl => ?_)
            refine lv_iinc (v := x6 + 1) (lv' := [(6, .int (x6 + 1)), (5, .int (z0 + z1)), (0, .ref (A 0)), (1, .int x1), (2, .int x2), (3, .int x3), (4, .int x4)]) hx hb dX7_nearest_80 hl (k := 6) rfl rfl (by decide) rfl (fun ls hl => ?_)
            refine lv_goto (tgt := 43) hx hb dX7_nearest_83 (by decide) ?_
            exact ih43 x1 x2 x3 x4 (z0 + z1) (x6 + 1) σ hf H locs hI ls (lv_sub hl [2, 3, 4, 5, 6, 1, 0] rfl)
          intro x1 x2 x3 x4 x5 x6 σ hf H locs hI ls hl
          have hf : f7_nearest_b43 (f7_nearest_l28 n28) (f7_nearest_l43 (f7_nearest_l28 n28) n43) x1 x2 x3 x4 x5 x6 σ = some (r, σ') := hf
          unfold f7_nearest_b43 at hf
          refine lv_iload hx hb dX7_nearest_43 (lv_at hl 6 rfl) ?_
          refine lv_aload_n hx hb dX7_nearest_45 rfl (lv_at hl 0 rfl) ?_
          obtain ⟨r11, σ10, hσ10, hf⟩ := bnd_some hf
          refine m_calli X hI hc [] (m7_cells l D cl Z hz ci A d tm hc σ r11 σ10 hσ10) (cw7_cells hts ⟨Nat.le_of_ble_eq_true rfl, Nat.le_of_ble_eq_true rfl⟩) rfl hl.1 (Nat.le_of_ble_eq_true rfl) rfl dX7_nearest_46 ⟨Nat.le_of_ble_eq_true rfl, Nat.le_of_ble_eq_true rfl⟩ (fun H locs hI => ?_)
          refine lv_icmp_ge (tgt := 86) hx hb dX7_nearest_49 (by decide) (fun c12 => ?_) (fun c12 => ?_)
          · have hf := o_pos hf c12
            refine lv_aload_n hx hb dX7_nearest_86 rfl (lv_at hl 0 rfl) ?_
            refine m_get (v := .ref (A 19)) X hI hc 19 (by decide) q2677 rfl dX7_nearest_87 ?_
            refine lv_iload hx hb dX7_nearest_90 (lv_at hl 4 rfl) ?_
            obtain ⟨g13, hf⟩ := grd_some hf
            refine m_zald X hI 19 8 64 rfl rfl g13 dX7_nearest_92 ?_
            refine lv_if_eq (tgt := 111) hx hb dX7_nearest_93 (by decide) (fun c14 => ?_) (fun c14 => ?_)
            · have hf := o_pos hf c14
              exact J111 x1 x2 x3 x4 σ10 hf H locs hI ls (lv_sub hl [0, 1, 2, 3, 4] rfl)
            · have hf := o_neg hf c14
              refine lv_iload hx hb dX7_nearest_96 (lv_at hl 5 rfl) ?_
              refine lv_iload_n hx hb dX7_nearest_98 rfl (lv_at hl 3 rfl) ?_
              refine lv_icmp_lt (tgt := 105) hx hb dX7_nearest_99 (by decide) (fun c15 => ?_) (fun c15 => ?_)
              · have hf := o_pos hf c15
                refine lv_iload hx hb dX7_nearest_105 (lv_at hl 5 rfl) ?_
                refine lv_istore_n (lv' := [(3, .int x5), (0, .ref (A 0)), (1, .int x1), (2, .int x2), (4, .int x4), (5, .int x5), (6, .int x6)]) hx hb dX7_nearest_107 rfl hl (by decide) rfl (fun ls hl => ?_)
                refine lv_iload hx hb dX7_nearest_108 (lv_at hl 4 rfl) ?_
                refine lv_istore_n (lv' := [(2, .int x4), (3, .int x5), (0, .ref (A 0)), (1, .int x1), (4, .int x4), (5, .int x5), (6, .int x6)]) hx hb dX7_nearest_110 rfl hl (by decide) rfl (fun ls hl => ?_)
                exact J111 x1 x4 x5 x4 σ10 hf H locs hI ls (lv_sub hl [2, 3, 0, 1, 4] rfl)
              · have hf := o_neg hf c15
                refine lv_goto (tgt := 111) hx hb dX7_nearest_102 (by decide) ?_
                exact J111 x1 x2 x3 x4 σ10 hf H locs hI ls (lv_sub hl [0, 1, 2, 3, 4] rfl)
          · have hf := o_neg hf c12
            refine lv_iload hx hb dX7_nearest_52 (lv_at hl 5 rfl) ?_
            refine lv_aload_n hx hb dX7_nearest_54 rfl (lv_at hl 0 rfl) ?_
            refine lv_iload_n hx hb dX7_nearest_55 rfl (lv_at hl 1 rfl) ?_
            refine lv_iload hx hb dX7_nearest_56 (lv_at hl 6 rfl) ?_
            obtain ⟨r17, σ16, hσ16, hf⟩ := bnd_some hf
            refine m_calli X hI hc [.int x1, .int x6] (m7_valueOf l D cl Z hz ci A d tm hc x1 x6 σ10 r17 σ16 hσ16) (cw7_valueOf hts ⟨Nat.le_of_ble_eq_true rfl, Nat.le_of_ble_eq_true rfl⟩) rfl hl.1 (Nat.le_of_ble_eq_true rfl) rfl dX7_nearest_58 ⟨Nat.le_of_ble_eq_true rfl, Nat.le_of_ble_eq_true rfl⟩ (fun H locs hI => ?_)
            refine lv_aload_n hx hb dX7_nearest_61 rfl (lv_at hl 0 rfl) ?_
            refine lv_iload hx hb dX7_nearest_62 (lv_at hl 4 rfl) ?_
            refine lv_iload hx hb dX7_nearest_64 (lv_at hl 6 rfl) ?_
            obtain ⟨r19, σ18, hσ18, hf⟩ := bnd_some hf
            refine m_calli X hI hc [.int x4, .int x6] (m7_valueOf l D cl Z hz ci A d tm hc x4 x6 σ16 r19 σ18 hσ18) (cw7_valueOf hts ⟨Nat.le_of_ble_eq_true rfl, Nat.le_of_ble_eq_true rfl⟩) rfl hl.1 (Nat.le_of_ble_eq_true rfl) rfl dX7_nearest_66 ⟨Nat.le_of_ble_eq_true rfl, Nat.le_of_ble_eq_true rfl⟩ (fun H locs hI => ?_)
            refine lv_icmp_eq (tgt := 76) hx hb dX7_nearest_69 (by decide) (fun c20 => ?_) (fun c20 => ?_)
            · have hf := o_pos hf c20
              refine lv_iconst (v := 0) hx hb dX7_nearest_76 (by decide) ?_
              exact J77 x1 x2 x3 x4 x6 x5 0 σ18 hf H locs hI ls (lv_sub hl [0, 1, 2, 3, 4, 6] rfl)
            · have hf := o_neg hf c20
              refine lv_iconst (v := 1) hx hb dX7_nearest_72 (by decide) ?_
              refine lv_goto (tgt := 77) hx hb dX7_nearest_73 (by decide) ?_
              exact J77 x1 x2 x3 x4 x6 x5 1 σ18 hf H locs hI ls (lv_sub hl [0, 1, 2, 3, 4, 6] rfl)
      intro x1 x2 x3 x4 σ hf H locs hI ls hl
      have hf : f7_nearest_b28 (f7_nearest_l28 n28) x1 x2 x3 x4 σ = some (r, σ') := hf
      unfold f7_nearest_b28 at hf
      refine lv_iload hx hb dX7_nearest_28 (lv_at hl 4 rfl) ?_
      refine lv_aload_n hx hb dX7_nearest_30 rfl (lv_at hl 0 rfl) ?_
      obtain ⟨r8, σ7, hσ7, hf⟩ := bnd_some hf
      refine m_calli X hI hc [] (m7_stateMany l D cl Z hz ci A d tm hc σ r8 σ7 hσ7) (cw7_stateMany hts ⟨Nat.le_of_ble_eq_true rfl, Nat.le_of_ble_eq_true rfl⟩) rfl hl.1 (Nat.le_of_ble_eq_true rfl) rfl dX7_nearest_31 ⟨Nat.le_of_ble_eq_true rfl, Nat.le_of_ble_eq_true rfl⟩ (fun H locs hI => ?_)
      refine lv_icmp_ge (tgt := 117) hx hb dX7_nearest_34 (by decide) (fun c9 => ?_) (fun c9 => ?_)
      · have hf := o_pos hf c9
        refine lv_iload_n hx hb dX7_nearest_117 rfl (lv_at hl 2 rfl) ?_
        exact hret hf hI dX7_nearest_118
      · have hf := o_neg hf c9
        refine lv_iconst (v := 0) hx hb dX7_nearest_37 (by decide) ?_
        refine lv_istore (lv' := [(5, .int 0), (0, .ref (A 0)), (1, .int x1), (2, .int x2), (3, .int x3), (4, .int x4)]) hx hb dX7_nearest_38 hl (by decide) rfl (fun ls hl => ?_)
        refine lv_iconst (v := 0) hx hb dX7_nearest_40 (by decide) ?_
        refine lv_istore (lv' := [(6, .int 0), (5, .int 0), (0, .ref (A 0)), (1, .int x1), (2, .int x2), (3, .int x3), (4, .int x4)]) hx hb dX7_nearest_41 hl (by decide) rfl (fun ls hl => ?_)
        exact L43 FU x1 x2 x3 x4 0 0 σ7 hf H locs hI ls (lv_sub hl [2, 3, 4, 5, 6, 1, 0] rfl)
  have hl : lv_has ls 7 [(0, .ref (A 0)), (1, .int p0)] := hl
  unfold f7_nearest at hf
  obtain ⟨H, eH⟩ : ∃ H, H = s.heap := ⟨_, rfl⟩
  obtain ⟨locs, eL⟩ : ∃ locs : List Loc, locs = [] := ⟨_, rfl⟩
  have hI : XI D cl (mw ci A d σ) A0 s.heap H locs := by rw [eH, eL]; exact hI
  rw [← eL]
  suffices h : W p l e r7_nearest s m args below meth c H locs 0 0 Q (F0 m 0 ls []) by rw [eH] at h; exact h
  clear eH eL
  refine lv_aload_n hx hb dX7_nearest_0 rfl (lv_at hl 0 rfl) ?_
  obtain ⟨r2, σ1, hσ1, hf⟩ := bnd_some hf
  refine m_calli X hI hc [] (m7_asks l D cl Z hz ci A d tm hc σ r2 σ1 hσ1) (cw7_asks hts ⟨Nat.le_of_ble_eq_true rfl, Nat.le_of_ble_eq_true rfl⟩) rfl hl.1 (Nat.le_of_ble_eq_true rfl) rfl dX7_nearest_1 ⟨Nat.le_of_ble_eq_true rfl, Nat.le_of_ble_eq_true rfl⟩ (fun H locs hI => ?_)
  refine lv_if_eq (tgt := 16) hx hb dX7_nearest_4 (by decide) (fun c3 => ?_) (fun c3 => ?_)
  · have hf := o_pos hf c3
    refine lv_bipush (v := -2) hx hb dX7_nearest_16 (by decide) ?_
    exact hret hf hI dX7_nearest_18
  · have hf := o_neg hf c3
    refine lv_aload_n hx hb dX7_nearest_7 rfl (lv_at hl 0 rfl) ?_
    refine lv_iload_n hx hb dX7_nearest_8 rfl (lv_at hl 1 rfl) ?_
    refine lv_i2l hx hb dX7_nearest_9 rfl ?_
    obtain ⟨r5, σ4, hσ4, hf⟩ := bnd_some hf
    refine m_calli X hI hc [.long p0.toInt64] (m7_isState l D cl Z hz ci A d tm hc p0.toInt64 σ1 r5 σ4 hσ4) (cw7_isState hts ⟨Nat.le_of_ble_eq_true rfl, Nat.le_of_ble_eq_true rfl⟩) rfl hl.1 (Nat.le_of_ble_eq_true rfl) rfl dX7_nearest_10 ⟨Nat.le_of_ble_eq_true rfl, Nat.le_of_ble_eq_true rfl⟩ (fun H locs hI => ?_)
    refine lv_if_ne (tgt := 19) hx hb dX7_nearest_13 (by decide) (fun c6 => ?_) (fun c6 => ?_)
    · have hf := o_neg hf c6
      refine lv_iconst (v := -1) hx hb dX7_nearest_19 (by decide) ?_
      refine lv_istore_n (lv' := [(2, .int (-1)), (0, .ref (A 0)), (1, .int p0)]) hx hb dX7_nearest_20 rfl hl (by decide) rfl (fun ls hl => ?_)
      refine lv_ldcw (v := 1000000000) hx hb hown (hts _ q3077) dX7_nearest_21 ?_
      refine lv_istore_n (lv' := [(3, .int 1000000000), (2, .int (-1)), (0, .ref (A 0)), (1, .int p0)]) hx hb dX7_nearest_24 rfl hl (by decide) rfl (fun ls hl => ?_)
      refine lv_iconst (v := 0) hx hb dX7_nearest_25 (by decide) ?_
      refine lv_istore (lv' := [(4, .int 0), (3, .int 1000000000), (2, .int (-1)), (0, .ref (A 0)), (1, .int p0)]) hx hb dX7_nearest_26 hl (by decide) rfl (fun ls hl => ?_)
      exact L28 FU p0 (-1) 1000000000 0 σ4 hf H locs hI ls (lv_sub hl [3, 4, 2, 1, 0] rfl)
    · have hf := o_pos hf c6
      refine lv_bipush (v := -2) hx hb dX7_nearest_16 (by decide) ?_
      exact hret hf hI dX7_nearest_18
