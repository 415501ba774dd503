/-! THE COMPONENT as transformers over its heap, and the walks (printed by gen/genh.py) -/
/-! java/lang/Integer.valueOf(I)Ljava/lang/Integer; -/
def hJ15_valueOf_b23 (j : JX) (Λ : JLam) (p0 : Int32) (post : Option Nat → HG → Prop) (mc ms : Nat) (G : HG) : Prop :=
  1 ≤ mc ∧ 1 ≤ ms ∧ mkO G (.inr (21, [.int 0])) fun a4 G5 => hJ15_init j Λ a4 p0 G5 fun G6 => post (some a4) G6
def hJ15_valueOf (j : JX) (Λ : JLam) (p0 : Int32) (mc ms : Nat) (G : HG) (post : Option Nat → HG → Prop) : Prop :=
  (p0 < ((-128) : Int32) → (hJ15_valueOf_b23 j Λ p0 post mc ms G)) ∧ (¬ p0 < ((-128) : Int32) → (((127 : Int32) < p0 → (hJ15_valueOf_b23 j Λ p0 post mc ms G)) ∧ (¬ (127 : Int32) < p0 → (ldQ (jty j.1) G (j.2 43) (p0 + 128) fun q3 => post q3 G))))
abbrev rhJ15_valueOf (fr lo mc ms : Nat) : Room := { frames := fr + 3, cells := mc, slots := ms, locals := lo + 81 }
theorem mhJ15_valueOf (l : Launch) (Z : (Nat → Prop) → State → Heap → Prop) (D : va_G) (j : JX) (Λ : JLam) (fr lo : Nat) (E : JE l Z D j Λ fr lo) (p0 : Int32) (mc ms : Nat) (G : HG) (post : Option Nat → HG → Prop) (hf : hJ15_valueOf j Λ p0 mc ms G post) : HMq l yJ15_valueOf (ws_ yJ15_valueOf cJ15_valueOf 1 (some (.object "java/lang/Integer"))) (rhJ15_valueOf fr lo mc ms) D jC (jty j.1) Z G [.int p0] post mc ms := by
  obtain ⟨MC, eMC⟩ : ∃ MC, MC = mc := ⟨_, rfl⟩
  obtain ⟨MS, eMS⟩ : ∃ MS, MS = ms := ⟨_, rfl⟩
  suffices goal : HMq l yJ15_valueOf (ws_ yJ15_valueOf cJ15_valueOf 1 (some (.object "java/lang/Integer"))) (rhJ15_valueOf fr lo MC MS) D jC (jty j.1) Z G [.int p0] post MC MS by rw [eMC, eMS] at goal; exact goal
  have hm0_ : 0 + mc ≤ MC ∧ 0 + ms ≤ MS := by omega
  clear eMC eMS
  refine h_openq (Or.inl ⟨_, rfl⟩) E.1 (by decide) (by exact Nat.le_of_ble_eq_true rfl) (fun p e s m args below meth c ls A0 Q X hI hnd hnm hl hret => ?_)
  have X : XC p s m args meth c cJ15_valueOf 1 RJ15 D jC (jty j.1) A0 Z := X
  have hx := X.1
  have hb := X.2.1
  have hown := X.2.2.2.1
  have hts := X.2.2.2.2.1
  have J23 : ∀ (mc ms : Nat) (G : HG), hJ15_valueOf_b23 j Λ p0 post mc ms G → ∀ (cells slots : Nat), cells + mc ≤ MC ∧ slots + ms ≤ MS → ∀ (H : Heap) (locs : List Loc), HI D jC G A0 s.heap H locs → ∀ (ls : Array Slot), lv_has ls 1 [(0, .int p0)] → W p l e (rhJ15_valueOf fr lo MC MS) s m args below meth c H locs cells slots Q (F0 m 23 ls []) := by
    intro mc ms G hf cells slots hm H locs hI ls hl
    unfold hJ15_valueOf_b23 at hf
    obtain ⟨hb1, hb2, hf⟩ := hf
    refine hr_new X hI (rfl : jC.1[21]? = some (RJ15, TJ15, 1)) in_J15 tyJ15 tyJ15_ok hf q823 q824 q191 (by decide) (hmA hm.1 hb1) (hmA hm.2 hb2) dJ15_valueOf_23 (fun a4 G5 H hf hI => ?_)
    have hm := And.intro (hmB hm.1 hb1) (hmB hm.2 hb2)
    clear hb1 hb2
    refine lv_dup hx hb dJ15_valueOf_26 rfl ?_
    refine lv_iload_n hx hb dJ15_valueOf_27 rfl (lv_at hl 0 rfl) ?_
    refine h_kv X hI (h_runI (As := [.int p0]) X hI (mhJ15_init l Z D j Λ fr lo E a4 p0 G5 _ hf H.size) (cwIn 1 hts q825 q826 q191 q827 rfl rfl rfl (by decide +kernel) (by show fr + 2 + 1 ≤ fr + 3 ∧ 8 + (2 + 11) + (lo + 60) ≤ lo + 81; omega)) rfl hl.1 (Nat.le_of_ble_eq_true rfl) dJ15_valueOf_28 ⟨hm0 hm.1, hm0 hm.2⟩ rfl) (fun G6 H locs hf hI => ?_)
    exact hret (v := (some a4)) hf hI dJ15_valueOf_31 (hmC hm.1) (hmC hm.2)
  have hl : lv_has ls 1 [(0, .int p0)] := by exact hl
  unfold hJ15_valueOf at hf
  obtain ⟨H, eH⟩ : ∃ H, H = s.heap := ⟨_, rfl⟩
  obtain ⟨locs, eL⟩ : ∃ locs : List Loc, locs = [] := ⟨_, rfl⟩
  have hI : HI D jC G A0 s.heap H locs := by rw [eH, eL]; exact hI
  rw [← eL]
  obtain ⟨cells, eC⟩ : ∃ n : Nat, n = 0 := ⟨_, rfl⟩
  obtain ⟨slots, eS⟩ : ∃ n : Nat, n = 0 := ⟨_, rfl⟩
  have hm : cells + mc ≤ MC ∧ slots + ms ≤ MS := by rw [eC, eS]; exact hm0_
  suffices h : W p l e (rhJ15_valueOf fr lo MC MS) s m args below meth c H locs cells slots Q (F0 m 0 ls []) by rw [eH, eC, eS] at h; exact h
  clear eH eL eC eS
  refine lv_iload_n hx hb dJ15_valueOf_0 rfl (lv_at hl 0 rfl) ?_
  refine lv_bipush (v := -128) hx hb dJ15_valueOf_1 (by decide) ?_
  refine lv_icmp_lt (tgt := 23) hx hb dJ15_valueOf_3 (by decide) (fun c1 => ?_) (fun c1 => ?_)
  · have hf := hf.1 c1
    exact J23 mc ms G hf _ _ hm H locs hI ls (lv_sub hl [0] rfl)
  · have hf := hf.2 c1
    refine lv_iload_n hx hb dJ15_valueOf_6 rfl (lv_at hl 0 rfl) ?_
    refine va_gets (v := .int 127) hx hb ((E.z X).2.1 _ (List.mem_of_getElem? (show jStI[1]? = some _ from rfl))) hI.2 hown (hts _ q819) (fun _ h => h) dJ15_valueOf_7 ?_
    refine lv_icmp_gt (tgt := 23) hx hb dJ15_valueOf_10 (by decide) (fun c2 => ?_) (fun c2 => ?_)
    · have hf := hf.1 c2
      exact J23 mc ms G hf _ _ hm H locs hI ls (lv_sub hl [0] rfl)
    · have hf := hf.2 c2
      refine va_gets (v := .ref (j.2 43)) hx hb ((E.z X).2.2.1 _ (List.mem_of_getElem? (show jStR[3]? = some _ from rfl))) hI.2 hown (hts _ q821) (fun _ h => h) dJ15_valueOf_13 ?_
      refine lv_iload_n hx hb dJ15_valueOf_16 rfl (lv_at hl 0 rfl) ?_
      refine lv_sipush (v := 128) hx hb dJ15_valueOf_17 (by decide) ?_
      refine lv_iadd hx hb dJ15_valueOf_20 ?_
      refine hr_qld X hI hf dJ15_valueOf_21 (fun q3 hf => ?_)
      exact hret (v := q3) hf hI dJ15_valueOf_22 (hmC hm.1) (hmC hm.2)
/-! java/lang/Integer.equals(Ljava/lang/Object;)Z -/
def hJ15_equals (j : JX) (Λ : JLam) (a0 : Nat) (q1_ : Option Nat) (G : HG) (post : Int32 → HG → Prop) : Prop :=
  inO G q1_ "java/lang/Integer" fun x1 => (x1 = 0 → (post (0 : Int32) G)) ∧ (¬ x1 = 0 → (gtI G a0 21 0 fun x3 => csO G q1_ "java/lang/Integer" (nnq q1_ fun a4 => isO G a4 21 (hJ15_intValue j Λ a4 G fun x6 G5 => (x3 = x6 → (post (1 : Int32) G5)) ∧ (¬ x3 = x6 → (post (0 : Int32) G5))))))
abbrev rhJ15_equals (fr lo : Nat) : Room := { frames := fr + 2, cells := 0, slots := 0, locals := lo + 60 }
theorem mhJ15_equals (l : Launch) (Z : (Nat → Prop) → State → Heap → Prop) (D : va_G) (j : JX) (Λ : JLam) (fr lo : Nat) (E : JE l Z D j Λ fr lo) (a0 : Nat) (q1_ : Option Nat) (G : HG) (post : Int32 → HG → Prop) (hf : hJ15_equals j Λ a0 q1_ G post) : HMi l yJ15_equals (ws_ yJ15_equals cJ15_equals 2 (some .boolean)) (rhJ15_equals fr lo) D jC (jty j.1) Z G [.ref a0, va_rf q1_] post 0 0 := by
  refine h_openz E.1 (by decide) (by cases q1_ <;> exact Nat.le_of_ble_eq_true rfl) (fun p e s m args below meth c ls A0 Q X hI hnd hnm hl hret => ?_)
  have X : XC p s m args meth c cJ15_equals 2 RJ15 D jC (jty j.1) A0 Z := X
  have hx := X.1
  have hb := X.2.1
  have hown := X.2.2.2.1
  have hts := X.2.2.2.2.1
  have hl : lv_has ls 2 [(0, .ref a0), (1, va_rf q1_)] := by cases q1_ <;> exact hl
  unfold hJ15_equals at hf
  obtain ⟨H, eH⟩ : ∃ H, H = s.heap := ⟨_, rfl⟩
  obtain ⟨locs, eL⟩ : ∃ locs : List Loc, locs = [] := ⟨_, rfl⟩
  have hI : HI D jC G A0 s.heap H locs := by rw [eH, eL]; exact hI
  rw [← eL]
  suffices h : W p l e (rhJ15_equals fr lo) s m args below meth c H locs 0 0 Q (F0 m 0 ls []) by rw [eH] at h; exact h
  clear eH eL
  refine h_aload_n (o := q1_) hx hb dJ15_equals_0 rfl (lv_at hl 1 rfl) ?_
  refine hr_inst (v := q1_) E X hI hf q823 dJ15_equals_1 (fun x1 hf => ?_)
  refine lv_if_eq (tgt := 27) hx hb dJ15_equals_4 (by decide) (fun c2 => ?_) (fun c2 => ?_)
  · have hf := hf.1 c2
    refine lv_iconst (v := 0) hx hb dJ15_equals_27 (by decide) ?_
    exact hret rfl hf hI dJ15_equals_28 (Nat.le_refl _) (Nat.le_refl _)
  · have hf := hf.2 c2
    refine lv_aload_n hx hb dJ15_equals_7 rfl (lv_at hl 0 rfl) ?_
    refine hr_gtI X hI (rfl : jC.1[21]? = some (RJ15, TJ15, 1)) in_J15 0 (Nat.le_of_ble_eq_true rfl) hf q832 (fun _ h => h) dJ15_equals_8 (fun x3 hf => ?_)
    refine h_aload_n (o := q1_) hx hb dJ15_equals_11 rfl (lv_at hl 1 rfl) ?_
    refine hr_cast (v := q1_) E X hI hf q823 dJ15_equals_12 (fun hf => ?_)
    obtain ⟨a4, ea4, hf⟩ := hf
    revert hl hf
    subst ea4
    intro hl hf
    have hl : lv_has ls 2 [(0, .ref a0), (1, .ref a4)] := hl
    obtain ⟨_, _, hO, hf⟩ := hf
    refine h_ki X hI (h_runV (As := []) X hI (h_recv X hI hO (show jC.1[21]? = some (RJ15, TJ15, 1) from rfl)) (mhJ15_intValue l Z D j Λ fr lo E a4 G _ hf H.size) (cwV 0 hts (lw_V q1302 q1303 q1304 q191 q1305) rfl rfl rfl (by decide +kernel) (by show fr + 1 + 1 ≤ fr + 2 ∧ 8 + (1 + 11) + (lo + 40) ≤ lo + 60; omega)) rfl hl.1 (Nat.le_of_ble_eq_true rfl) dJ15_equals_15 ⟨Nat.le_refl _, Nat.le_refl _⟩ rfl) (fun x6 G5 H locs hf hI => ?_)
    clear hO
    refine lv_icmp_ne (tgt := 25) hx hb dJ15_equals_18 (by decide) (fun c7 => ?_) (fun c7 => ?_)
    · have hf := hf.2 c7
      refine lv_iconst (v := 0) hx hb dJ15_equals_25 (by decide) ?_
      exact hret rfl hf hI dJ15_equals_26 (Nat.le_refl _) (Nat.le_refl _)
    · have hf := hf.1 c7
      refine lv_iconst (v := 1) hx hb dJ15_equals_21 (by decide) ?_
      refine lv_goto (tgt := 26) hx hb dJ15_equals_22 (by decide) ?_
      exact hret rfl hf hI dJ15_equals_26 (Nat.le_refl _) (Nat.le_refl _)
/-! jdk/internal/util/ArraysSupport.vectorizedHashCode(Ljava/lang/Object;IIII)I -/
def hJ17_vectorizedHashCode_b129 (j : JX) (Λ : JLam) (p1 : Int32) (p2 : Int32) (p3 : Int32) (p4 : Int32) (post : Int32 → HG → Prop) (G : HG) : Prop :=
  False
def hJ17_vectorizedHashCode (j : JX) (Λ : JLam) (q0_ : Option Nat) (p1 : Int32) (p2 : Int32) (p3 : Int32) (p4 : Int32) (G : HG) (post : Int32 → HG → Prop) : Prop :=
  (p4 = 4 → (isA G q0_ (j.1 2) (hJ17_signedHashCode j Λ p3 q0_ p1 p2 G fun x3 G2 => post x3 G2))) ∧ (¬ p4 = 4 → ((p4 = 5 → (False)) ∧ (¬ p4 = 5 → ((p4 = 6 → (hJ17_vectorizedHashCode_b129 j Λ p1 p2 p3 p4 post G)) ∧ (¬ p4 = 6 → ((p4 = 7 → (hJ17_vectorizedHashCode_b129 j Λ p1 p2 p3 p4 post G)) ∧ (¬ p4 = 7 → ((p4 = 8 → (isA G q0_ (j.1 2) (hJ17_hashCode_2 j Λ p3 q0_ p1 p2 G fun x9 G8 => post x9 G8))) ∧ (¬ p4 = 8 → ((p4 = 9 → (isA G q0_ (j.1 4) (hJ17_hashCode_3 j Λ p3 q0_ p1 p2 G fun x12 G11 => post x12 G11))) ∧ (¬ p4 = 9 → ((p4 = 10 → (isA G q0_ (j.1 0) (hJ17_hashCode_4 j Λ p3 q0_ p1 p2 G fun x15 G14 => post x15 G14))) ∧ (¬ p4 = 10 → (hJ17_vectorizedHashCode_b129 j Λ p1 p2 p3 p4 post G))))))))))))))
abbrev rhJ17_vectorizedHashCode (fr lo : Nat) : Room := { frames := fr + 2, cells := 0, slots := 0, locals := lo + 65 }
theorem mhJ17_vectorizedHashCode (l : Launch) (Z : (Nat → Prop) → State → Heap → Prop) (D : va_G) (j : JX) (Λ : JLam) (fr lo : Nat) (E : JE l Z D j Λ fr lo) (q0_ : Option Nat) (p1 : Int32) (p2 : Int32) (p3 : Int32) (p4 : Int32) (G : HG) (post : Int32 → HG → Prop) (hf : hJ17_vectorizedHashCode j Λ q0_ p1 p2 p3 p4 G post) : HMi l yJ17_vectorizedHashCode (ws_ yJ17_vectorizedHashCode cJ17_vectorizedHashCode 5 (some .int)) (rhJ17_vectorizedHashCode fr lo) D jC (jty j.1) Z G [va_rf q0_, .int p1, .int p2, .int p3, .int p4] post 0 0 := by
  refine h_openi E.1 (by decide) (by cases q0_ <;> exact Nat.le_of_ble_eq_true rfl) (fun p e s m args below meth c ls A0 Q X hI hnd hnm hl hret => ?_)
  have X : XC p s m args meth c cJ17_vectorizedHashCode 5 RJ17 D jC (jty j.1) A0 Z := X
  have hx := X.1
  have hb := X.2.1
  have hown := X.2.2.2.1
  have hts := X.2.2.2.2.1
  have J129 : ∀ (G : HG), hJ17_vectorizedHashCode_b129 j Λ p1 p2 p3 p4 post G → ∀ (H : Heap) (locs : List Loc), HI D jC G A0 s.heap H locs → ∀ (ls : Array Slot), lv_has ls 5 [(4, .int p4)] → W p l e (rhJ17_vectorizedHashCode fr lo) s m args below meth c H locs 0 0 Q (F0 m 129 ls []) := by
    intro G hf H locs hI ls hl
    unfold hJ17_vectorizedHashCode_b129 at hf
    exact hf.elim
  have hl : lv_has ls 5 [(0, va_rf q0_), (1, .int p1), (2, .int p2), (3, .int p3), (4, .int p4)] := by cases q0_ <;> exact hl
  unfold hJ17_vectorizedHashCode at hf
  obtain ⟨H, eH⟩ : ∃ H, H = s.heap := ⟨_, rfl⟩
  obtain ⟨locs, eL⟩ : ∃ locs : List Loc, locs = [] := ⟨_, rfl⟩
  have hI : HI D jC G A0 s.heap H locs := by rw [eH, eL]; exact hI
  rw [← eL]
  suffices h : W p l e (rhJ17_vectorizedHashCode fr lo) s m args below meth c H locs 0 0 Q (F0 m 0 ls []) by rw [eH] at h; exact h
  clear eH eL
  refine lv_iload hx hb dJ17_vectorizedHashCode_0 (lv_at hl 4 rfl) ?_
  by_cases c1 : p4 = 4
  · refine x_swIn (tgt := 44) hx hb c1 dJ17_vectorizedHashCode_2 (by decide) (by decide) rfl (by decide) ?_
    have hf := hf.1 c1
    refine lv_iload_n hx hb dJ17_vectorizedHashCode_44 rfl (lv_at hl 3 rfl) ?_
    refine h_aload_n (o := q0_) hx hb dJ17_vectorizedHashCode_45 rfl (lv_at hl 0 rfl) ?_
    refine hr_castP (v := q0_) X hI 2 rfl rfl (by decide +kernel) hf q888 dJ17_vectorizedHashCode_46 (fun hf => ?_)
    refine lv_iload_n hx hb dJ17_vectorizedHashCode_49 rfl (lv_at hl 1 rfl) ?_
    refine lv_iload_n hx hb dJ17_vectorizedHashCode_50 rfl (lv_at hl 2 rfl) ?_
    refine h_ki X hI (h_runS (As := [.int p3, va_rf q0_, .int p1, .int p2]) X hI (mhJ17_signedHashCode l Z D j Λ fr lo E p3 q0_ p1 p2 G _ hf H.size) (va_cwS 4 hts (lw_S q889 q890 q194 q891) rfl rfl rfl (by decide +kernel) (by show fr + 1 + 1 ≤ fr + 2 ∧ 8 + (6 + 11) + (lo + 40) ≤ lo + 65; omega)) rfl hl.1 (Nat.le_of_ble_eq_true rfl) dJ17_vectorizedHashCode_51 ⟨Nat.le_refl _, Nat.le_refl _⟩ rfl) (fun x3 G2 H locs hf hI => ?_)
    refine lv_goto (tgt := 157) hx hb dJ17_vectorizedHashCode_54 (by decide) ?_
    exact hret hf hI dJ17_vectorizedHashCode_157 (Nat.le_refl _) (Nat.le_refl _)
  have hf := hf.2 c1
  by_cases c4 : p4 = 5
  · refine x_swIn (tgt := 57) hx hb c4 dJ17_vectorizedHashCode_2 (by decide) (by decide) rfl (by decide) ?_
    have hf := hf.1 c4
    exact hf.elim
  have hf := hf.2 c4
  by_cases c5 : p4 = 6
  · refine x_swIn (tgt := 129) hx hb c5 dJ17_vectorizedHashCode_2 (by decide) (by decide) rfl (by decide) ?_
    have hf := hf.1 c5
    exact J129 G hf H locs hI ls (lv_sub hl [4] rfl)
  have hf := hf.2 c5
  by_cases c6 : p4 = 7
  · refine x_swIn (tgt := 129) hx hb c6 dJ17_vectorizedHashCode_2 (by decide) (by decide) rfl (by decide) ?_
    have hf := hf.1 c6
    exact J129 G hf H locs hI ls (lv_sub hl [4] rfl)
  have hf := hf.2 c6
  by_cases c7 : p4 = 8
  · refine x_swIn (tgt := 90) hx hb c7 dJ17_vectorizedHashCode_2 (by decide) (by decide) rfl (by decide) ?_
    have hf := hf.1 c7
    refine lv_iload_n hx hb dJ17_vectorizedHashCode_90 rfl (lv_at hl 3 rfl) ?_
    refine h_aload_n (o := q0_) hx hb dJ17_vectorizedHashCode_91 rfl (lv_at hl 0 rfl) ?_
    refine hr_castP (v := q0_) X hI 2 rfl rfl (by decide +kernel) hf q888 dJ17_vectorizedHashCode_92 (fun hf => ?_)
    refine lv_iload_n hx hb dJ17_vectorizedHashCode_95 rfl (lv_at hl 1 rfl) ?_
    refine lv_iload_n hx hb dJ17_vectorizedHashCode_96 rfl (lv_at hl 2 rfl) ?_
    refine h_ki X hI (h_runS (As := [.int p3, va_rf q0_, .int p1, .int p2]) X hI (mhJ17_hashCode_2 l Z D j Λ fr lo E p3 q0_ p1 p2 G _ hf H.size) (va_cwS 4 hts (lw_S q923 q924 q194 q925) rfl rfl rfl (by decide +kernel) (by show fr + 1 + 1 ≤ fr + 2 ∧ 8 + (6 + 11) + (lo + 40) ≤ lo + 65; omega)) rfl hl.1 (Nat.le_of_ble_eq_true rfl) dJ17_vectorizedHashCode_97 ⟨Nat.le_refl _, Nat.le_refl _⟩ rfl) (fun x9 G8 H locs hf hI => ?_)
    refine lv_goto (tgt := 157) hx hb dJ17_vectorizedHashCode_100 (by decide) ?_
    exact hret hf hI dJ17_vectorizedHashCode_157 (Nat.le_refl _) (Nat.le_refl _)
  have hf := hf.2 c7
  by_cases c10 : p4 = 9
  · refine x_swIn (tgt := 103) hx hb c10 dJ17_vectorizedHashCode_2 (by decide) (by decide) rfl (by decide) ?_
    have hf := hf.1 c10
    refine lv_iload_n hx hb dJ17_vectorizedHashCode_103 rfl (lv_at hl 3 rfl) ?_
    refine h_aload_n (o := q0_) hx hb dJ17_vectorizedHashCode_104 rfl (lv_at hl 0 rfl) ?_
    refine hr_castP (v := q0_) X hI 4 rfl rfl (by decide +kernel) hf q926 dJ17_vectorizedHashCode_105 (fun hf => ?_)
    refine lv_iload_n hx hb dJ17_vectorizedHashCode_108 rfl (lv_at hl 1 rfl) ?_
    refine lv_iload_n hx hb dJ17_vectorizedHashCode_109 rfl (lv_at hl 2 rfl) ?_
    refine h_ki X hI (h_runS (As := [.int p3, va_rf q0_, .int p1, .int p2]) X hI (mhJ17_hashCode_3 l Z D j Λ fr lo E p3 q0_ p1 p2 G _ hf H.size) (va_cwS 4 hts (lw_S q927 q928 q194 q929) rfl rfl rfl (by decide +kernel) (by show fr + 1 + 1 ≤ fr + 2 ∧ 8 + (6 + 11) + (lo + 40) ≤ lo + 65; omega)) rfl hl.1 (Nat.le_of_ble_eq_true rfl) dJ17_vectorizedHashCode_110 ⟨Nat.le_refl _, Nat.le_refl _⟩ rfl) (fun x12 G11 H locs hf hI => ?_)
    refine lv_goto (tgt := 157) hx hb dJ17_vectorizedHashCode_113 (by decide) ?_
    exact hret hf hI dJ17_vectorizedHashCode_157 (Nat.le_refl _) (Nat.le_refl _)
  have hf := hf.2 c10
  by_cases c13 : p4 = 10
  · refine x_swIn (tgt := 116) hx hb c13 dJ17_vectorizedHashCode_2 (by decide) (by decide) rfl (by decide) ?_
    have hf := hf.1 c13
    refine lv_iload_n hx hb dJ17_vectorizedHashCode_116 rfl (lv_at hl 3 rfl) ?_
    refine h_aload_n (o := q0_) hx hb dJ17_vectorizedHashCode_117 rfl (lv_at hl 0 rfl) ?_
    refine hr_castP (v := q0_) X hI 0 rfl rfl (by decide +kernel) hf q930 dJ17_vectorizedHashCode_118 (fun hf => ?_)
    refine lv_iload_n hx hb dJ17_vectorizedHashCode_121 rfl (lv_at hl 1 rfl) ?_
    refine lv_iload_n hx hb dJ17_vectorizedHashCode_122 rfl (lv_at hl 2 rfl) ?_
    refine h_ki X hI (h_runS (As := [.int p3, va_rf q0_, .int p1, .int p2]) X hI (mhJ17_hashCode_4 l Z D j Λ fr lo E p3 q0_ p1 p2 G _ hf H.size) (va_cwS 4 hts (lw_S q931 q932 q194 q933) rfl rfl rfl (by decide +kernel) (by show fr + 1 + 1 ≤ fr + 2 ∧ 8 + (6 + 11) + (lo + 40) ≤ lo + 65; omega)) rfl hl.1 (Nat.le_of_ble_eq_true rfl) dJ17_vectorizedHashCode_123 ⟨Nat.le_refl _, Nat.le_refl _⟩ rfl) (fun x15 G14 H locs hf hI => ?_)
    refine lv_goto (tgt := 157) hx hb dJ17_vectorizedHashCode_126 (by decide) ?_
    exact hret hf hI dJ17_vectorizedHashCode_157 (Nat.le_refl _) (Nat.le_refl _)
  have hf := hf.2 c13
  refine lv_tableOut (tgt := 129) hx hb dJ17_vectorizedHashCode_2 (by have t0 := lv_neT c1 (show (4 : Int32).toInt = 4 from rfl); have t1 := lv_neT c4 (show (5 : Int32).toInt = 5 from rfl); have t2 := lv_neT c5 (show (6 : Int32).toInt = 6 from rfl); have t3 := lv_neT c6 (show (7 : Int32).toInt = 7 from rfl); have t4 := lv_neT c7 (show (8 : Int32).toInt = 8 from rfl); have t5 := lv_neT c10 (show (9 : Int32).toInt = 9 from rfl); have t6 := lv_neT c13 (show (10 : Int32).toInt = 10 from rfl); omega) (by decide) ?_
  exact J129 G hf H locs hI ls (lv_sub hl [4] rfl)
/-! java/lang/StringLatin1.hashCode([B)I -/
def hJ16_hashCode (j : JX) (Λ : JLam) (q0_ : Option Nat) (G : HG) (post : Int32 → HG → Prop) : Prop :=
  nnq q0_ fun a1 => aln (jty j.1) G a1 fun x2 => (x2 = 0 → (post (0 : Int32) G)) ∧ (¬ x2 = 0 → ((x2 = 1 → (ldI G a1 (j.1 2) (0 : Int32) fun x5 => post (x5 &&& 255) G)) ∧ (¬ x2 = 1 → (aln (jty j.1) G a1 fun x6 => hJ17_vectorizedHashCode j Λ (some a1) (0 : Int32) x6 (0 : Int32) (4 : Int32) G fun x8 G7 => post x8 G7))))
abbrev rhJ16_hashCode (fr lo : Nat) : Room := { frames := fr + 3, cells := 0, slots := 0, locals := lo + 89 }
theorem mhJ16_hashCode (l : Launch) (Z : (Nat → Prop) → State → Heap → Prop) (D : va_G) (j : JX) (Λ : JLam) (fr lo : Nat) (E : JE l Z D j Λ fr lo) (q0_ : Option Nat) (G : HG) (post : Int32 → HG → Prop) (hf : hJ16_hashCode j Λ q0_ G post) : HMi l yJ16_hashCode (ws_ yJ16_hashCode cJ16_hashCode 1 (some .int)) (rhJ16_hashCode fr lo) D jC (jty j.1) Z G [va_rf q0_] post 0 0 := by
  refine h_openi E.1 (by decide) (by cases q0_ <;> exact Nat.le_of_ble_eq_true rfl) (fun p e s m args below meth c ls A0 Q X hI hnd hnm hl hret => ?_)
  have X : XC p s m args meth c cJ16_hashCode 1 RJ16 D jC (jty j.1) A0 Z := X
  have hx := X.1
  have hb := X.2.1
  have hown := X.2.2.2.1
  have hts := X.2.2.2.2.1
  have hl : lv_has ls 1 [(0, va_rf q0_)] := by cases q0_ <;> exact hl
  unfold hJ16_hashCode at hf
  obtain ⟨H, eH⟩ : ∃ H, H = s.heap := ⟨_, rfl⟩
  obtain ⟨locs, eL⟩ : ∃ locs : List Loc, locs = [] := ⟨_, rfl⟩
  have hI : HI D jC G A0 s.heap H locs := by rw [eH, eL]; exact hI
  rw [← eL]
  suffices h : W p l e (rhJ16_hashCode fr lo) s m args below meth c H locs 0 0 Q (F0 m 0 ls []) by rw [eH] at h; exact h
  clear eH eL
  refine h_aload_n (o := q0_) hx hb dJ16_hashCode_0 rfl (lv_at hl 0 rfl) ?_
  obtain ⟨a1, ea1, hf⟩ := hf
  revert hl hf
  subst ea1
  intro hl hf
  have hl : lv_has ls 1 [(0, .ref a1)] := hl
  refine hr_aln X hI hf dJ16_hashCode_1 (fun x2 hf => ?_)
  by_cases c3 : x2 = 0
  · refine lv_lookup (off := 26) (tgt := 28) hx hb dJ16_hashCode_2 (by decide) (by rw [c3]; rfl) (by decide) ?_
    have hf := hf.1 c3
    refine lv_iconst (v := 0) hx hb dJ16_hashCode_28 (by decide) ?_
    refine lv_goto (tgt := 51) hx hb dJ16_hashCode_29 (by decide) ?_
    exact hret hf hI dJ16_hashCode_51 (Nat.le_refl _) (Nat.le_refl _)
  have hf := hf.2 c3
  by_cases c4 : x2 = 1
  · refine lv_lookup (off := 30) (tgt := 32) hx hb dJ16_hashCode_2 (by decide) (by rw [c4]; rfl) (by decide) ?_
    have hf := hf.1 c4
    refine lv_aload_n hx hb dJ16_hashCode_32 rfl (lv_at hl 0 rfl) ?_
    refine lv_iconst (v := 0) hx hb dJ16_hashCode_33 (by decide) ?_
    refine hr_bld X hI 2 rfl hf dJ16_hashCode_34 (fun x5 hf => ?_)
    refine lv_sipush (v := 255) hx hb dJ16_hashCode_35 (by decide) ?_
    refine lv_iand hx hb dJ16_hashCode_38 ?_
    refine lv_goto (tgt := 51) hx hb dJ16_hashCode_39 (by decide) ?_
    exact hret hf hI dJ16_hashCode_51 (Nat.le_refl _) (Nat.le_refl _)
  have hf := hf.2 c4
  refine lv_lookup (off := 40) (tgt := 42) hx hb dJ16_hashCode_2 (by decide) ((lv_osw c3 rfl).trans ((lv_osw c4 rfl).trans rfl)) (by decide) ?_
  refine lv_aload_n hx hb dJ16_hashCode_42 rfl (lv_at hl 0 rfl) ?_
  refine lv_iconst (v := 0) hx hb dJ16_hashCode_43 (by decide) ?_
  refine lv_aload_n hx hb dJ16_hashCode_44 rfl (lv_at hl 0 rfl) ?_
  refine hr_aln X hI hf dJ16_hashCode_45 (fun x6 hf => ?_)
  refine lv_iconst (v := 0) hx hb dJ16_hashCode_46 (by decide) ?_
  refine lv_iconst (v := 4) hx hb dJ16_hashCode_47 (by decide) ?_
  refine h_ki X hI (h_runS (As := [va_rf (some a1), .int 0, .int x6, .int 0, .int 4]) X hI (mhJ17_vectorizedHashCode l Z D j Λ fr lo E (some a1) (0 : Int32) x6 (0 : Int32) (4 : Int32) G _ hf H.size) (va_cwS 5 hts (lw_S q885 q886 q194 q887) rfl rfl rfl (by decide +kernel) (by show fr + 2 + 1 ≤ fr + 3 ∧ 8 + (5 + 11) + (lo + 65) ≤ lo + 89; omega)) rfl hl.1 (Nat.le_of_ble_eq_true rfl) dJ16_hashCode_48 ⟨Nat.le_refl _, Nat.le_refl _⟩ rfl) (fun x8 G7 H locs hf hI => ?_)
  exact hret hf hI dJ16_hashCode_51 (Nat.le_refl _) (Nat.le_refl _)
/-! java/lang/StringLatin1.getChar([BI)C -/
def hJ16_getChar (j : JX) (Λ : JLam) (q0_ : Option Nat) (p1 : Int32) (G : HG) (post : Int32 → HG → Prop) : Prop :=
  nnq q0_ fun a1 => ldI G a1 (j.1 2) p1 fun x2 => narrow .char (.int (((x2 &&& 255).toUInt32 % 65536).toInt32)) = .int (((x2 &&& 255).toUInt32 % 65536).toInt32) ∧ post (((x2 &&& 255).toUInt32 % 65536).toInt32) G
abbrev rhJ16_getChar (fr lo : Nat) : Room := { frames := fr + 1, cells := 0, slots := 0, locals := lo + 40 }
theorem mhJ16_getChar (l : Launch) (Z : (Nat → Prop) → State → Heap → Prop) (D : va_G) (j : JX) (Λ : JLam) (fr lo : Nat) (E : JE l Z D j Λ fr lo) (q0_ : Option Nat) (p1 : Int32) (G : HG) (post : Int32 → HG → Prop) (hf : hJ16_getChar j Λ q0_ p1 G post) : HMi l yJ16_getChar (ws_ yJ16_getChar cJ16_getChar 2 (some .char)) (rhJ16_getChar fr lo) D jC (jty j.1) Z G [va_rf q0_, .int p1] post 0 0 := by
  refine h_openz E.1 (by decide) (by cases q0_ <;> exact Nat.le_of_ble_eq_true rfl) (fun p e s m args below meth c ls A0 Q X hI hnd hnm hl hret => ?_)
  have X : XC p s m args meth c cJ16_getChar 2 RJ16 D jC (jty j.1) A0 Z := X
  have hx := X.1
  have hb := X.2.1
  have hown := X.2.2.2.1
  have hts := X.2.2.2.2.1
  have hl : lv_has ls 2 [(0, va_rf q0_), (1, .int p1)] := by cases q0_ <;> exact hl
  unfold hJ16_getChar at hf
  obtain ⟨H, eH⟩ : ∃ H, H = s.heap := ⟨_, rfl⟩
  obtain ⟨locs, eL⟩ : ∃ locs : List Loc, locs = [] := ⟨_, rfl⟩
  have hI : HI D jC G A0 s.heap H locs := by rw [eH, eL]; exact hI
  rw [← eL]
  suffices h : W p l e (rhJ16_getChar fr lo) s m args below meth c H locs 0 0 Q (F0 m 0 ls []) by rw [eH] at h; exact h
  clear eH eL
  refine h_aload_n (o := q0_) hx hb dJ16_getChar_0 rfl (lv_at hl 0 rfl) ?_
  refine lv_iload_n hx hb dJ16_getChar_1 rfl (lv_at hl 1 rfl) ?_
  obtain ⟨a1, ea1, hf⟩ := hf
  revert hl hf
  subst ea1
  intro hl hf
  have hl : lv_has ls 2 [(0, .ref a1), (1, .int p1)] := hl
  refine hr_bld X hI 2 rfl hf dJ16_getChar_2 (fun x2 hf => ?_)
  refine lv_sipush (v := 255) hx hb dJ16_getChar_3 (by decide) ?_
  refine lv_iand hx hb dJ16_getChar_6 ?_
  refine lv_i2c hx hb dJ16_getChar_7 rfl ?_
  obtain ⟨hz, hf⟩ := hf
  exact hret hz hf hI dJ16_getChar_8 (Nat.le_refl _) (Nat.le_refl _)
/-! java/lang/StringLatin1.compareToUTF16Values([B[BII)I -/
def hJ16_compareToUTF16Values_b10 (j : JX) (Λ : JLam) (p2 : Int32) (p3 : Int32) (post : Int32 → HG → Prop) (K10 : Option Nat → Option Nat → Int32 → Int32 → HG → Prop) (lq0 : Option Nat) (lq1 : Option Nat) (lx4 : Int32) (lx5 : Int32) (G : HG) : Prop :=
  (lx4 ≤ lx5 → (post (p2 - p3) G)) ∧ (¬ lx4 ≤ lx5 → (False))
def hJ16_compareToUTF16Values_l10 (j : JX) (Λ : JLam) (p2 : Int32) (p3 : Int32) (post : Int32 → HG → Prop) : Nat → Option Nat → Option Nat → Int32 → Int32 → HG → Prop
  | 0 => fun _ _ _ _ _ => False
  | n + 1 => fun lq0 lq1 lx4 lx5 G => hJ16_compareToUTF16Values_b10 j Λ p2 p3 post (hJ16_compareToUTF16Values_l10 j Λ p2 p3 post n) lq0 lq1 lx4 lx5 G
def hJ16_compareToUTF16Values (j : JX) (Λ : JLam) (q0_ : Option Nat) (q1_ : Option Nat) (p2 : Int32) (p3 : Int32) (G : HG) (post : Int32 → HG → Prop) : Prop :=
  ∀ v1 : Int32, v1 = (if p3 < p2 then p3 else p2) → ∃ n, hJ16_compareToUTF16Values_l10 j Λ p2 p3 post n q0_ q1_ v1 (0 : Int32) G
abbrev rhJ16_compareToUTF16Values (fr lo : Nat) : Room := { frames := fr + 2, cells := 0, slots := 0, locals := lo + 61 }
theorem mhJ16_compareToUTF16Values (l : Launch) (Z : (Nat → Prop) → State → Heap → Prop) (D : va_G) (j : JX) (Λ : JLam) (fr lo : Nat) (E : JE l Z D j Λ fr lo) (q0_ : Option Nat) (q1_ : Option Nat) (p2 : Int32) (p3 : Int32) (G : HG) (post : Int32 → HG → Prop) (hf : hJ16_compareToUTF16Values j Λ q0_ q1_ p2 p3 G post) : HMi l yJ16_compareToUTF16Values (ws_ yJ16_compareToUTF16Values cJ16_compareToUTF16Values 8 (some .int)) (rhJ16_compareToUTF16Values fr lo) D jC (jty j.1) Z G [va_rf q0_, va_rf q1_, .int p2, .int p3] post 0 0 := by
  refine h_openi E.1 (by decide) (by cases q0_ <;> cases q1_ <;> exact Nat.le_of_ble_eq_true rfl) (fun p e s m args below meth c ls A0 Q X hI hnd hnm hl hret => ?_)
  have X : XC p s m args meth c cJ16_compareToUTF16Values 8 RJ16 D jC (jty j.1) A0 Z := X
  have hx := X.1
  have hb := X.2.1
  have hown := X.2.2.2.1
  have hts := X.2.2.2.2.1
  have L10 : ∀ (n : Nat) (lq0 : Option Nat) (lq1 : Option Nat) (lx4 : Int32) (lx5 : Int32) (G : HG), hJ16_compareToUTF16Values_l10 j Λ p2 p3 post n lq0 lq1 lx4 lx5 G → ∀ (H : Heap) (locs : List Loc), HI D jC G A0 s.heap H locs → ∀ (ls : Array Slot), lv_has ls 8 [(0, va_rf lq0), (1, va_rf lq1), (2, .int p2), (3, .int p3), (4, .int lx4), (5, .int lx5)] → W p l e (rhJ16_compareToUTF16Values fr lo) s m args below meth c H locs 0 0 Q (F0 m 10 ls []) := by
    intro n10
    induction n10 with
    | zero => intro lq0 lq1 lx4 lx5 G hf; exact hf.elim
    | succ n10 ih10 =>
      intro lq0 lq1 lx4 lx5 G hf H locs hI ls hl
      have hf : hJ16_compareToUTF16Values_b10 j Λ p2 p3 post (hJ16_compareToUTF16Values_l10 j Λ p2 p3 post n10) lq0 lq1 lx4 lx5 G := hf
      unfold hJ16_compareToUTF16Values_b10 at hf
      refine lv_iload hx hb dJ16_compareToUTF16Values_10 (lv_at hl 5 rfl) ?_
      refine lv_iload hx hb dJ16_compareToUTF16Values_12 (lv_at hl 4 rfl) ?_
      refine lv_icmp_ge (tgt := 52) hx hb dJ16_compareToUTF16Values_14 (by decide) (fun c2 => ?_) (fun c2 => ?_)
      · have hf := hf.1 c2
        refine lv_iload_n hx hb dJ16_compareToUTF16Values_52 rfl (lv_at hl 2 rfl) ?_
        refine lv_iload_n hx hb dJ16_compareToUTF16Values_53 rfl (lv_at hl 3 rfl) ?_
        refine lv_isub hx hb dJ16_compareToUTF16Values_54 ?_
        exact hret hf hI dJ16_compareToUTF16Values_55 (Nat.le_refl _) (Nat.le_refl _)
      · have hf := hf.2 c2
        exact hf.elim
  have hl : lv_has ls 8 [(0, va_rf q0_), (1, va_rf q1_), (2, .int p2), (3, .int p3)] := by cases q0_ <;> cases q1_ <;> exact hl
  unfold hJ16_compareToUTF16Values at hf
  obtain ⟨H, eH⟩ : ∃ H, H = s.heap := ⟨_, rfl⟩
  obtain ⟨locs, eL⟩ : ∃ locs : List Loc, locs = [] := ⟨_, rfl⟩
  have hI : HI D jC G A0 s.heap H locs := by rw [eH, eL]; exact hI
  rw [← eL]
  suffices h : W p l e (rhJ16_compareToUTF16Values fr lo) s m args below meth c H locs 0 0 Q (F0 m 0 ls []) by rw [eH] at h; exact h
  clear eH eL
  refine lv_iload_n hx hb dJ16_compareToUTF16Values_0 rfl (lv_at hl 2 rfl) ?_
  refine lv_iload_n hx hb dJ16_compareToUTF16Values_1 rfl (lv_at hl 3 rfl) ?_
  refine x_mmin X hl.1 q1085 q638 q173 q639 (by show 1 ≤ fr + 2 ∧ 21 ≤ lo + 61; omega) (Nat.le_of_ble_eq_true rfl) ⟨Nat.le_refl _, Nat.le_refl _⟩ dJ16_compareToUTF16Values_2 ?_
  obtain ⟨v1, ev1⟩ : ∃ v1, v1 = (if p3 < p2 then p3 else p2) := ⟨_, rfl⟩
  have hf := hf v1 ev1
  rw [← ev1]
  clear ev1
  refine lv_istore (lv' := [(4, .int v1), (0, va_rf q0_), (1, va_rf q1_), (2, .int p2), (3, .int p3)]) hx hb dJ16_compareToUTF16Values_5 hl (by decide) rfl (fun ls hl => ?_)
  refine lv_iconst (v := 0) hx hb dJ16_compareToUTF16Values_7 (by decide) ?_
  refine lv_istore (lv' := [(5, .int 0), (4, .int v1), (0, va_rf q0_), (1, va_rf q1_), (2, .int p2), (3, .int p3)]) hx hb dJ16_compareToUTF16Values_8 hl (by decide) rfl (fun ls hl => ?_)
  obtain ⟨n, hf⟩ := hf
  exact L10 n q0_ q1_ v1 (0 : Int32) G hf H locs hI ls (lv_sub hl [2, 3, 4, 5, 1, 0] rfl)
/-! java/lang/StringLatin1.compareToUTF16([B[B)I -/
def hJ16_compareToUTF16 (j : JX) (Λ : JLam) (q0_ : Option Nat) (q1_ : Option Nat) (G : HG) (post : Int32 → HG → Prop) : Prop :=
  False
abbrev rhJ16_compareToUTF16 (fr lo : Nat) : Room := { frames := fr + 2, cells := 0, slots := 0, locals := lo + 60 }
theorem mhJ16_compareToUTF16 (l : Launch) (Z : (Nat → Prop) → State → Heap → Prop) (D : va_G) (j : JX) (Λ : JLam) (fr lo : Nat) (E : JE l Z D j Λ fr lo) (q0_ : Option Nat) (q1_ : Option Nat) (G : HG) (post : Int32 → HG → Prop) (hf : hJ16_compareToUTF16 j Λ q0_ q1_ G post) : HMi l yJ16_compareToUTF16 (ws_ yJ16_compareToUTF16 cJ16_compareToUTF16 4 (some .int)) (rhJ16_compareToUTF16 fr lo) D jC (jty j.1) Z G [va_rf q0_, va_rf q1_] post 0 0 := by
  refine h_openi E.1 (by decide) (by cases q0_ <;> cases q1_ <;> exact Nat.le_of_ble_eq_true rfl) (fun p e s m args below meth c ls A0 Q X hI hnd hnm hl hret => ?_)
  have X : XC p s m args meth c cJ16_compareToUTF16 4 RJ16 D jC (jty j.1) A0 Z := X
  have hx := X.1
  have hb := X.2.1
  have hown := X.2.2.2.1
  have hts := X.2.2.2.2.1
  have hl : lv_has ls 4 [(0, va_rf q0_), (1, va_rf q1_)] := by cases q0_ <;> cases q1_ <;> exact hl
  unfold hJ16_compareToUTF16 at hf
  obtain ⟨H, eH⟩ : ∃ H, H = s.heap := ⟨_, rfl⟩
  obtain ⟨locs, eL⟩ : ∃ locs : List Loc, locs = [] := ⟨_, rfl⟩
  have hI : HI D jC G A0 s.heap H locs := by rw [eH, eL]; exact hI
  rw [← eL]
  suffices h : W p l e (rhJ16_compareToUTF16 fr lo) s m args below meth c H locs 0 0 Q (F0 m 0 ls []) by rw [eH] at h; exact h
  clear eH eL
  exact hf.elim
/-! jdk/internal/util/Preconditions.checkFromToIndex(IIILjava/util/function/BiFunction;)I -/
def hJ21_checkFromToIndex_b14 (j : JX) (Λ : JLam) (p0 : Int32) (p1 : Int32) (p2 : Int32) (post : Int32 → HG → Prop) (lq3 : Option Nat) (G : HG) : Prop :=
  False
def hJ21_checkFromToIndex (j : JX) (Λ : JLam) (p0 : Int32) (p1 : Int32) (p2 : Int32) (q3_ : Option Nat) (G : HG) (post : Int32 → HG → Prop) : Prop :=
  (p0 < 0 → (hJ21_checkFromToIndex_b14 j Λ p0 p1 p2 post q3_ G)) ∧ (¬ p0 < 0 → ((p1 < p0 → (hJ21_checkFromToIndex_b14 j Λ p0 p1 p2 post q3_ G)) ∧ (¬ p1 < p0 → ((p1 ≤ p2 → (post p0 G)) ∧ (¬ p1 ≤ p2 → (hJ21_checkFromToIndex_b14 j Λ p0 p1 p2 post q3_ G))))))
abbrev rhJ21_checkFromToIndex (fr lo : Nat) : Room := { frames := fr + 1, cells := 0, slots := 0, locals := lo + 40 }
theorem mhJ21_checkFromToIndex (l : Launch) (Z : (Nat → Prop) → State → Heap → Prop) (D : va_G) (j : JX) (Λ : JLam) (fr lo : Nat) (E : JE l Z D j Λ fr lo) (p0 : Int32) (p1 : Int32) (p2 : Int32) (q3_ : Option Nat) (G : HG) (post : Int32 → HG → Prop) (hf : hJ21_checkFromToIndex j Λ p0 p1 p2 q3_ G post) : HMi l yJ21_checkFromToIndex (ws_ yJ21_checkFromToIndex cJ21_checkFromToIndex 4 (some .int)) (rhJ21_checkFromToIndex fr lo) D jC (jty j.1) Z G [.int p0, .int p1, .int p2, va_rf q3_] post 0 0 := by
  refine h_openi E.1 (by decide) (by cases q3_ <;> exact Nat.le_of_ble_eq_true rfl) (fun p e s m args below meth c ls A0 Q X hI hnd hnm hl hret => ?_)
  have X : XC p s m args meth c cJ21_checkFromToIndex 4 RJ21 D jC (jty j.1) A0 Z := X
  have hx := X.1
  have hb := X.2.1
  have hown := X.2.2.2.1
  have hts := X.2.2.2.2.1
  have J14 : ∀ (lq3 : Option Nat) (G : HG), hJ21_checkFromToIndex_b14 j Λ p0 p1 p2 post lq3 G → ∀ (H : Heap) (locs : List Loc), HI D jC G A0 s.heap H locs → ∀ (ls : Array Slot), lv_has ls 4 [(0, .int p0), (1, .int p1), (2, .int p2), (3, va_rf lq3)] → W p l e (rhJ21_checkFromToIndex fr lo) s m args below meth c H locs 0 0 Q (F0 m 14 ls []) := by
    intro lq3 G hf H locs hI ls hl
    unfold hJ21_checkFromToIndex_b14 at hf
    exact hf.elim
  have hl : lv_has ls 4 [(0, .int p0), (1, .int p1), (2, .int p2), (3, va_rf q3_)] := by cases q3_ <;> exact hl
  unfold hJ21_checkFromToIndex at hf
  obtain ⟨H, eH⟩ : ∃ H, H = s.heap := ⟨_, rfl⟩
  obtain ⟨locs, eL⟩ : ∃ locs : List Loc, locs = [] := ⟨_, rfl⟩
  have hI : HI D jC G A0 s.heap H locs := by rw [eH, eL]; exact hI
  rw [← eL]
  suffices h : W p l e (rhJ21_checkFromToIndex fr lo) s m args below meth c H locs 0 0 Q (F0 m 0 ls []) by rw [eH] at h; exact h
  clear eH eL
  refine lv_iload_n hx hb dJ21_checkFromToIndex_0 rfl (lv_at hl 0 rfl) ?_
  refine lv_if_lt (tgt := 14) hx hb dJ21_checkFromToIndex_1 (by decide) (fun c1 => ?_) (fun c1 => ?_)
  · have hf := hf.1 c1
    exact J14 q3_ G hf H locs hI ls (lv_sub hl [0, 1, 2, 3] rfl)
  · have hf := hf.2 c1
    refine lv_iload_n hx hb dJ21_checkFromToIndex_4 rfl (lv_at hl 0 rfl) ?_
    refine lv_iload_n hx hb dJ21_checkFromToIndex_5 rfl (lv_at hl 1 rfl) ?_
    refine lv_icmp_gt (tgt := 14) hx hb dJ21_checkFromToIndex_6 (by decide) (fun c2 => ?_) (fun c2 => ?_)
    · have hf := hf.1 c2
      exact J14 q3_ G hf H locs hI ls (lv_sub hl [0, 1, 2, 3] rfl)
    · have hf := hf.2 c2
      refine lv_iload_n hx hb dJ21_checkFromToIndex_9 rfl (lv_at hl 1 rfl) ?_
      refine lv_iload_n hx hb dJ21_checkFromToIndex_10 rfl (lv_at hl 2 rfl) ?_
      refine lv_icmp_le (tgt := 22) hx hb dJ21_checkFromToIndex_11 (by decide) (fun c3 => ?_) (fun c3 => ?_)
      · have hf := hf.1 c3
        refine lv_iload_n hx hb dJ21_checkFromToIndex_22 rfl (lv_at hl 0 rfl) ?_
        exact hret hf hI dJ21_checkFromToIndex_23 (Nat.le_refl _) (Nat.le_refl _)
      · have hf := hf.2 c3
        exact J14 q3_ G hf H locs hI ls (lv_sub hl [0, 1, 2, 3] rfl)
/-! java/lang/String.checkOffset(II)V -/
def hJ8_checkOffset (j : JX) (Λ : JLam) (p0 : Int32) (p1 : Int32) (G : HG) (post : HG → Prop) : Prop :=
  hJ21_checkFromToIndex j Λ p0 p1 p1 (some (j.2 44)) G fun x2 G1 => post G1
abbrev rhJ8_checkOffset (fr lo : Nat) : Room := { frames := fr + 2, cells := 0, slots := 0, locals := lo + 63 }
theorem mhJ8_checkOffset (l : Launch) (Z : (Nat → Prop) → State → Heap → Prop) (D : va_G) (j : JX) (Λ : JLam) (fr lo : Nat) (E : JE l Z D j Λ fr lo) (p0 : Int32) (p1 : Int32) (G : HG) (post : HG → Prop) (hf : hJ8_checkOffset j Λ p0 p1 G post) : HMv l yJ8_checkOffset (ws_ yJ8_checkOffset cJ8_checkOffset 2 none) (rhJ8_checkOffset fr lo) D jC (jty j.1) Z G [.int p0, .int p1] post 0 0 := by
  refine h_openv E.1 (by decide) (by exact Nat.le_of_ble_eq_true rfl) (fun p e s m args below meth c ls A0 Q X hI hnd hnm hl hret => ?_)
  have X : XC p s m args meth c cJ8_checkOffset 2 RJ8 D jC (jty j.1) A0 Z := X
  have hx := X.1
  have hb := X.2.1
  have hown := X.2.2.2.1
  have hts := X.2.2.2.2.1
  have hl : lv_has ls 2 [(0, .int p0), (1, .int p1)] := by exact hl
  unfold hJ8_checkOffset at hf
  obtain ⟨H, eH⟩ : ∃ H, H = s.heap := ⟨_, rfl⟩
  obtain ⟨locs, eL⟩ : ∃ locs : List Loc, locs = [] := ⟨_, rfl⟩
  have hI : HI D jC G A0 s.heap H locs := by rw [eH, eL]; exact hI
  rw [← eL]
  suffices h : W p l e (rhJ8_checkOffset fr lo) s m args below meth c H locs 0 0 Q (F0 m 0 ls []) by rw [eH] at h; exact h
  clear eH eL
  refine lv_iload_n hx hb dJ8_checkOffset_0 rfl (lv_at hl 0 rfl) ?_
  refine lv_iload_n hx hb dJ8_checkOffset_1 rfl (lv_at hl 1 rfl) ?_
  refine lv_iload_n hx hb dJ8_checkOffset_2 rfl (lv_at hl 1 rfl) ?_
  refine va_gets (v := .ref (j.2 44)) hx hb ((E.z X).2.2.1 _ (List.mem_of_getElem? (show jStR[4]? = some _ from rfl))) hI.2 hown (hts _ q1244) (fun _ h => h) dJ8_checkOffset_3 ?_
  refine h_ki X hI (h_runS (As := [.int p0, .int p1, .int p1, va_rf (some (j.2 44))]) X hI (mhJ21_checkFromToIndex l Z D j Λ fr lo E p0 p1 p1 (some (j.2 44)) G _ hf H.size) (va_cwS 4 hts (lw_S q1246 q1247 q199 q1248) rfl rfl rfl (by decide +kernel) (by show fr + 1 + 1 ≤ fr + 2 ∧ 8 + (4 + 11) + (lo + 40) ≤ lo + 63; omega)) rfl hl.1 (Nat.le_of_ble_eq_true rfl) dJ8_checkOffset_6 ⟨Nat.le_refl _, Nat.le_refl _⟩ rfl) (fun x2 G1 H locs hf hI => ?_)
  refine lv_pop hx hb dJ8_checkOffset_9 rfl ?_
  exact hret hf hI dJ8_checkOffset_10 (Nat.le_refl _) (Nat.le_refl _)
/-! java/lang/StringLatin1.compareToUTF16([B[BII)I -/
def hJ16_compareToUTF16_2 (j : JX) (Λ : JLam) (q0_ : Option Nat) (q1_ : Option Nat) (p2 : Int32) (p3 : Int32) (G : HG) (post : Int32 → HG → Prop) : Prop :=
  False
abbrev rhJ16_compareToUTF16_2 (fr lo : Nat) : Room := { frames := fr + 3, cells := 0, slots := 0, locals := lo + 84 }
theorem mhJ16_compareToUTF16_2 (l : Launch) (Z : (Nat → Prop) → State → Heap → Prop) (D : va_G) (j : JX) (Λ : JLam) (fr lo : Nat) (E : JE l Z D j Λ fr lo) (q0_ : Option Nat) (q1_ : Option Nat) (p2 : Int32) (p3 : Int32) (G : HG) (post : Int32 → HG → Prop) (hf : hJ16_compareToUTF16_2 j Λ q0_ q1_ p2 p3 G post) : HMi l yJ16_compareToUTF16_2 (ws_ yJ16_compareToUTF16_2 cJ16_compareToUTF16_2 4 (some .int)) (rhJ16_compareToUTF16_2 fr lo) D jC (jty j.1) Z G [va_rf q0_, va_rf q1_, .int p2, .int p3] post 0 0 := by
  refine h_openi E.1 (by decide) (by cases q0_ <;> cases q1_ <;> exact Nat.le_of_ble_eq_true rfl) (fun p e s m args below meth c ls A0 Q X hI hnd hnm hl hret => ?_)
  have X : XC p s m args meth c cJ16_compareToUTF16_2 4 RJ16 D jC (jty j.1) A0 Z := X
  have hx := X.1
  have hb := X.2.1
  have hown := X.2.2.2.1
  have hts := X.2.2.2.2.1
  have hl : lv_has ls 4 [(0, va_rf q0_), (1, va_rf q1_), (2, .int p2), (3, .int p3)] := by cases q0_ <;> cases q1_ <;> exact hl
  unfold hJ16_compareToUTF16_2 at hf
  obtain ⟨H, eH⟩ : ∃ H, H = s.heap := ⟨_, rfl⟩
  obtain ⟨locs, eL⟩ : ∃ locs : List Loc, locs = [] := ⟨_, rfl⟩
  have hI : HI D jC G A0 s.heap H locs := by rw [eH, eL]; exact hI
  rw [← eL]
  suffices h : W p l e (rhJ16_compareToUTF16_2 fr lo) s m args below meth c H locs 0 0 Q (F0 m 0 ls []) by rw [eH] at h; exact h
  clear eH eL
  exact hf.elim
/-! java/lang/StringLatin1.inflate([BI[BII)V -/
def hJ16_inflate (j : JX) (Λ : JLam) (q0_ : Option Nat) (p1 : Int32) (q2_ : Option Nat) (p3 : Int32) (p4 : Int32) (G : HG) (post : HG → Prop) : Prop :=
  False
abbrev rhJ16_inflate (fr lo : Nat) : Room := { frames := fr + 1, cells := 0, slots := 0, locals := lo + 40 }
theorem mhJ16_inflate (l : Launch) (Z : (Nat → Prop) → State → Heap → Prop) (D : va_G) (j : JX) (Λ : JLam) (fr lo : Nat) (E : JE l Z D j Λ fr lo) (q0_ : Option Nat) (p1 : Int32) (q2_ : Option Nat) (p3 : Int32) (p4 : Int32) (G : HG) (post : HG → Prop) (hf : hJ16_inflate j Λ q0_ p1 q2_ p3 p4 G post) : HMv l yJ16_inflate (ws_ yJ16_inflate cJ16_inflate 5 none) (rhJ16_inflate fr lo) D jC (jty j.1) Z G [va_rf q0_, .int p1, va_rf q2_, .int p3, .int p4] post 0 0 := by
  refine h_openv E.1 (by decide) (by cases q0_ <;> cases q2_ <;> exact Nat.le_of_ble_eq_true rfl) (fun p e s m args below meth c ls A0 Q X hI hnd hnm hl hret => ?_)
  have X : XC p s m args meth c cJ16_inflate 5 RJ16 D jC (jty j.1) A0 Z := X
  have hx := X.1
  have hb := X.2.1
  have hown := X.2.2.2.1
  have hts := X.2.2.2.2.1
  have hl : lv_has ls 5 [(0, va_rf q0_), (1, .int p1), (2, va_rf q2_), (3, .int p3), (4, .int p4)] := by cases q0_ <;> cases q2_ <;> exact hl
  unfold hJ16_inflate at hf
  obtain ⟨H, eH⟩ : ∃ H, H = s.heap := ⟨_, rfl⟩
  obtain ⟨locs, eL⟩ : ∃ locs : List Loc, locs = [] := ⟨_, rfl⟩
  have hI : HI D jC G A0 s.heap H locs := by rw [eH, eL]; exact hI
  rw [← eL]
  suffices h : W p l e (rhJ16_inflate fr lo) s m args below meth c H locs 0 0 Q (F0 m 0 ls []) by rw [eH] at h; exact h
  clear eH eL
  exact hf.elim
/-! java/lang/AbstractStringBuilder.<init>(I)V -/
def hJ6_init (j : JX) (Λ : JLam) (a0 : Nat) (p1 : Int32) (mc ms : Nat) (G : HG) (post : HG → Prop) : Prop :=
  1 ≤ mc ∧ p1.toNatClampNeg ≤ ms ∧ (¬ p1 < 0 ∧ p1.toNatClampNeg ≤ 65536 ∧ mkO G (.inl (j.1 2, p1.toNatClampNeg, .inl (fun _ => 0))) fun a2 G3 => ptV G3 a0 19 0 (.ref a2) fun G4 => ptV G4 a0 19 1 (.int 0) fun G5 => post G5)
abbrev rhJ6_init (fr lo mc ms : Nat) : Room := { frames := fr + 1, cells := mc, slots := ms, locals := lo + 40 }
theorem mhJ6_init (l : Launch) (Z : (Nat → Prop) → State → Heap → Prop) (D : va_G) (j : JX) (Λ : JLam) (fr lo : Nat) (E : JE l Z D j Λ fr lo) (a0 : Nat) (p1 : Int32) (mc ms : Nat) (G : HG) (post : HG → Prop) (hf : hJ6_init j Λ a0 p1 mc ms G post) : HMv l yJ6_init (ws_ yJ6_init cJ6_init 2 none) (rhJ6_init fr lo mc ms) D jC (jty j.1) Z G [.ref a0, .int p1] post mc ms := by
  obtain ⟨MC, eMC⟩ : ∃ MC, MC = mc := ⟨_, rfl⟩
  obtain ⟨MS, eMS⟩ : ∃ MS, MS = ms := ⟨_, rfl⟩
  suffices goal : HMv l yJ6_init (ws_ yJ6_init cJ6_init 2 none) (rhJ6_init fr lo MC MS) D jC (jty j.1) Z G [.ref a0, .int p1] post MC MS by rw [eMC, eMS] at goal; exact goal
  have hm0_ : 0 + mc ≤ MC ∧ 0 + ms ≤ MS := by omega
  clear eMC eMS
  refine h_openv E.1 (by decide) (by exact Nat.le_of_ble_eq_true rfl) (fun p e s m args below meth c ls A0 Q X hI hnd hnm hl hret => ?_)
  have X : XC p s m args meth c cJ6_init 2 RJ6 D jC (jty j.1) A0 Z := X
  have hx := X.1
  have hb := X.2.1
  have hown := X.2.2.2.1
  have hts := X.2.2.2.2.1
  have hl : lv_has ls 2 [(0, .ref a0), (1, .int p1)] := by exact hl
  unfold hJ6_init at hf
  obtain ⟨H, eH⟩ : ∃ H, H = s.heap := ⟨_, rfl⟩
  obtain ⟨locs, eL⟩ : ∃ locs : List Loc, locs = [] := ⟨_, rfl⟩
  have hI : HI D jC G A0 s.heap H locs := by rw [eH, eL]; exact hI
  rw [← eL]
  obtain ⟨cells, eC⟩ : ∃ n : Nat, n = 0 := ⟨_, rfl⟩
  obtain ⟨slots, eS⟩ : ∃ n : Nat, n = 0 := ⟨_, rfl⟩
  have hm : cells + mc ≤ MC ∧ slots + ms ≤ MS := by rw [eC, eS]; exact hm0_
  suffices h : W p l e (rhJ6_init fr lo MC MS) s m args below meth c H locs cells slots Q (F0 m 0 ls []) by rw [eH, eC, eS] at h; exact h
  clear eH eL eC eS
  refine lv_aload_n hx hb dJ6_init_0 rfl (lv_at hl 0 rfl) ?_
  refine W.objInit hx hb hown (hts _ q777) (hts _ q247) (hts _ q248) rfl (by rw [X.2.2.1]; exact hl.1) rfl dJ6_init_1 (by show 1 ≤ fr + 1; omega) (Nat.le_trans (m := 40) (Nat.le_of_ble_eq_true rfl) (by show 40 ≤ lo + 40; omega)) ?_
  show W p l e _ s m args below meth c H locs _ _ Q (F0 m 4 ls [])
  refine va_gets (v := .int 1) hx hb ((E.z X).2.1 _ (List.mem_of_getElem? (show jStI[0]? = some _ from rfl))) hI.2 hown (hts _ q778) (fun _ h => h) dJ6_init_4 ?_
  refine lv_if_eq (tgt := 25) hx hb dJ6_init_7 (by decide) (fun c1 => absurd c1 (by decide)) (fun c1 => ?_)
  refine lv_aload_n hx hb dJ6_init_10 rfl (lv_at hl 0 rfl) ?_
  refine lv_iload_n hx hb dJ6_init_11 rfl (lv_at hl 1 rfl) ?_
  obtain ⟨hb1, hb2, hf⟩ := hf
  refine hr_newab X hI 2 q317 rfl hf (hmA hm.1 hb1) (hmA hm.2 hb2) dJ6_init_12 (fun a2 G3 H hf hI => ?_)
  have hm := And.intro (hmB hm.1 hb1) (hmB hm.2 hb2)
  clear hb1 hb2
  refine hr_pt X hI (rfl : jC.1[19]? = some (RJ7, TJ7, 4)) in_J7 0 (Nat.le_of_ble_eq_true rfl) tyJ7 tyJ7_ok nmJ7 hf q792 (fun _ h => h) rfl rfl rfl dJ6_init_14 (fun G4 H locs hf hI => ?_)
  refine lv_aload_n hx hb dJ6_init_17 rfl (lv_at hl 0 rfl) ?_
  refine lv_iconst (v := 0) hx hb dJ6_init_18 (by decide) ?_
  refine hr_pt X hI (rfl : jC.1[19]? = some (RJ7, TJ7, 4)) in_J7 1 (Nat.le_of_ble_eq_true rfl) tyJ7 tyJ7_ok nmJ7 hf q793 (fun _ h => h) rfl rfl rfl dJ6_init_19 (fun G5 H locs hf hI => ?_)
  refine lv_goto (tgt := 38) hx hb dJ6_init_22 (by decide) ?_
  exact hret hf hI dJ6_init_38 (hmC hm.1) (hmC hm.2)
/-! java/lang/StringBuilder.<init>()V -/
def hJ7_init (j : JX) (Λ : JLam) (a0 : Nat) (mc ms : Nat) (G : HG) (post : HG → Prop) : Prop :=
  ∃ m1 m2 : Nat, m1 ≤ mc ∧ m2 ≤ ms ∧ hJ6_init j Λ a0 (16 : Int32) m1 m2 G fun G3 => post G3
abbrev rhJ7_init (fr lo mc ms : Nat) : Room := { frames := fr + 2, cells := mc, slots := ms, locals := lo + 61 }
theorem mhJ7_init (l : Launch) (Z : (Nat → Prop) → State → Heap → Prop) (D : va_G) (j : JX) (Λ : JLam) (fr lo : Nat) (E : JE l Z D j Λ fr lo) (a0 : Nat) (mc ms : Nat) (G : HG) (post : HG → Prop) (hf : hJ7_init j Λ a0 mc ms G post) : HMv l yJ7_init (ws_ yJ7_init cJ7_init 1 none) (rhJ7_init fr lo mc ms) D jC (jty j.1) Z G [.ref a0] post mc ms := by
  obtain ⟨MC, eMC⟩ : ∃ MC, MC = mc := ⟨_, rfl⟩
  obtain ⟨MS, eMS⟩ : ∃ MS, MS = ms := ⟨_, rfl⟩
  suffices goal : HMv l yJ7_init (ws_ yJ7_init cJ7_init 1 none) (rhJ7_init fr lo MC MS) D jC (jty j.1) Z G [.ref a0] post MC MS by rw [eMC, eMS] at goal; exact goal
  have hm0_ : 0 + mc ≤ MC ∧ 0 + ms ≤ MS := by omega
  clear eMC eMS
  refine h_openv E.1 (by decide) (by exact Nat.le_of_ble_eq_true rfl) (fun p e s m args below meth c ls A0 Q X hI hnd hnm hl hret => ?_)
  have X : XC p s m args meth c cJ7_init 1 RJ7 D jC (jty j.1) A0 Z := X
  have hx := X.1
  have hb := X.2.1
  have hown := X.2.2.2.1
  have hts := X.2.2.2.2.1
  have hl : lv_has ls 1 [(0, .ref a0)] := by exact hl
  unfold hJ7_init at hf
  obtain ⟨H, eH⟩ : ∃ H, H = s.heap := ⟨_, rfl⟩
  obtain ⟨locs, eL⟩ : ∃ locs : List Loc, locs = [] := ⟨_, rfl⟩
  have hI : HI D jC G A0 s.heap H locs := by rw [eH, eL]; exact hI
  rw [← eL]
  obtain ⟨cells, eC⟩ : ∃ n : Nat, n = 0 := ⟨_, rfl⟩
  obtain ⟨slots, eS⟩ : ∃ n : Nat, n = 0 := ⟨_, rfl⟩
  have hm : cells + mc ≤ MC ∧ slots + ms ≤ MS := by rw [eC, eS]; exact hm0_
  suffices h : W p l e (rhJ7_init fr lo MC MS) s m args below meth c H locs cells slots Q (F0 m 0 ls []) by rw [eH, eC, eS] at h; exact h
  clear eH eL eC eS
  refine lv_aload_n hx hb dJ7_init_0 rfl (lv_at hl 0 rfl) ?_
  refine lv_bipush (v := 16) hx hb dJ7_init_1 (by decide) ?_
  obtain ⟨m1, m2, hb1, hb2, hf⟩ := hf
  refine h_kv X hI (h_runI (As := [.int 16]) X hI (mhJ6_init l Z D j Λ fr lo E a0 (16 : Int32) m1 m2 G _ hf H.size) (cwIn 1 hts q774 q775 q182 q776 rfl rfl rfl (by decide +kernel) (by show fr + 1 + 1 ≤ fr + 2 ∧ 8 + (2 + 11) + (lo + 40) ≤ lo + 61; omega)) rfl hl.1 (Nat.le_of_ble_eq_true rfl) dJ7_init_3 ⟨hmA hm.1 hb1, hmA hm.2 hb2⟩ rfl) (fun G3 H locs hf hI => ?_)
  have hm := And.intro (hmB hm.1 hb1) (hmB hm.2 hb2)
  clear hb1 hb2
  exact hret hf hI dJ7_init_6 (hmC hm.1) (hmC hm.2)
/-! jdk/internal/util/ArraysSupport.hugeLength(II)I -/
def hJ17_hugeLength (j : JX) (Λ : JLam) (p0 : Int32) (p1 : Int32) (G : HG) (post : Int32 → HG → Prop) : Prop :=
  (0 ≤ (p0 + p1) → (((2147483639 : Int32) < (p0 + p1) → (post (p0 + p1) G)) ∧ (¬ (2147483639 : Int32) < (p0 + p1) → (post (2147483639 : Int32) G)))) ∧ (¬ 0 ≤ (p0 + p1) → (False))
abbrev rhJ17_hugeLength (fr lo : Nat) : Room := { frames := fr + 1, cells := 0, slots := 0, locals := lo + 40 }
theorem mhJ17_hugeLength (l : Launch) (Z : (Nat → Prop) → State → Heap → Prop) (D : va_G) (j : JX) (Λ : JLam) (fr lo : Nat) (E : JE l Z D j Λ fr lo) (p0 : Int32) (p1 : Int32) (G : HG) (post : Int32 → HG → Prop) (hf : hJ17_hugeLength j Λ p0 p1 G post) : HMi l yJ17_hugeLength (ws_ yJ17_hugeLength cJ17_hugeLength 3 (some .int)) (rhJ17_hugeLength fr lo) D jC (jty j.1) Z G [.int p0, .int p1] post 0 0 := by
  refine h_openi E.1 (by decide) (by exact Nat.le_of_ble_eq_true rfl) (fun p e s m args below meth c ls A0 Q X hI hnd hnm hl hret => ?_)
  have X : XC p s m args meth c cJ17_hugeLength 3 RJ17 D jC (jty j.1) A0 Z := X
  have hx := X.1
  have hb := X.2.1
  have hown := X.2.2.2.1
  have hts := X.2.2.2.2.1
  have hl : lv_has ls 3 [(0, .int p0), (1, .int p1)] := by exact hl
  unfold hJ17_hugeLength at hf
  obtain ⟨H, eH⟩ : ∃ H, H = s.heap := ⟨_, rfl⟩
  obtain ⟨locs, eL⟩ : ∃ locs : List Loc, locs = [] := ⟨_, rfl⟩
  have hI : HI D jC G A0 s.heap H locs := by rw [eH, eL]; exact hI
  rw [← eL]
  suffices h : W p l e (rhJ17_hugeLength fr lo) s m args below meth c H locs 0 0 Q (F0 m 0 ls []) by rw [eH] at h; exact h
  clear eH eL
  refine lv_iload_n hx hb dJ17_hugeLength_0 rfl (lv_at hl 0 rfl) ?_
  refine lv_iload_n hx hb dJ17_hugeLength_1 rfl (lv_at hl 1 rfl) ?_
  refine lv_iadd hx hb dJ17_hugeLength_2 ?_
  refine lv_istore_n (lv' := [(2, .int (p0 + p1)), (0, .int p0), (1, .int p1)]) hx hb dJ17_hugeLength_3 rfl hl (by decide) rfl (fun ls hl => ?_)
  refine lv_iload_n hx hb dJ17_hugeLength_4 rfl (lv_at hl 0 rfl) ?_
  refine lv_if_ge (tgt := 49) hx hb dJ17_hugeLength_5 (by decide) (fun c1 => ?_) (fun c1 => ?_)
  · have hf := hf.1 c1
    refine lv_iload_n hx hb dJ17_hugeLength_49 rfl (lv_at hl 0 rfl) ?_
    refine lv_ldc (v := 2147483639) hx hb hown (hts _ q1443) dJ17_hugeLength_50 ?_
    refine lv_icmp_gt (tgt := 58) hx hb dJ17_hugeLength_52 (by decide) (fun c2 => ?_) (fun c2 => ?_)
    · have hf := hf.1 c2
      refine lv_iload_n hx hb dJ17_hugeLength_58 rfl (lv_at hl 0 rfl) ?_
      exact hret hf hI dJ17_hugeLength_59 (Nat.le_refl _) (Nat.le_refl _)
    · have hf := hf.2 c2
      refine lv_ldc (v := 2147483639) hx hb hown (hts _ q1443) dJ17_hugeLength_55 ?_
      exact hret hf hI dJ17_hugeLength_57 (Nat.le_refl _) (Nat.le_refl _)
  · have hf := hf.2 c1
    exact hf.elim
/-! jdk/internal/util/ArraysSupport.newLength(III)I -/
def hJ17_newLength_b21 (j : JX) (Λ : JLam) (p0 : Int32) (p1 : Int32) (p2 : Int32) (post : Int32 → HG → Prop) (G : HG) : Prop :=
  False
def hJ17_newLength (j : JX) (Λ : JLam) (p0 : Int32) (p1 : Int32) (p2 : Int32) (G : HG) (post : Int32 → HG → Prop) : Prop :=
  ∀ v1 : Int32, v1 = (p0 + (if p1 < p2 then p2 else p1)) → (v1 ≤ (0 : Int32) → (hJ17_newLength_b21 j Λ p0 p1 p2 post G)) ∧ (¬ v1 ≤ (0 : Int32) → (((2147483639 : Int32) < v1 → (hJ17_newLength_b21 j Λ p0 p1 p2 post G)) ∧ (¬ (2147483639 : Int32) < v1 → (post v1 G))))
abbrev rhJ17_newLength (fr lo : Nat) : Room := { frames := fr + 1, cells := 0, slots := 0, locals := lo + 40 }
theorem mhJ17_newLength (l : Launch) (Z : (Nat → Prop) → State → Heap → Prop) (D : va_G) (j : JX) (Λ : JLam) (fr lo : Nat) (E : JE l Z D j Λ fr lo) (p0 : Int32) (p1 : Int32) (p2 : Int32) (G : HG) (post : Int32 → HG → Prop) (hf : hJ17_newLength j Λ p0 p1 p2 G post) : HMi l yJ17_newLength (ws_ yJ17_newLength cJ17_newLength 4 (some .int)) (rhJ17_newLength fr lo) D jC (jty j.1) Z G [.int p0, .int p1, .int p2] post 0 0 := by
  refine h_openi E.1 (by decide) (by exact Nat.le_of_ble_eq_true rfl) (fun p e s m args below meth c ls A0 Q X hI hnd hnm hl hret => ?_)
  have X : XC p s m args meth c cJ17_newLength 4 RJ17 D jC (jty j.1) A0 Z := X
  have hx := X.1
  have hb := X.2.1
  have hown := X.2.2.2.1
  have hts := X.2.2.2.2.1
  have J21 : ∀ (G : HG), hJ17_newLength_b21 j Λ p0 p1 p2 post G → ∀ (H : Heap) (locs : List Loc), HI D jC G A0 s.heap H locs → ∀ (ls : Array Slot), lv_has ls 4 [(0, .int p0), (1, .int p1)] → W p l e (rhJ17_newLength fr lo) s m args below meth c H locs 0 0 Q (F0 m 21 ls []) := by
    intro G hf H locs hI ls hl
    unfold hJ17_newLength_b21 at hf
    exact hf.elim
  have hl : lv_has ls 4 [(0, .int p0), (1, .int p1), (2, .int p2)] := by exact hl
  unfold hJ17_newLength at hf
  obtain ⟨H, eH⟩ : ∃ H, H = s.heap := ⟨_, rfl⟩
  obtain ⟨locs, eL⟩ : ∃ locs : List Loc, locs = [] := ⟨_, rfl⟩
  have hI : HI D jC G A0 s.heap H locs := by rw [eH, eL]; exact hI
  rw [← eL]
  suffices h : W p l e (rhJ17_newLength fr lo) s m args below meth c H locs 0 0 Q (F0 m 0 ls []) by rw [eH] at h; exact h
  clear eH eL
  refine lv_iload_n hx hb dJ17_newLength_0 rfl (lv_at hl 0 rfl) ?_
  refine lv_iload_n hx hb dJ17_newLength_1 rfl (lv_at hl 1 rfl) ?_
  refine lv_iload_n hx hb dJ17_newLength_2 rfl (lv_at hl 2 rfl) ?_
  refine x_mmax X hl.1 q1442 q546 q173 q547 (by show 1 ≤ fr + 1 ∧ 21 ≤ lo + 40; omega) (Nat.le_of_ble_eq_true rfl) ⟨Nat.le_refl _, Nat.le_refl _⟩ dJ17_newLength_3 ?_
  refine lv_iadd hx hb dJ17_newLength_6 ?_
  obtain ⟨v1, ev1⟩ : ∃ v1, v1 = (p0 + (if p1 < p2 then p2 else p1)) := ⟨_, rfl⟩
  have hf := hf v1 ev1
  rw [← ev1]
  clear ev1
  refine lv_istore_n (lv' := [(3, .int v1), (0, .int p0), (1, .int p1), (2, .int p2)]) hx hb dJ17_newLength_7 rfl hl (by decide) rfl (fun ls hl => ?_)
  refine lv_iconst (v := 0) hx hb dJ17_newLength_8 (by decide) ?_
  refine lv_iload_n hx hb dJ17_newLength_9 rfl (lv_at hl 0 rfl) ?_
  refine lv_icmp_ge (tgt := 21) hx hb dJ17_newLength_10 (by decide) (fun c2 => ?_) (fun c2 => ?_)
  · have hf := hf.1 c2
    exact J21 G hf H locs hI ls (lv_sub hl [1, 2] rfl)
  · have hf := hf.2 c2
    refine lv_iload_n hx hb dJ17_newLength_13 rfl (lv_at hl 0 rfl) ?_
    refine lv_ldc (v := 2147483639) hx hb hown (hts _ q1443) dJ17_newLength_14 ?_
    refine lv_icmp_gt (tgt := 21) hx hb dJ17_newLength_16 (by decide) (fun c3 => ?_) (fun c3 => ?_)
    · have hf := hf.1 c3
      exact J21 G hf H locs hI ls (lv_sub hl [1, 2] rfl)
    · have hf := hf.2 c3
      refine lv_iload_n hx hb dJ17_newLength_19 rfl (lv_at hl 0 rfl) ?_
      exact hret hf hI dJ17_newLength_20 (Nat.le_refl _) (Nat.le_refl _)
/-! java/lang/AbstractStringBuilder.newCapacity(I)I -/
def hJ6_newCapacity (j : JX) (Λ : JLam) (a0 : Nat) (p1 : Int32) (G : HG) (post : Int32 → HG → Prop) : Prop :=
  gtQ G a0 19 0 fun q1 => nnq q1 fun a2 => aln (jty j.1) G a2 fun x3 => gtI G a0 19 1 fun x4 => ∀ v5 : Int32, v5 = ((p1 <<< (x4 &&& 31)) - x3) → gtI G a0 19 1 fun x6 => hJ17_newLength j Λ x3 v5 (x3 + ((2 : Int32) <<< (x6 &&& 31))) G fun x8 G7 => (x8 = (2147483647 : Int32) → (False)) ∧ (¬ x8 = (2147483647 : Int32) → (gtI G7 a0 19 1 fun x10 => post (x8 >>> (x10 &&& 31)) G7))
abbrev rhJ6_newCapacity (fr lo : Nat) : Room := { frames := fr + 2, cells := 0, slots := 0, locals := lo + 63 }
theorem mhJ6_newCapacity (l : Launch) (Z : (Nat → Prop) → State → Heap → Prop) (D : va_G) (j : JX) (Λ : JLam) (fr lo : Nat) (E : JE l Z D j Λ fr lo) (a0 : Nat) (p1 : Int32) (G : HG) (post : Int32 → HG → Prop) (hf : hJ6_newCapacity j Λ a0 p1 G post) : HMi l yJ6_newCapacity (ws_ yJ6_newCapacity cJ6_newCapacity 6 (some .int)) (rhJ6_newCapacity fr lo) D jC (jty j.1) Z G [.ref a0, .int p1] post 0 0 := by
  refine h_openi E.1 (by decide) (by exact Nat.le_of_ble_eq_true rfl) (fun p e s m args below meth c ls A0 Q X hI hnd hnm hl hret => ?_)
  have X : XC p s m args meth c cJ6_newCapacity 6 RJ6 D jC (jty j.1) A0 Z := X
  have hx := X.1
  have hb := X.2.1
  have hown := X.2.2.2.1
  have hts := X.2.2.2.2.1
  have hl : lv_has ls 6 [(0, .ref a0), (1, .int p1)] := by exact hl
  unfold hJ6_newCapacity at hf
  obtain ⟨H, eH⟩ : ∃ H, H = s.heap := ⟨_, rfl⟩
  obtain ⟨locs, eL⟩ : ∃ locs : List Loc, locs = [] := ⟨_, rfl⟩
  have hI : HI D jC G A0 s.heap H locs := by rw [eH, eL]; exact hI
  rw [← eL]
  suffices h : W p l e (rhJ6_newCapacity fr lo) s m args below meth c H locs 0 0 Q (F0 m 0 ls []) by rw [eH] at h; exact h
  clear eH eL
  refine lv_aload_n hx hb dJ6_newCapacity_0 rfl (lv_at hl 0 rfl) ?_
  refine hr_gtQ X hI (rfl : jC.1[19]? = some (RJ7, TJ7, 4)) in_J7 0 (Nat.le_of_ble_eq_true rfl) hf q792 (fun _ h => h) dJ6_newCapacity_1 (fun q1 hf => ?_)
  obtain ⟨a2, ea2, hf⟩ := hf
  revert hl hf
  subst ea2
  intro hl hf
  have hl : lv_has ls 6 [(0, .ref a0), (1, .int p1)] := hl
  refine hr_aln X hI hf dJ6_newCapacity_4 (fun x3 hf => ?_)
  refine lv_istore_n (lv' := [(2, .int x3), (0, .ref a0), (1, .int p1)]) hx hb dJ6_newCapacity_5 rfl hl (by decide) rfl (fun ls hl => ?_)
  refine lv_iload_n hx hb dJ6_newCapacity_6 rfl (lv_at hl 2 rfl) ?_
  refine lv_aload_n hx hb dJ6_newCapacity_7 rfl (lv_at hl 1 rfl) ?_
  refine hr_gtI X hI (rfl : jC.1[19]? = some (RJ7, TJ7, 4)) in_J7 1 (Nat.le_of_ble_eq_true rfl) hf q793 (fun _ h => h) dJ6_newCapacity_8 (fun x4 hf => ?_)
  refine lv_ishl hx hb dJ6_newCapacity_11 ?_
  refine lv_istore_n (lv' := [(3, .int (p1 <<< (x4 &&& 31))), (2, .int x3), (0, .ref a0), (1, .int p1)]) hx hb dJ6_newCapacity_12 rfl hl (by decide) rfl (fun ls hl => ?_)
  refine lv_iload_n hx hb dJ6_newCapacity_13 rfl (lv_at hl 0 rfl) ?_
  refine lv_iload_n hx hb dJ6_newCapacity_14 rfl (lv_at hl 1 rfl) ?_
  refine lv_isub hx hb dJ6_newCapacity_15 ?_
  obtain ⟨v5, ev5⟩ : ∃ v5, v5 = ((p1 <<< (x4 &&& 31)) - x3) := ⟨_, rfl⟩
  have hf := hf v5 ev5
  rw [← ev5]
  clear ev5
  refine lv_istore (lv' := [(4, .int v5), (3, .int (p1 <<< (x4 &&& 31))), (2, .int x3), (0, .ref a0), (1, .int p1)]) hx hb dJ6_newCapacity_16 hl (by decide) rfl (fun ls hl => ?_)
  refine lv_iload_n hx hb dJ6_newCapacity_18 rfl (lv_at hl 2 rfl) ?_
  refine lv_iload hx hb dJ6_newCapacity_19 (lv_at hl 0 rfl) ?_
  refine lv_iload_n hx hb dJ6_newCapacity_21 rfl (lv_at hl 2 rfl) ?_
  refine lv_iconst (v := 2) hx hb dJ6_newCapacity_22 (by decide) ?_
  refine lv_aload_n hx hb dJ6_newCapacity_23 rfl (lv_at hl 3 rfl) ?_
  refine hr_gtI X hI (rfl : jC.1[19]? = some (RJ7, TJ7, 4)) in_J7 1 (Nat.le_of_ble_eq_true rfl) hf q793 (fun _ h => h) dJ6_newCapacity_24 (fun x6 hf => ?_)
  refine lv_ishl hx hb dJ6_newCapacity_27 ?_
  refine lv_iadd hx hb dJ6_newCapacity_28 ?_
  refine h_ki X hI (h_runS (As := [.int x3, .int v5, .int (x3 + ((2 : Int32) <<< (x6 &&& 31)))]) X hI (mhJ17_newLength l Z D j Λ fr lo E x3 v5 (x3 + ((2 : Int32) <<< (x6 &&& 31))) G _ hf H.size) (va_cwS 3 hts (lw_S q1439 q1440 q194 q1441) rfl rfl rfl (by decide +kernel) (by show fr + 1 + 1 ≤ fr + 2 ∧ 8 + (4 + 11) + (lo + 40) ≤ lo + 63; omega)) rfl hl.1 (Nat.le_of_ble_eq_true rfl) dJ6_newCapacity_29 ⟨Nat.le_refl _, Nat.le_refl _⟩ rfl) (fun x8 G7 H locs hf hI => ?_)
  refine lv_istore (lv' := [(5, .int x8), (4, .int v5), (3, .int (p1 <<< (x4 &&& 31))), (2, .int x3), (0, .ref a0), (1, .int p1)]) hx hb dJ6_newCapacity_32 hl (by decide) rfl (fun ls hl => ?_)
  refine lv_iload hx hb dJ6_newCapacity_34 (lv_at hl 0 rfl) ?_
  refine lv_ldc (v := 2147483647) hx hb hown (hts _ q1447) dJ6_newCapacity_36 ?_
  refine lv_icmp_ne (tgt := 51) hx hb dJ6_newCapacity_38 (by decide) (fun c9 => ?_) (fun c9 => ?_)
  · have hf := hf.2 c9
    refine lv_iload hx hb dJ6_newCapacity_51 (lv_at hl 0 rfl) ?_
    refine lv_aload_n hx hb dJ6_newCapacity_53 rfl (lv_at hl 4 rfl) ?_
    refine hr_gtI X hI (rfl : jC.1[19]? = some (RJ7, TJ7, 4)) in_J7 1 (Nat.le_of_ble_eq_true rfl) hf q793 (fun _ h => h) dJ6_newCapacity_54 (fun x10 hf => ?_)
    refine lv_ishr hx hb dJ6_newCapacity_57 ?_
    exact hret hf hI dJ6_newCapacity_58 (Nat.le_refl _) (Nat.le_refl _)
  · have hf := hf.1 c9
    exact hf.elim
/-! java/util/Arrays.copyOf([BI)[B -/
def hJ26_copyOf (j : JX) (Λ : JLam) (q0_ : Option Nat) (p1 : Int32) (mc ms : Nat) (G : HG) (post : Option Nat → HG → Prop) : Prop :=
  nnq q0_ fun a1 => aln (jty j.1) G a1 fun x2 => (p1 = x2 → (clB G a1 (j.1 2) mc ms fun n8 a9 G10 => isA G10 (some a9) (j.1 2) (post (some a9) G10))) ∧ (¬ p1 = x2 → (1 ≤ mc ∧ p1.toNatClampNeg ≤ ms ∧ (¬ p1 < 0 ∧ p1.toNatClampNeg ≤ 65536 ∧ mkO G (.inl (j.1 2, p1.toNatClampNeg, .inl (fun _ => 0))) fun a4 G5 => aln (jty j.1) G5 a1 fun x6 => cpI .byte G5 a1 (j.1 2) (0 : Int32) a4 (0 : Int32) (if p1 < x6 then p1 else x6) fun G7 => post (some a4) G7)))
abbrev rhJ26_copyOf (fr lo mc ms : Nat) : Room := { frames := fr + 1, cells := mc, slots := ms, locals := lo + 40 }
theorem mhJ26_copyOf (l : Launch) (Z : (Nat → Prop) → State → Heap → Prop) (D : va_G) (j : JX) (Λ : JLam) (fr lo : Nat) (E : JE l Z D j Λ fr lo) (q0_ : Option Nat) (p1 : Int32) (mc ms : Nat) (G : HG) (post : Option Nat → HG → Prop) (hf : hJ26_copyOf j Λ q0_ p1 mc ms G post) : HMq l yJ26_copyOf (ws_ yJ26_copyOf cJ26_copyOf 3 (some (.array .byte))) (rhJ26_copyOf fr lo mc ms) D jC (jty j.1) Z G [va_rf q0_, .int p1] post mc ms := by
  obtain ⟨MC, eMC⟩ : ∃ MC, MC = mc := ⟨_, rfl⟩
  obtain ⟨MS, eMS⟩ : ∃ MS, MS = ms := ⟨_, rfl⟩
  suffices goal : HMq l yJ26_copyOf (ws_ yJ26_copyOf cJ26_copyOf 3 (some (.array .byte))) (rhJ26_copyOf fr lo MC MS) D jC (jty j.1) Z G [va_rf q0_, .int p1] post MC MS by rw [eMC, eMS] at goal; exact goal
  have hm0_ : 0 + mc ≤ MC ∧ 0 + ms ≤ MS := by omega
  clear eMC eMS
  refine h_openq (Or.inr ⟨_, rfl⟩) E.1 (by decide) (by cases q0_ <;> exact Nat.le_of_ble_eq_true rfl) (fun p e s m args below meth c ls A0 Q X hI hnd hnm hl hret => ?_)
  have X : XC p s m args meth c cJ26_copyOf 3 RJ26 D jC (jty j.1) A0 Z := X
  have hx := X.1
  have hb := X.2.1
  have hown := X.2.2.2.1
  have hts := X.2.2.2.2.1
  have hl : lv_has ls 3 [(0, va_rf q0_), (1, .int p1)] := by cases q0_ <;> exact hl
  unfold hJ26_copyOf at hf
  obtain ⟨H, eH⟩ : ∃ H, H = s.heap := ⟨_, rfl⟩
  obtain ⟨locs, eL⟩ : ∃ locs : List Loc, locs = [] := ⟨_, rfl⟩
  have hI : HI D jC G A0 s.heap H locs := by rw [eH, eL]; exact hI
  rw [← eL]
  obtain ⟨cells, eC⟩ : ∃ n : Nat, n = 0 := ⟨_, rfl⟩
  obtain ⟨slots, eS⟩ : ∃ n : Nat, n = 0 := ⟨_, rfl⟩
  have hm : cells + mc ≤ MC ∧ slots + ms ≤ MS := by rw [eC, eS]; exact hm0_
  suffices h : W p l e (rhJ26_copyOf fr lo MC MS) s m args below meth c H locs cells slots Q (F0 m 0 ls []) by rw [eH, eC, eS] at h; exact h
  clear eH eL eC eS
  refine lv_iload_n hx hb dJ26_copyOf_0 rfl (lv_at hl 1 rfl) ?_
  refine h_aload_n (o := q0_) hx hb dJ26_copyOf_1 rfl (lv_at hl 0 rfl) ?_
  obtain ⟨a1, ea1, hf⟩ := hf
  revert hl hf
  subst ea1
  intro hl hf
  have hl : lv_has ls 3 [(0, .ref a1), (1, .int p1)] := hl
  refine hr_aln X hI hf dJ26_copyOf_2 (fun x2 hf => ?_)
  refine lv_icmp_ne (tgt := 14) hx hb dJ26_copyOf_3 (by decide) (fun c3 => ?_) (fun c3 => ?_)
  · have hf := hf.2 c3
    refine lv_iload_n hx hb dJ26_copyOf_14 rfl (lv_at hl 1 rfl) ?_
    obtain ⟨hb1, hb2, hf⟩ := hf
    refine hr_newab X hI 2 q317 rfl hf (hmA hm.1 hb1) (hmA hm.2 hb2) dJ26_copyOf_15 (fun a4 G5 H hf hI => ?_)
    have hm := And.intro (hmB hm.1 hb1) (hmB hm.2 hb2)
    clear hb1 hb2
    refine lv_astore_n (lv' := [(2, .ref a4), (0, .ref a1), (1, .int p1)]) hx hb dJ26_copyOf_17 rfl hl (by decide) rfl (fun ls hl => ?_)
    refine lv_aload_n hx hb dJ26_copyOf_18 rfl (lv_at hl 1 rfl) ?_
    refine lv_iconst (v := 0) hx hb dJ26_copyOf_19 (by decide) ?_
    refine lv_aload_n hx hb dJ26_copyOf_20 rfl (lv_at hl 0 rfl) ?_
    refine lv_iconst (v := 0) hx hb dJ26_copyOf_21 (by decide) ?_
    refine lv_aload_n hx hb dJ26_copyOf_22 rfl (lv_at hl 1 rfl) ?_
    refine hr_aln X hI hf dJ26_copyOf_23 (fun x6 hf => ?_)
    refine lv_iload_n hx hb dJ26_copyOf_24 rfl (lv_at hl 2 rfl) ?_
    refine x_mmin X hl.1 q1458 q638 q173 q639 (by show 1 ≤ fr + 1 ∧ 21 ≤ lo + 40; omega) (Nat.le_of_ble_eq_true rfl) ⟨hmC hm.1, hmC hm.2⟩ dJ26_copyOf_25 ?_
    refine hr_cpI E X hI 2 rfl rfl hf q1459 hl.1 (Nat.le_of_ble_eq_true rfl) (by show 1 ≤ fr + 1 ∧ 40 ≤ lo + 40; omega) dJ26_copyOf_28 (fun G7 H locs hf hI => ?_)
    refine lv_aload_n hx hb dJ26_copyOf_31 rfl (lv_at hl 0 rfl) ?_
    exact hret (v := (some a4)) hf hI dJ26_copyOf_32 (hmC hm.1) (hmC hm.2)
  · have hf := hf.1 c3
    refine lv_aload_n hx hb dJ26_copyOf_6 rfl (lv_at hl 0 rfl) ?_
    refine hr_clB E X hI hf q1451 hl.1 (Nat.le_of_ble_eq_true rfl) (by show 1 ≤ fr + 1 ∧ 40 ≤ lo + 40; omega) hm.1 hm.2 q1452 q1453 q1454 q1455 q1456 dJ26_copyOf_7 (fun n8 a9 G10 H hb1 hb2 hf hI => ?_)
    have hm := And.intro (hmB hm.1 hb1) (hmB hm.2 hb2)
    clear hb1 hb2
    refine hr_castP (v := (some a9)) X hI 2 rfl rfl (by decide +kernel) hf q1457 dJ26_copyOf_10 (fun hf => ?_)
    exact hret (v := (some a9)) hf hI dJ26_copyOf_13 (hmC hm.1) (hmC hm.2)
/-! java/lang/AbstractStringBuilder.ensureCapacityInternal(I)V -/
def hJ6_ensureCapacityInternal (j : JX) (Λ : JLam) (a0 : Nat) (p1 : Int32) (mc ms : Nat) (G : HG) (post : HG → Prop) : Prop :=
  gtQ G a0 19 0 fun q1 => nnq q1 fun a2 => aln (jty j.1) G a2 fun x3 => gtI G a0 19 1 fun x4 => ((p1 - (x3 >>> (x4 &&& 31))) ≤ 0 → (post G)) ∧ (¬ (p1 - (x3 >>> (x4 &&& 31))) ≤ 0 → (gtQ G a0 19 0 fun q6 => isO G a0 19 (hJ6_newCapacity j Λ a0 p1 G fun x8 G7 => gtI G7 a0 19 1 fun x9 => ∃ m10 m11 : Nat, m10 ≤ mc ∧ m11 ≤ ms ∧ hJ26_copyOf j Λ q6 (x8 <<< (x9 &&& 31)) m10 m11 G7 fun q13 G12 => ptV G12 a0 19 0 (va_rf q13) fun G14 => post G14)))
abbrev rhJ6_ensureCapacityInternal (fr lo mc ms : Nat) : Room := { frames := fr + 3, cells := mc, slots := ms, locals := lo + 88 }
theorem mhJ6_ensureCapacityInternal (l : Launch) (Z : (Nat → Prop) → State → Heap → Prop) (D : va_G) (j : JX) (Λ : JLam) (fr lo : Nat) (E : JE l Z D j Λ fr lo) (a0 : Nat) (p1 : Int32) (mc ms : Nat) (G : HG) (post : HG → Prop) (hf : hJ6_ensureCapacityInternal j Λ a0 p1 mc ms G post) : HMv l yJ6_ensureCapacityInternal (ws_ yJ6_ensureCapacityInternal cJ6_ensureCapacityInternal 3 none) (rhJ6_ensureCapacityInternal fr lo mc ms) D jC (jty j.1) Z G [.ref a0, .int p1] post mc ms := by
  obtain ⟨MC, eMC⟩ : ∃ MC, MC = mc := ⟨_, rfl⟩
  obtain ⟨MS, eMS⟩ : ∃ MS, MS = ms := ⟨_, rfl⟩
  suffices goal : HMv l yJ6_ensureCapacityInternal (ws_ yJ6_ensureCapacityInternal cJ6_ensureCapacityInternal 3 none) (rhJ6_ensureCapacityInternal fr lo MC MS) D jC (jty j.1) Z G [.ref a0, .int p1] post MC MS by rw [eMC, eMS] at goal; exact goal
  have hm0_ : 0 + mc ≤ MC ∧ 0 + ms ≤ MS := by omega
  clear eMC eMS
  refine h_openv E.1 (by decide) (by exact Nat.le_of_ble_eq_true rfl) (fun p e s m args below meth c ls A0 Q X hI hnd hnm hl hret => ?_)
  have X : XC p s m args meth c cJ6_ensureCapacityInternal 3 RJ6 D jC (jty j.1) A0 Z := X
  have hx := X.1
  have hb := X.2.1
  have hown := X.2.2.2.1
  have hts := X.2.2.2.2.1
  have hl : lv_has ls 3 [(0, .ref a0), (1, .int p1)] := by exact hl
  unfold hJ6_ensureCapacityInternal at hf
  obtain ⟨H, eH⟩ : ∃ H, H = s.heap := ⟨_, rfl⟩
  obtain ⟨locs, eL⟩ : ∃ locs : List Loc, locs = [] := ⟨_, rfl⟩
  have hI : HI D jC G A0 s.heap H locs := by rw [eH, eL]; exact hI
  rw [← eL]
  obtain ⟨cells, eC⟩ : ∃ n : Nat, n = 0 := ⟨_, rfl⟩
  obtain ⟨slots, eS⟩ : ∃ n : Nat, n = 0 := ⟨_, rfl⟩
  have hm : cells + mc ≤ MC ∧ slots + ms ≤ MS := by rw [eC, eS]; exact hm0_
  suffices h : W p l e (rhJ6_ensureCapacityInternal fr lo MC MS) s m args below meth c H locs cells slots Q (F0 m 0 ls []) by rw [eH, eC, eS] at h; exact h
  clear eH eL eC eS
  refine lv_aload_n hx hb dJ6_ensureCapacityInternal_0 rfl (lv_at hl 0 rfl) ?_
  refine hr_gtQ X hI (rfl : jC.1[19]? = some (RJ7, TJ7, 4)) in_J7 0 (Nat.le_of_ble_eq_true rfl) hf q792 (fun _ h => h) dJ6_ensureCapacityInternal_1 (fun q1 hf => ?_)
  obtain ⟨a2, ea2, hf⟩ := hf
  revert hl hf
  subst ea2
  intro hl hf
  have hl : lv_has ls 3 [(0, .ref a0), (1, .int p1)] := hl
  refine hr_aln X hI hf dJ6_ensureCapacityInternal_4 (fun x3 hf => ?_)
  refine lv_aload_n hx hb dJ6_ensureCapacityInternal_5 rfl (lv_at hl 0 rfl) ?_
  refine hr_gtI X hI (rfl : jC.1[19]? = some (RJ7, TJ7, 4)) in_J7 1 (Nat.le_of_ble_eq_true rfl) hf q793 (fun _ h => h) dJ6_ensureCapacityInternal_6 (fun x4 hf => ?_)
  refine lv_ishr hx hb dJ6_ensureCapacityInternal_9 ?_
  refine lv_istore_n (lv' := [(2, .int (x3 >>> (x4 &&& 31))), (0, .ref a0), (1, .int p1)]) hx hb dJ6_ensureCapacityInternal_10 rfl hl (by decide) rfl (fun ls hl => ?_)
  refine lv_iload_n hx hb dJ6_ensureCapacityInternal_11 rfl (lv_at hl 2 rfl) ?_
  refine lv_iload_n hx hb dJ6_ensureCapacityInternal_12 rfl (lv_at hl 0 rfl) ?_
  refine lv_isub hx hb dJ6_ensureCapacityInternal_13 ?_
  refine lv_if_le (tgt := 38) hx hb dJ6_ensureCapacityInternal_14 (by decide) (fun c5 => ?_) (fun c5 => ?_)
  · have hf := hf.1 c5
    exact hret hf hI dJ6_ensureCapacityInternal_38 (hmC hm.1) (hmC hm.2)
  · have hf := hf.2 c5
    refine lv_aload_n hx hb dJ6_ensureCapacityInternal_17 rfl (lv_at hl 1 rfl) ?_
    refine lv_aload_n hx hb dJ6_ensureCapacityInternal_18 rfl (lv_at hl 1 rfl) ?_
    refine hr_gtQ X hI (rfl : jC.1[19]? = some (RJ7, TJ7, 4)) in_J7 0 (Nat.le_of_ble_eq_true rfl) hf q792 (fun _ h => h) dJ6_ensureCapacityInternal_19 (fun q6 hf => ?_)
    refine lv_aload_n hx hb dJ6_ensureCapacityInternal_22 rfl (lv_at hl 1 rfl) ?_
    refine lv_iload_n hx hb dJ6_ensureCapacityInternal_23 rfl (lv_at hl 2 rfl) ?_
    obtain ⟨_, _, hO, hf⟩ := hf
    refine h_ki X hI (h_runU (As := [.int p1]) X hI (h_recv X hI hO (show jC.1[19]? = some (RJ7, TJ7, 4) from rfl)) (mhJ6_newCapacity l Z D j Λ fr lo E a0 p1 G _ hf H.size) (cwP 1 (X.2.2.2.2.2.1.1 19 _ (show jC.1[19]? = some (RJ7, TJ7, 4) from rfl)).2.1 hts q1435 q3503 (E.nw X q1436 rfl) q1437 q182 q1438 rfl rfl (by decide +kernel) (by show fr + 2 + 1 ≤ fr + 3 ∧ 8 + (6 + 11) + (lo + 63) ≤ lo + 88; omega)) rfl hl.1 (by cases q6 <;> exact Nat.le_of_ble_eq_true rfl) dJ6_ensureCapacityInternal_24 ⟨hm0 hm.1, hm0 hm.2⟩ rfl) (fun x8 G7 H locs hf hI => ?_)
    clear hO
    refine lv_aload_n hx hb dJ6_ensureCapacityInternal_27 rfl (lv_at hl 1 rfl) ?_
    refine hr_gtI X hI (rfl : jC.1[19]? = some (RJ7, TJ7, 4)) in_J7 1 (Nat.le_of_ble_eq_true rfl) hf q793 (fun _ h => h) dJ6_ensureCapacityInternal_28 (fun x9 hf => ?_)
    refine lv_ishl hx hb dJ6_ensureCapacityInternal_31 ?_
    obtain ⟨m10, m11, hb1, hb2, hf⟩ := hf
    refine h_kq X hI (h_runS (As := [va_rf q6, .int (x8 <<< (x9 &&& 31))]) X hI (mhJ26_copyOf l Z D j Λ fr lo E q6 (x8 <<< (x9 &&& 31)) m10 m11 G7 _ hf H.size) (va_cwS 2 hts (lw_S q1448 q1449 q204 q1450) rfl rfl rfl (by decide +kernel) (by show fr + 1 + 1 ≤ fr + 3 ∧ 8 + (3 + 11) + (lo + 40) ≤ lo + 88; omega)) rfl hl.1 (Nat.le_of_ble_eq_true rfl) dJ6_ensureCapacityInternal_32 ⟨hmA hm.1 hb1, hmA hm.2 hb2⟩ rfl) (fun q13 G12 H locs hf hI => ?_)
    have hm := And.intro (hmB hm.1 hb1) (hmB hm.2 hb2)
    clear hb1 hb2
    refine hr_pt X hI (rfl : jC.1[19]? = some (RJ7, TJ7, 4)) in_J7 0 (Nat.le_of_ble_eq_true rfl) tyJ7 tyJ7_ok nmJ7 hf q792 (fun _ h => h) rfl (nar_a _ _) (fit_a _ _) dJ6_ensureCapacityInternal_35 (fun G14 H locs hf hI => ?_)
    exact hret hf hI dJ6_ensureCapacityInternal_38 (hmC hm.1) (hmC hm.2)
/-! java/lang/AbstractStringBuilder.isLatin1()Z -/
def hJ6_isLatin1 (j : JX) (Λ : JLam) (a0 : Nat) (G : HG) (post : Int32 → HG → Prop) : Prop :=
  gtI G a0 19 1 fun x2 => (x2 = 0 → (post (1 : Int32) G)) ∧ (¬ x2 = 0 → (post (0 : Int32) G))
abbrev rhJ6_isLatin1 (fr lo : Nat) : Room := { frames := fr + 1, cells := 0, slots := 0, locals := lo + 40 }
theorem mhJ6_isLatin1 (l : Launch) (Z : (Nat → Prop) → State → Heap → Prop) (D : va_G) (j : JX) (Λ : JLam) (fr lo : Nat) (E : JE l Z D j Λ fr lo) (a0 : Nat) (G : HG) (post : Int32 → HG → Prop) (hf : hJ6_isLatin1 j Λ a0 G post) : HMi l yJ6_isLatin1 (ws_ yJ6_isLatin1 cJ6_isLatin1 1 (some .boolean)) (rhJ6_isLatin1 fr lo) D jC (jty j.1) Z G [.ref a0] post 0 0 := by
  refine h_openz E.1 (by decide) (by exact Nat.le_of_ble_eq_true rfl) (fun p e s m args below meth c ls A0 Q X hI hnd hnm hl hret => ?_)
  have X : XC p s m args meth c cJ6_isLatin1 1 RJ6 D jC (jty j.1) A0 Z := X
  have hx := X.1
  have hb := X.2.1
  have hown := X.2.2.2.1
  have hts := X.2.2.2.2.1
  have hl : lv_has ls 1 [(0, .ref a0)] := by exact hl
  unfold hJ6_isLatin1 at hf
  obtain ⟨H, eH⟩ : ∃ H, H = s.heap := ⟨_, rfl⟩
  obtain ⟨locs, eL⟩ : ∃ locs : List Loc, locs = [] := ⟨_, rfl⟩
  have hI : HI D jC G A0 s.heap H locs := by rw [eH, eL]; exact hI
  rw [← eL]
  suffices h : W p l e (rhJ6_isLatin1 fr lo) s m args below meth c H locs 0 0 Q (F0 m 0 ls []) by rw [eH] at h; exact h
  clear eH eL
  refine va_gets (v := .int 1) hx hb ((E.z X).2.1 _ (List.mem_of_getElem? (show jStI[0]? = some _ from rfl))) hI.2 hown (hts _ q778) (fun _ h => h) dJ6_isLatin1_0 ?_
  refine lv_if_eq (tgt := 17) hx hb dJ6_isLatin1_3 (by decide) (fun c1 => absurd c1 (by decide)) (fun c1 => ?_)
  refine lv_aload_n hx hb dJ6_isLatin1_6 rfl (lv_at hl 0 rfl) ?_
  refine hr_gtI X hI (rfl : jC.1[19]? = some (RJ7, TJ7, 4)) in_J7 1 (Nat.le_of_ble_eq_true rfl) hf q793 (fun _ h => h) dJ6_isLatin1_7 (fun x2 hf => ?_)
  refine lv_if_ne (tgt := 17) hx hb dJ6_isLatin1_10 (by decide) (fun c3 => ?_) (fun c3 => ?_)
  · have hf := hf.2 c3
    refine lv_iconst (v := 0) hx hb dJ6_isLatin1_17 (by decide) ?_
    exact hret rfl hf hI dJ6_isLatin1_18 (Nat.le_refl _) (Nat.le_refl _)
  · have hf := hf.1 c3
    refine lv_iconst (v := 1) hx hb dJ6_isLatin1_13 (by decide) ?_
    refine lv_goto (tgt := 18) hx hb dJ6_isLatin1_14 (by decide) ?_
    exact hret rfl hf hI dJ6_isLatin1_18 (Nat.le_refl _) (Nat.le_refl _)
/-! java/lang/AbstractStringBuilder.appendNull()Ljava/lang/AbstractStringBuilder; -/
def hJ6_appendNull_b76 (j : JX) (Λ : JLam) (a0 : Nat) (post : Option Nat → HG → Prop) (lx1 : Int32) (mc ms : Nat) (G : HG) : Prop :=
  ptV G a0 19 3 (.int lx1) fun G15 => post (some a0) G15
def hJ6_appendNull (j : JX) (Λ : JLam) (a0 : Nat) (mc ms : Nat) (G : HG) (post : Option Nat → HG → Prop) : Prop :=
  gtI G a0 19 3 fun x1 => isO G a0 19 (∃ m2 m3 : Nat, m2 ≤ mc ∧ m3 ≤ ms ∧ hJ6_ensureCapacityInternal j Λ a0 (x1 + 4) m2 m3 G fun G4 => gtI G4 a0 19 3 fun x5 => gtQ G4 a0 19 0 fun q6 => isO G4 a0 19 (hJ6_isLatin1 j Λ a0 G4 fun x8 G7 => (x8 = 0 → (False)) ∧ (¬ x8 = 0 → (nnq q6 fun a10 => stI G7 a10 (j.1 2) x5 (vp_nar .byte (110 : Int32)) fun G11 => stI G11 a10 (j.1 2) (x5 + 1) (vp_nar .byte (117 : Int32)) fun G12 => stI G12 a10 (j.1 2) ((x5 + 1) + 1) (vp_nar .byte (108 : Int32)) fun G13 => stI G13 a10 (j.1 2) (((x5 + 1) + 1) + 1) (vp_nar .byte (108 : Int32)) fun G14 => hJ6_appendNull_b76 j Λ a0 post ((((x5 + 1) + 1) + 1) + 1) (mc - m2) (ms - m3) G14))))
abbrev rhJ6_appendNull (fr lo mc ms : Nat) : Room := { frames := fr + 4, cells := mc, slots := ms, locals := lo + 110 }
theorem mhJ6_appendNull (l : Launch) (Z : (Nat → Prop) → State → Heap → Prop) (D : va_G) (j : JX) (Λ : JLam) (fr lo : Nat) (E : JE l Z D j Λ fr lo) (a0 : Nat) (mc ms : Nat) (G : HG) (post : Option Nat → HG → Prop) (hf : hJ6_appendNull j Λ a0 mc ms G post) : HMq l yJ6_appendNull (ws_ yJ6_appendNull cJ6_appendNull 3 (some (.object "java/lang/AbstractStringBuilder"))) (rhJ6_appendNull fr lo mc ms) D jC (jty j.1) Z G [.ref a0] post mc ms := by
  obtain ⟨MC, eMC⟩ : ∃ MC, MC = mc := ⟨_, rfl⟩
  obtain ⟨MS, eMS⟩ : ∃ MS, MS = ms := ⟨_, rfl⟩
  suffices goal : HMq l yJ6_appendNull (ws_ yJ6_appendNull cJ6_appendNull 3 (some (.object "java/lang/AbstractStringBuilder"))) (rhJ6_appendNull fr lo MC MS) D jC (jty j.1) Z G [.ref a0] post MC MS by rw [eMC, eMS] at goal; exact goal
  have hm0_ : 0 + mc ≤ MC ∧ 0 + ms ≤ MS := by omega
  clear eMC eMS
  refine h_openq (Or.inl ⟨_, rfl⟩) E.1 (by decide) (by exact Nat.le_of_ble_eq_true rfl) (fun p e s m args below meth c ls A0 Q X hI hnd hnm hl hret => ?_)
  have X : XC p s m args meth c cJ6_appendNull 3 RJ6 D jC (jty j.1) A0 Z := X
  have hx := X.1
  have hb := X.2.1
  have hown := X.2.2.2.1
  have hts := X.2.2.2.2.1
  have J76 : ∀ (lx1 : Int32) (mc ms : Nat) (G : HG), hJ6_appendNull_b76 j Λ a0 post lx1 mc ms G → ∀ (cells slots : Nat), cells + mc ≤ MC ∧ slots + ms ≤ MS → ∀ (H : Heap) (locs : List Loc), HI D jC G A0 s.heap H locs → ∀ (ls : Array Slot), lv_has ls 3 [(0, .ref a0), (1, .int lx1)] → W p l e (rhJ6_appendNull fr lo MC MS) s m args below meth c H locs cells slots Q (F0 m 76 ls []) := by
    intro lx1 mc ms G hf cells slots hm H locs hI ls hl
    unfold hJ6_appendNull_b76 at hf
    refine lv_aload_n hx hb dJ6_appendNull_76 rfl (lv_at hl 0 rfl) ?_
    refine lv_iload_n hx hb dJ6_appendNull_77 rfl (lv_at hl 1 rfl) ?_
    refine hr_pt X hI (rfl : jC.1[19]? = some (RJ7, TJ7, 4)) in_J7 3 (Nat.le_of_ble_eq_true rfl) tyJ7 tyJ7_ok nmJ7 hf q796 (fun _ h => h) rfl rfl rfl dJ6_appendNull_78 (fun G15 H locs hf hI => ?_)
    refine lv_aload_n hx hb dJ6_appendNull_81 rfl (lv_at hl 0 rfl) ?_
    exact hret (v := (some a0)) hf hI dJ6_appendNull_82 (hmC hm.1) (hmC hm.2)
  have hl : lv_has ls 3 [(0, .ref a0)] := by exact hl
  unfold hJ6_appendNull at hf
  obtain ⟨H, eH⟩ : ∃ H, H = s.heap := ⟨_, rfl⟩
  obtain ⟨locs, eL⟩ : ∃ locs : List Loc, locs = [] := ⟨_, rfl⟩
  have hI : HI D jC G A0 s.heap H locs := by rw [eH, eL]; exact hI
  rw [← eL]
  obtain ⟨cells, eC⟩ : ∃ n : Nat, n = 0 := ⟨_, rfl⟩
  obtain ⟨slots, eS⟩ : ∃ n : Nat, n = 0 := ⟨_, rfl⟩
  have hm : cells + mc ≤ MC ∧ slots + ms ≤ MS := by rw [eC, eS]; exact hm0_
  suffices h : W p l e (rhJ6_appendNull fr lo MC MS) s m args below meth c H locs cells slots Q (F0 m 0 ls []) by rw [eH, eC, eS] at h; exact h
  clear eH eL eC eS
  refine lv_aload_n hx hb dJ6_appendNull_0 rfl (lv_at hl 0 rfl) ?_
  refine lv_aload_n hx hb dJ6_appendNull_1 rfl (lv_at hl 0 rfl) ?_
  refine hr_gtI X hI (rfl : jC.1[19]? = some (RJ7, TJ7, 4)) in_J7 3 (Nat.le_of_ble_eq_true rfl) hf q796 (fun _ h => h) dJ6_appendNull_2 (fun x1 hf => ?_)
  refine lv_iconst (v := 4) hx hb dJ6_appendNull_5 (by decide) ?_
  refine lv_iadd hx hb dJ6_appendNull_6 ?_
  obtain ⟨_, _, hO, hf⟩ := hf
  obtain ⟨m2, m3, hb1, hb2, hf⟩ := hf
  refine h_kv X hI (h_runU (As := [.int (x1 + 4)]) X hI (h_recv X hI hO (show jC.1[19]? = some (RJ7, TJ7, 4) from rfl)) (mhJ6_ensureCapacityInternal l Z D j Λ fr lo E a0 (x1 + 4) m2 m3 G _ hf H.size) (cwP 1 (X.2.2.2.2.2.1.1 19 _ (show jC.1[19]? = some (RJ7, TJ7, 4) from rfl)).2.1 hts q1431 q3502 (E.nw X q1432 rfl) q1433 q182 q1434 rfl rfl (by decide +kernel) (by show fr + 3 + 1 ≤ fr + 4 ∧ 8 + (3 + 11) + (lo + 88) ≤ lo + 110; omega)) rfl hl.1 (Nat.le_of_ble_eq_true rfl) dJ6_appendNull_7 ⟨hmA hm.1 hb1, hmA hm.2 hb2⟩ rfl) (fun G4 H locs hf hI => ?_)
  have hm := And.intro (hmB hm.1 hb1) (hmB hm.2 hb2)
  clear hb1 hb2
  clear hO
  refine lv_aload_n hx hb dJ6_appendNull_10 rfl (lv_at hl 0 rfl) ?_
  refine hr_gtI X hI (rfl : jC.1[19]? = some (RJ7, TJ7, 4)) in_J7 3 (Nat.le_of_ble_eq_true rfl) hf q796 (fun _ h => h) dJ6_appendNull_11 (fun x5 hf => ?_)
  refine lv_istore_n (lv' := [(1, .int x5), (0, .ref a0)]) hx hb dJ6_appendNull_14 rfl hl (by decide) rfl (fun ls hl => ?_)
  refine lv_aload_n hx hb dJ6_appendNull_15 rfl (lv_at hl 1 rfl) ?_
  refine hr_gtQ X hI (rfl : jC.1[19]? = some (RJ7, TJ7, 4)) in_J7 0 (Nat.le_of_ble_eq_true rfl) hf q792 (fun _ h => h) dJ6_appendNull_16 (fun q6 hf => ?_)
  refine h_astore_n (o := q6) (lv' := [(2, va_rf q6), (1, .int x5), (0, .ref a0)]) hx hb dJ6_appendNull_19 rfl hl (by decide) rfl (fun ls hl => ?_)
  refine lv_aload_n hx hb dJ6_appendNull_20 rfl (lv_at hl 2 rfl) ?_
  obtain ⟨_, _, hO, hf⟩ := hf
  refine h_ki X hI (h_runU (As := []) X hI (h_recv X hI hO (show jC.1[19]? = some (RJ7, TJ7, 4) from rfl)) (mhJ6_isLatin1 l Z D j Λ fr lo E a0 G4 _ hf H.size) (cwU (owner := "java/lang/AbstractStringBuilder") 0 hts q1229 q1231 q1232 q1230 q182 q1233 rfl rfl rfl (by decide +kernel) (by show fr + 1 + 1 ≤ fr + 4 ∧ 8 + (1 + 11) + (lo + 40) ≤ lo + 110; omega)) rfl hl.1 (Nat.le_of_ble_eq_true rfl) dJ6_appendNull_21 ⟨hm0 hm.1, hm0 hm.2⟩ rfl) (fun x8 G7 H locs hf hI => ?_)
  clear hO
  refine lv_if_eq (tgt := 62) hx hb dJ6_appendNull_24 (by decide) (fun c9 => ?_) (fun c9 => ?_)
  · have hf := hf.1 c9
    exact hf.elim
  · have hf := hf.2 c9
    refine h_aload_n (o := q6) hx hb dJ6_appendNull_27 rfl (lv_at hl 0 rfl) ?_
    refine lv_iload_n hx hb dJ6_appendNull_28 rfl (lv_at hl 1 rfl) ?_
    refine lv_iinc (v := x5 + 1) (lv' := [(1, .int (x5 + 1)), (2, va_rf q6), (0, .ref a0)]) hx hb dJ6_appendNull_29 hl (k := 1) rfl rfl (by decide) rfl (fun ls hl => ?_)
    refine lv_bipush (v := 110) hx hb dJ6_appendNull_32 (by decide) ?_
    obtain ⟨a10, ea10, hf⟩ := hf
    revert hl hf
    subst ea10
    intro hl hf
    have hl : lv_has ls 3 [(1, .int (x5 + 1)), (2, .ref a10), (0, .ref a0)] := hl
    refine hr_bst X hI 2 rfl hf dJ6_appendNull_34 (fun G11 H locs hf hI => ?_)
    refine lv_aload_n hx hb dJ6_appendNull_35 rfl (lv_at hl 1 rfl) ?_
    refine lv_iload_n hx hb dJ6_appendNull_36 rfl (lv_at hl 0 rfl) ?_
    refine lv_iinc (v := (x5 + 1) + 1) (lv' := [(1, .int ((x5 + 1) + 1)), (2, .ref a10), (0, .ref a0)]) hx hb dJ6_appendNull_37 hl (k := 0) rfl rfl (by decide) rfl (fun ls hl => ?_)
    refine lv_bipush (v := 117) hx hb dJ6_appendNull_40 (by decide) ?_
    refine hr_bst X hI 2 rfl hf dJ6_appendNull_42 (fun G12 H locs hf hI => ?_)
    refine lv_aload_n hx hb dJ6_appendNull_43 rfl (lv_at hl 1 rfl) ?_
    refine lv_iload_n hx hb dJ6_appendNull_44 rfl (lv_at hl 0 rfl) ?_
    refine lv_iinc (v := ((x5 + 1) + 1) + 1) (lv' := [(1, .int (((x5 + 1) + 1) + 1)), (2, .ref a10), (0, .ref a0)]) hx hb dJ6_appendNull_45 hl (k := 0) rfl rfl (by decide) rfl (fun ls hl => ?_)
    refine lv_bipush (v := 108) hx hb dJ6_appendNull_48 (by decide) ?_
    refine hr_bst X hI 2 rfl hf dJ6_appendNull_50 (fun G13 H locs hf hI => ?_)
    refine lv_aload_n hx hb dJ6_appendNull_51 rfl (lv_at hl 1 rfl) ?_
    refine lv_iload_n hx hb dJ6_appendNull_52 rfl (lv_at hl 0 rfl) ?_
    refine lv_iinc (v := (((x5 + 1) + 1) + 1) + 1) (lv' := [(1, .int ((((x5 + 1) + 1) + 1) + 1)), (2, .ref a10), (0, .ref a0)]) hx hb dJ6_appendNull_53 hl (k := 0) rfl rfl (by decide) rfl (fun ls hl => ?_)
    refine lv_bipush (v := 108) hx hb dJ6_appendNull_56 (by decide) ?_
    refine hr_bst X hI 2 rfl hf dJ6_appendNull_58 (fun G14 H locs hf hI => ?_)
    refine lv_goto (tgt := 76) hx hb dJ6_appendNull_59 (by decide) ?_
    exact J76 ((((x5 + 1) + 1) + 1) + 1) (mc - m2) (ms - m3) G14 hf _ _ hm H locs hI ls (lv_sub hl [2, 0] rfl)
/-! java/lang/String.coder()B -/
def hJ8_coder (j : JX) (Λ : JLam) (a0 : Nat) (G : HG) (post : Int32 → HG → Prop) : Prop :=
  gtI G a0 20 1 fun x2 => narrow .byte (.int x2) = .int x2 ∧ post x2 G
abbrev rhJ8_coder (fr lo : Nat) : Room := { frames := fr + 1, cells := 0, slots := 0, locals := lo + 40 }
theorem mhJ8_coder (l : Launch) (Z : (Nat → Prop) → State → Heap → Prop) (D : va_G) (j : JX) (Λ : JLam) (fr lo : Nat) (E : JE l Z D j Λ fr lo) (a0 : Nat) (G : HG) (post : Int32 → HG → Prop) (hf : hJ8_coder j Λ a0 G post) : HMi l yJ8_coder (ws_ yJ8_coder cJ8_coder 1 (some .byte)) (rhJ8_coder fr lo) D jC (jty j.1) Z G [.ref a0] post 0 0 := by
  refine h_openz E.1 (by decide) (by exact Nat.le_of_ble_eq_true rfl) (fun p e s m args below meth c ls A0 Q X hI hnd hnm hl hret => ?_)
  have X : XC p s m args meth c cJ8_coder 1 RJ8 D jC (jty j.1) A0 Z := X
  have hx := X.1
  have hb := X.2.1
  have hown := X.2.2.2.1
  have hts := X.2.2.2.2.1
  have hl : lv_has ls 1 [(0, .ref a0)] := by exact hl
  unfold hJ8_coder at hf
  obtain ⟨H, eH⟩ : ∃ H, H = s.heap := ⟨_, rfl⟩
  obtain ⟨locs, eL⟩ : ∃ locs : List Loc, locs = [] := ⟨_, rfl⟩
  have hI : HI D jC G A0 s.heap H locs := by rw [eH, eL]; exact hI
  rw [← eL]
  suffices h : W p l e (rhJ8_coder fr lo) s m args below meth c H locs 0 0 Q (F0 m 0 ls []) by rw [eH] at h; exact h
  clear eH eL
  refine va_gets (v := .int 1) hx hb ((E.z X).2.1 _ (List.mem_of_getElem? (show jStI[0]? = some _ from rfl))) hI.2 hown (hts _ q881) (fun _ h => h) dJ8_coder_0 ?_
  refine lv_if_eq (tgt := 13) hx hb dJ8_coder_3 (by decide) (fun c1 => absurd c1 (by decide)) (fun c1 => ?_)
  refine lv_aload_n hx hb dJ8_coder_6 rfl (lv_at hl 0 rfl) ?_
  refine hr_gtI X hI (rfl : jC.1[20]? = some (RJ8, TJ8, 4)) in_J8 1 (Nat.le_of_ble_eq_true rfl) hf q1581 (fun _ h => h) dJ8_coder_7 (fun x2 hf => ?_)
  refine lv_goto (tgt := 14) hx hb dJ8_coder_10 (by decide) ?_
  obtain ⟨hz, hf⟩ := hf
  exact hret hz hf hI dJ8_coder_14 (Nat.le_refl _) (Nat.le_refl _)
/-! java/lang/String.length()I -/
def hJ8_length (j : JX) (Λ : JLam) (a0 : Nat) (G : HG) (post : Int32 → HG → Prop) : Prop :=
  gtQ G a0 20 0 fun q1 => nnq q1 fun a2 => aln (jty j.1) G a2 fun x3 => isO G a0 20 (hJ8_coder j Λ a0 G fun x5 G4 => post (x3 >>> (x5 &&& 31)) G4)
abbrev rhJ8_length (fr lo : Nat) : Room := { frames := fr + 2, cells := 0, slots := 0, locals := lo + 60 }
theorem mhJ8_length (l : Launch) (Z : (Nat → Prop) → State → Heap → Prop) (D : va_G) (j : JX) (Λ : JLam) (fr lo : Nat) (E : JE l Z D j Λ fr lo) (a0 : Nat) (G : HG) (post : Int32 → HG → Prop) (hf : hJ8_length j Λ a0 G post) : HMi l yJ8_length (ws_ yJ8_length cJ8_length 1 (some .int)) (rhJ8_length fr lo) D jC (jty j.1) Z G [.ref a0] post 0 0 := by
  refine h_openi E.1 (by decide) (by exact Nat.le_of_ble_eq_true rfl) (fun p e s m args below meth c ls A0 Q X hI hnd hnm hl hret => ?_)
  have X : XC p s m args meth c cJ8_length 1 RJ8 D jC (jty j.1) A0 Z := X
  have hx := X.1
  have hb := X.2.1
  have hown := X.2.2.2.1
  have hts := X.2.2.2.2.1
  have hl : lv_has ls 1 [(0, .ref a0)] := by exact hl
  unfold hJ8_length at hf
  obtain ⟨H, eH⟩ : ∃ H, H = s.heap := ⟨_, rfl⟩
  obtain ⟨locs, eL⟩ : ∃ locs : List Loc, locs = [] := ⟨_, rfl⟩
  have hI : HI D jC G A0 s.heap H locs := by rw [eH, eL]; exact hI
  rw [← eL]
  suffices h : W p l e (rhJ8_length fr lo) s m args below meth c H locs 0 0 Q (F0 m 0 ls []) by rw [eH] at h; exact h
  clear eH eL
  refine lv_aload_n hx hb dJ8_length_0 rfl (lv_at hl 0 rfl) ?_
  refine hr_gtQ X hI (rfl : jC.1[20]? = some (RJ8, TJ8, 4)) in_J8 0 (Nat.le_of_ble_eq_true rfl) hf q1580 (fun _ h => h) dJ8_length_1 (fun q1 hf => ?_)
  obtain ⟨a2, ea2, hf⟩ := hf
  revert hl hf
  subst ea2
  intro hl hf
  have hl : lv_has ls 1 [(0, .ref a0)] := hl
  refine hr_aln X hI hf dJ8_length_4 (fun x3 hf => ?_)
  refine lv_aload_n hx hb dJ8_length_5 rfl (lv_at hl 0 rfl) ?_
  obtain ⟨_, _, hO, hf⟩ := hf
  refine h_ki X hI (h_runV (As := []) X hI (h_recv X hI hO (show jC.1[20]? = some (RJ8, TJ8, 4) from rfl)) (mhJ8_coder l Z D j Λ fr lo E a0 G _ hf H.size) (cwV 0 hts (lw_V q1075 q1076 q1077 q184 q1078) rfl rfl rfl (by decide +kernel) (by show fr + 1 + 1 ≤ fr + 2 ∧ 8 + (1 + 11) + (lo + 40) ≤ lo + 60; omega)) rfl hl.1 (Nat.le_of_ble_eq_true rfl) dJ8_length_6 ⟨Nat.le_refl _, Nat.le_refl _⟩ rfl) (fun x5 G4 H locs hf hI => ?_)
  clear hO
  refine lv_ishr hx hb dJ8_length_9 ?_
  exact hret hf hI dJ8_length_10 (Nat.le_refl _) (Nat.le_refl _)
/-! java/lang/AbstractStringBuilder.inflate()V -/
def hJ6_inflate (j : JX) (Λ : JLam) (a0 : Nat) (G : HG) (post : HG → Prop) : Prop :=
  isO G a0 19 (hJ6_isLatin1 j Λ a0 G fun x2 G1 => (x2 = 0 → (post G1)) ∧ (¬ x2 = 0 → (False)))
abbrev rhJ6_inflate (fr lo : Nat) : Room := { frames := fr + 2, cells := 0, slots := 0, locals := lo + 60 }
theorem mhJ6_inflate (l : Launch) (Z : (Nat → Prop) → State → Heap → Prop) (D : va_G) (j : JX) (Λ : JLam) (fr lo : Nat) (E : JE l Z D j Λ fr lo) (a0 : Nat) (G : HG) (post : HG → Prop) (hf : hJ6_inflate j Λ a0 G post) : HMv l yJ6_inflate (ws_ yJ6_inflate cJ6_inflate 2 none) (rhJ6_inflate fr lo) D jC (jty j.1) Z G [.ref a0] post 0 0 := by
  refine h_openv E.1 (by decide) (by exact Nat.le_of_ble_eq_true rfl) (fun p e s m args below meth c ls A0 Q X hI hnd hnm hl hret => ?_)
  have X : XC p s m args meth c cJ6_inflate 2 RJ6 D jC (jty j.1) A0 Z := X
  have hx := X.1
  have hb := X.2.1
  have hown := X.2.2.2.1
  have hts := X.2.2.2.2.1
  have hl : lv_has ls 2 [(0, .ref a0)] := by exact hl
  unfold hJ6_inflate at hf
  obtain ⟨H, eH⟩ : ∃ H, H = s.heap := ⟨_, rfl⟩
  obtain ⟨locs, eL⟩ : ∃ locs : List Loc, locs = [] := ⟨_, rfl⟩
  have hI : HI D jC G A0 s.heap H locs := by rw [eH, eL]; exact hI
  rw [← eL]
  suffices h : W p l e (rhJ6_inflate fr lo) s m args below meth c H locs 0 0 Q (F0 m 0 ls []) by rw [eH] at h; exact h
  clear eH eL
  refine lv_aload_n hx hb dJ6_inflate_0 rfl (lv_at hl 0 rfl) ?_
  obtain ⟨_, _, hO, hf⟩ := hf
  refine h_ki X hI (h_runU (As := []) X hI (h_recv X hI hO (show jC.1[19]? = some (RJ7, TJ7, 4) from rfl)) (mhJ6_isLatin1 l Z D j Λ fr lo E a0 G _ hf H.size) (cwU (owner := "java/lang/AbstractStringBuilder") 0 hts q1229 q1231 q1232 q1230 q182 q1233 rfl rfl rfl (by decide +kernel) (by show fr + 1 + 1 ≤ fr + 2 ∧ 8 + (1 + 11) + (lo + 40) ≤ lo + 60; omega)) rfl hl.1 (Nat.le_of_ble_eq_true rfl) dJ6_inflate_1 ⟨Nat.le_refl _, Nat.le_refl _⟩ rfl) (fun x2 G1 H locs hf hI => ?_)
  clear hO
  refine lv_if_ne (tgt := 8) hx hb dJ6_inflate_4 (by decide) (fun c3 => ?_) (fun c3 => ?_)
  · have hf := hf.2 c3
    exact hf.elim
  · have hf := hf.1 c3
    exact hret hf hI dJ6_inflate_7 (Nat.le_refl _) (Nat.le_refl _)
/-! java/lang/AbstractStringBuilder.inflateIfNeededFor(Ljava/lang/String;)V -/
def hJ6_inflateIfNeededFor (j : JX) (Λ : JLam) (a0 : Nat) (q1_ : Option Nat) (G : HG) (post : HG → Prop) : Prop :=
  gtI G a0 19 1 fun x2 => nnq q1_ fun a3 => isO G a3 20 (hJ8_coder j Λ a3 G fun x5 G4 => (x2 = x5 → (post G4)) ∧ (¬ x2 = x5 → (False)))
abbrev rhJ6_inflateIfNeededFor (fr lo : Nat) : Room := { frames := fr + 2, cells := 0, slots := 0, locals := lo + 60 }
theorem mhJ6_inflateIfNeededFor (l : Launch) (Z : (Nat → Prop) → State → Heap → Prop) (D : va_G) (j : JX) (Λ : JLam) (fr lo : Nat) (E : JE l Z D j Λ fr lo) (a0 : Nat) (q1_ : Option Nat) (G : HG) (post : HG → Prop) (hf : hJ6_inflateIfNeededFor j Λ a0 q1_ G post) : HMv l yJ6_inflateIfNeededFor (ws_ yJ6_inflateIfNeededFor cJ6_inflateIfNeededFor 2 none) (rhJ6_inflateIfNeededFor fr lo) D jC (jty j.1) Z G [.ref a0, va_rf q1_] post 0 0 := by
  refine h_openv E.1 (by decide) (by cases q1_ <;> exact Nat.le_of_ble_eq_true rfl) (fun p e s m args below meth c ls A0 Q X hI hnd hnm hl hret => ?_)
  have X : XC p s m args meth c cJ6_inflateIfNeededFor 2 RJ6 D jC (jty j.1) A0 Z := X
  have hx := X.1
  have hb := X.2.1
  have hown := X.2.2.2.1
  have hts := X.2.2.2.2.1
  have hl : lv_has ls 2 [(0, .ref a0), (1, va_rf q1_)] := by cases q1_ <;> exact hl
  unfold hJ6_inflateIfNeededFor at hf
  obtain ⟨H, eH⟩ : ∃ H, H = s.heap := ⟨_, rfl⟩
  obtain ⟨locs, eL⟩ : ∃ locs : List Loc, locs = [] := ⟨_, rfl⟩
  have hI : HI D jC G A0 s.heap H locs := by rw [eH, eL]; exact hI
  rw [← eL]
  suffices h : W p l e (rhJ6_inflateIfNeededFor fr lo) s m args below meth c H locs 0 0 Q (F0 m 0 ls []) by rw [eH] at h; exact h
  clear eH eL
  refine va_gets (v := .int 1) hx hb ((E.z X).2.1 _ (List.mem_of_getElem? (show jStI[0]? = some _ from rfl))) hI.2 hown (hts _ q778) (fun _ h => h) dJ6_inflateIfNeededFor_0 ?_
  refine lv_if_eq (tgt := 21) hx hb dJ6_inflateIfNeededFor_3 (by decide) (fun c1 => absurd c1 (by decide)) (fun c1 => ?_)
  refine lv_aload_n hx hb dJ6_inflateIfNeededFor_6 rfl (lv_at hl 0 rfl) ?_
  refine hr_gtI X hI (rfl : jC.1[19]? = some (RJ7, TJ7, 4)) in_J7 1 (Nat.le_of_ble_eq_true rfl) hf q793 (fun _ h => h) dJ6_inflateIfNeededFor_7 (fun x2 hf => ?_)
  refine h_aload_n (o := q1_) hx hb dJ6_inflateIfNeededFor_10 rfl (lv_at hl 1 rfl) ?_
  obtain ⟨a3, ea3, hf⟩ := hf
  revert hl hf
  subst ea3
  intro hl hf
  have hl : lv_has ls 2 [(0, .ref a0), (1, .ref a3)] := hl
  obtain ⟨_, _, hO, hf⟩ := hf
  refine h_ki X hI (h_runV (As := []) X hI (h_recv X hI hO (show jC.1[20]? = some (RJ8, TJ8, 4) from rfl)) (mhJ8_coder l Z D j Λ fr lo E a3 G _ hf H.size) (cwV 0 hts (lw_V q1484 q1076 q1077 q184 q1078) rfl rfl rfl (by decide +kernel) (by show fr + 1 + 1 ≤ fr + 2 ∧ 8 + (1 + 11) + (lo + 40) ≤ lo + 60; omega)) rfl hl.1 (Nat.le_of_ble_eq_true rfl) dJ6_inflateIfNeededFor_11 ⟨Nat.le_refl _, Nat.le_refl _⟩ rfl) (fun x5 G4 H locs hf hI => ?_)
  clear hO
  refine lv_icmp_eq (tgt := 21) hx hb dJ6_inflateIfNeededFor_14 (by decide) (fun c6 => ?_) (fun c6 => ?_)
  · have hf := hf.1 c6
    exact hret hf hI dJ6_inflateIfNeededFor_21 (Nat.le_refl _) (Nat.le_refl _)
  · have hf := hf.2 c6
    exact hf.elim
/-! java/lang/String.getBytes([BIB)V -/
def hJ8_getBytes (j : JX) (Λ : JLam) (a0 : Nat) (q1_ : Option Nat) (p2 : Int32) (p3 : Int32) (G : HG) (post : HG → Prop) : Prop :=
  isO G a0 20 (hJ8_coder j Λ a0 G fun x2 G1 => (x2 = p3 → (gtQ G1 a0 20 0 fun q8 => gtQ G1 a0 20 0 fun q9 => nnq q9 fun a10 => aln (jty j.1) G1 a10 fun x11 => nnq q8 fun a12 => nnq q1_ fun a13 => cpI .byte G1 a12 (j.1 2) (0 : Int32) a13 (p2 <<< (p3 &&& 31)) x11 fun G14 => post G14)) ∧ (¬ x2 = p3 → (False)))
abbrev rhJ8_getBytes (fr lo : Nat) : Room := { frames := fr + 2, cells := 0, slots := 0, locals := lo + 60 }
theorem mhJ8_getBytes (l : Launch) (Z : (Nat → Prop) → State → Heap → Prop) (D : va_G) (j : JX) (Λ : JLam) (fr lo : Nat) (E : JE l Z D j Λ fr lo) (a0 : Nat) (q1_ : Option Nat) (p2 : Int32) (p3 : Int32) (G : HG) (post : HG → Prop) (hf : hJ8_getBytes j Λ a0 q1_ p2 p3 G post) : HMv l yJ8_getBytes (ws_ yJ8_getBytes cJ8_getBytes 4 none) (rhJ8_getBytes fr lo) D jC (jty j.1) Z G [.ref a0, va_rf q1_, .int p2, .int p3] post 0 0 := by
  refine h_openv E.1 (by decide) (by cases q1_ <;> exact Nat.le_of_ble_eq_true rfl) (fun p e s m args below meth c ls A0 Q X hI hnd hnm hl hret => ?_)
  have X : XC p s m args meth c cJ8_getBytes 4 RJ8 D jC (jty j.1) A0 Z := X
  have hx := X.1
  have hb := X.2.1
  have hown := X.2.2.2.1
  have hts := X.2.2.2.2.1
  have hl : lv_has ls 4 [(0, .ref a0), (1, va_rf q1_), (2, .int p2), (3, .int p3)] := by cases q1_ <;> exact hl
  unfold hJ8_getBytes at hf
  obtain ⟨H, eH⟩ : ∃ H, H = s.heap := ⟨_, rfl⟩
  obtain ⟨locs, eL⟩ : ∃ locs : List Loc, locs = [] := ⟨_, rfl⟩
  have hI : HI D jC G A0 s.heap H locs := by rw [eH, eL]; exact hI
  rw [← eL]
  suffices h : W p l e (rhJ8_getBytes fr lo) s m args below meth c H locs 0 0 Q (F0 m 0 ls []) by rw [eH] at h; exact h
  clear eH eL
  refine lv_aload_n hx hb dJ8_getBytes_0 rfl (lv_at hl 0 rfl) ?_
  obtain ⟨_, _, hO, hf⟩ := hf
  refine h_ki X hI (h_runV (As := []) X hI (h_recv X hI hO (show jC.1[20]? = some (RJ8, TJ8, 4) from rfl)) (mhJ8_coder l Z D j Λ fr lo E a0 G _ hf H.size) (cwV 0 hts (lw_V q1075 q1076 q1077 q184 q1078) rfl rfl rfl (by decide +kernel) (by show fr + 1 + 1 ≤ fr + 2 ∧ 8 + (1 + 11) + (lo + 40) ≤ lo + 60; omega)) rfl hl.1 (Nat.le_of_ble_eq_true rfl) dJ8_getBytes_1 ⟨Nat.le_refl _, Nat.le_refl _⟩ rfl) (fun x2 G1 H locs hf hI => ?_)
  clear hO
  refine lv_iload_n hx hb dJ8_getBytes_4 rfl (lv_at hl 3 rfl) ?_
  refine lv_icmp_ne (tgt := 28) hx hb dJ8_getBytes_5 (by decide) (fun c3 => ?_) (fun c3 => ?_)
  · have hf := hf.2 c3
    exact hf.elim
  · have hf := hf.1 c3
    refine lv_aload_n hx hb dJ8_getBytes_8 rfl (lv_at hl 0 rfl) ?_
    refine hr_gtQ X hI (rfl : jC.1[20]? = some (RJ8, TJ8, 4)) in_J8 0 (Nat.le_of_ble_eq_true rfl) hf q1580 (fun _ h => h) dJ8_getBytes_9 (fun q8 hf => ?_)
    refine lv_iconst (v := 0) hx hb dJ8_getBytes_12 (by decide) ?_
    refine h_aload_n (o := q1_) hx hb dJ8_getBytes_13 rfl (lv_at hl 1 rfl) ?_
    refine lv_iload_n hx hb dJ8_getBytes_14 rfl (lv_at hl 2 rfl) ?_
    refine lv_iload_n hx hb dJ8_getBytes_15 rfl (lv_at hl 3 rfl) ?_
    refine lv_ishl hx hb dJ8_getBytes_16 ?_
    refine lv_aload_n hx hb dJ8_getBytes_17 rfl (lv_at hl 0 rfl) ?_
    refine hr_gtQ X hI (rfl : jC.1[20]? = some (RJ8, TJ8, 4)) in_J8 0 (Nat.le_of_ble_eq_true rfl) hf q1580 (fun _ h => h) dJ8_getBytes_18 (fun q9 hf => ?_)
    obtain ⟨a10, ea10, hf⟩ := hf
    revert hl hf
    subst ea10
    intro hl hf
    have hl : lv_has ls 4 [(0, .ref a0), (1, va_rf q1_), (2, .int p2), (3, .int p3)] := hl
    refine hr_aln X hI hf dJ8_getBytes_21 (fun x11 hf => ?_)
    obtain ⟨a12, ea12, hf⟩ := hf
    revert hl hf
    subst ea12
    intro hl hf
    have hl : lv_has ls 4 [(0, .ref a0), (1, va_rf q1_), (2, .int p2), (3, .int p3)] := hl
    obtain ⟨a13, ea13, hf⟩ := hf
    revert hl hf
    subst ea13
    intro hl hf
    have hl : lv_has ls 4 [(0, .ref a0), (1, .ref a13), (2, .int p2), (3, .int p3)] := hl
    refine hr_cpI E X hI 2 rfl rfl hf q1508 hl.1 (Nat.le_of_ble_eq_true rfl) (by show 1 ≤ fr + 2 ∧ 40 ≤ lo + 60; omega) dJ8_getBytes_22 (fun G14 H locs hf hI => ?_)
    refine lv_goto (tgt := 43) hx hb dJ8_getBytes_25 (by decide) ?_
    exact hret hf hI dJ8_getBytes_43 (Nat.le_refl _) (Nat.le_refl _)
/-! java/lang/AbstractStringBuilder.putStringAt(ILjava/lang/String;)V -/
def hJ6_putStringAt (j : JX) (Λ : JLam) (a0 : Nat) (p1 : Int32) (q2_ : Option Nat) (G : HG) (post : HG → Prop) : Prop :=
  isO G a0 19 (hJ6_inflateIfNeededFor j Λ a0 q2_ G fun G1 => gtQ G1 a0 19 0 fun q2 => gtI G1 a0 19 1 fun x3 => nnq q2_ fun a4 => isO G1 a4 20 (hJ8_getBytes j Λ a4 q2 p1 x3 G1 fun G5 => post G5))
abbrev rhJ6_putStringAt (fr lo : Nat) : Room := { frames := fr + 3, cells := 0, slots := 0, locals := lo + 83 }
theorem mhJ6_putStringAt (l : Launch) (Z : (Nat → Prop) → State → Heap → Prop) (D : va_G) (j : JX) (Λ : JLam) (fr lo : Nat) (E : JE l Z D j Λ fr lo) (a0 : Nat) (p1 : Int32) (q2_ : Option Nat) (G : HG) (post : HG → Prop) (hf : hJ6_putStringAt j Λ a0 p1 q2_ G post) : HMv l yJ6_putStringAt (ws_ yJ6_putStringAt cJ6_putStringAt 3 none) (rhJ6_putStringAt fr lo) D jC (jty j.1) Z G [.ref a0, .int p1, va_rf q2_] post 0 0 := by
  refine h_openv E.1 (by decide) (by cases q2_ <;> exact Nat.le_of_ble_eq_true rfl) (fun p e s m args below meth c ls A0 Q X hI hnd hnm hl hret => ?_)
  have X : XC p s m args meth c cJ6_putStringAt 3 RJ6 D jC (jty j.1) A0 Z := X
  have hx := X.1
  have hb := X.2.1
  have hown := X.2.2.2.1
  have hts := X.2.2.2.2.1
  have hl : lv_has ls 3 [(0, .ref a0), (1, .int p1), (2, va_rf q2_)] := by cases q2_ <;> exact hl
  unfold hJ6_putStringAt at hf
  obtain ⟨H, eH⟩ : ∃ H, H = s.heap := ⟨_, rfl⟩
  obtain ⟨locs, eL⟩ : ∃ locs : List Loc, locs = [] := ⟨_, rfl⟩
  have hI : HI D jC G A0 s.heap H locs := by rw [eH, eL]; exact hI
  rw [← eL]
  suffices h : W p l e (rhJ6_putStringAt fr lo) s m args below meth c H locs 0 0 Q (F0 m 0 ls []) by rw [eH] at h; exact h
  clear eH eL
  refine lv_aload_n hx hb dJ6_putStringAt_0 rfl (lv_at hl 0 rfl) ?_
  refine h_aload_n (o := q2_) hx hb dJ6_putStringAt_1 rfl (lv_at hl 2 rfl) ?_
  obtain ⟨_, _, hO, hf⟩ := hf
  refine h_kv X hI (h_runU (As := [va_rf q2_]) X hI (h_recv X hI hO (show jC.1[19]? = some (RJ7, TJ7, 4) from rfl)) (mhJ6_inflateIfNeededFor l Z D j Λ fr lo E a0 q2_ G _ hf H.size) (cwP 1 (X.2.2.2.2.2.1.1 19 _ (show jC.1[19]? = some (RJ7, TJ7, 4) from rfl)).2.1 hts q1480 q3505 (E.nw X q1481 rfl) q1482 q182 q1483 rfl rfl (by decide +kernel) (by show fr + 2 + 1 ≤ fr + 3 ∧ 8 + (2 + 11) + (lo + 60) ≤ lo + 83; omega)) rfl hl.1 (Nat.le_of_ble_eq_true rfl) dJ6_putStringAt_2 ⟨Nat.le_refl _, Nat.le_refl _⟩ rfl) (fun G1 H locs hf hI => ?_)
  clear hO
  refine h_aload_n (o := q2_) hx hb dJ6_putStringAt_5 rfl (lv_at hl 2 rfl) ?_
  refine lv_aload_n hx hb dJ6_putStringAt_6 rfl (lv_at hl 0 rfl) ?_
  refine hr_gtQ X hI (rfl : jC.1[19]? = some (RJ7, TJ7, 4)) in_J7 0 (Nat.le_of_ble_eq_true rfl) hf q792 (fun _ h => h) dJ6_putStringAt_7 (fun q2 hf => ?_)
  refine lv_iload_n hx hb dJ6_putStringAt_10 rfl (lv_at hl 1 rfl) ?_
  refine lv_aload_n hx hb dJ6_putStringAt_11 rfl (lv_at hl 0 rfl) ?_
  refine hr_gtI X hI (rfl : jC.1[19]? = some (RJ7, TJ7, 4)) in_J7 1 (Nat.le_of_ble_eq_true rfl) hf q793 (fun _ h => h) dJ6_putStringAt_12 (fun x3 hf => ?_)
  obtain ⟨a4, ea4, hf⟩ := hf
  revert hl hf
  subst ea4
  intro hl hf
  have hl : lv_has ls 3 [(0, .ref a0), (1, .int p1), (2, .ref a4)] := hl
  obtain ⟨_, _, hO, hf⟩ := hf
  refine h_kv X hI (h_runV (As := [va_rf q2, .int p1, .int x3]) X hI (h_recv X hI hO (show jC.1[20]? = some (RJ8, TJ8, 4) from rfl)) (mhJ8_getBytes l Z D j Λ fr lo E a4 q2 p1 x3 G1 _ hf H.size) (cwV 3 hts (lw_V q1504 q1505 q1506 q184 q1507) rfl rfl rfl (by decide +kernel) (by show fr + 2 + 1 ≤ fr + 3 ∧ 8 + (4 + 11) + (lo + 60) ≤ lo + 83; omega)) rfl hl.1 (Nat.le_of_ble_eq_true rfl) dJ6_putStringAt_15 ⟨Nat.le_refl _, Nat.le_refl _⟩ rfl) (fun G5 H locs hf hI => ?_)
  clear hO
  exact hret hf hI dJ6_putStringAt_18 (Nat.le_refl _) (Nat.le_refl _)
/-! java/lang/AbstractStringBuilder.append(Ljava/lang/String;)Ljava/lang/AbstractStringBuilder; -/
def hJ6_append (j : JX) (Λ : JLam) (a0 : Nat) (q1_ : Option Nat) (mc ms : Nat) (G : HG) (post : Option Nat → HG → Prop) : Prop :=
  (q1_ = none → (isO G a0 19 (∃ m3 m4 : Nat, m3 ≤ mc ∧ m4 ≤ ms ∧ hJ6_appendNull j Λ a0 m3 m4 G fun q6 G5 => post q6 G5))) ∧ (∀ a2, q1_ = some a2 → (isO G a2 20 (hJ8_length j Λ a2 G fun x8 G7 => gtI G7 a0 19 3 fun x9 => isO G7 a0 19 (∃ m10 m11 : Nat, m10 ≤ mc ∧ m11 ≤ ms ∧ hJ6_ensureCapacityInternal j Λ a0 (x9 + x8) m10 m11 G7 fun G12 => gtI G12 a0 19 3 fun x13 => isO G12 a0 19 (hJ6_putStringAt j Λ a0 x13 (some a2) G12 fun G14 => gtI G14 a0 19 3 fun x15 => ptV G14 a0 19 3 (.int (x15 + x8)) fun G16 => post (some a0) G16)))))
abbrev rhJ6_append (fr lo mc ms : Nat) : Room := { frames := fr + 5, cells := mc, slots := ms, locals := lo + 132 }
theorem mhJ6_append (l : Launch) (Z : (Nat → Prop) → State → Heap → Prop) (D : va_G) (j : JX) (Λ : JLam) (fr lo : Nat) (E : JE l Z D j Λ fr lo) (a0 : Nat) (q1_ : Option Nat) (mc ms : Nat) (G : HG) (post : Option Nat → HG → Prop) (hf : hJ6_append j Λ a0 q1_ mc ms G post) : HMq l yJ6_append (ws_ yJ6_append cJ6_append 3 (some (.object "java/lang/AbstractStringBuilder"))) (rhJ6_append fr lo mc ms) D jC (jty j.1) Z G [.ref a0, va_rf q1_] post mc ms := by
  obtain ⟨MC, eMC⟩ : ∃ MC, MC = mc := ⟨_, rfl⟩
  obtain ⟨MS, eMS⟩ : ∃ MS, MS = ms := ⟨_, rfl⟩
  suffices goal : HMq l yJ6_append (ws_ yJ6_append cJ6_append 3 (some (.object "java/lang/AbstractStringBuilder"))) (rhJ6_append fr lo MC MS) D jC (jty j.1) Z G [.ref a0, va_rf q1_] post MC MS by rw [eMC, eMS] at goal; exact goal
  have hm0_ : 0 + mc ≤ MC ∧ 0 + ms ≤ MS := by omega
  clear eMC eMS
  refine h_openq (Or.inl ⟨_, rfl⟩) E.1 (by decide) (by cases q1_ <;> exact Nat.le_of_ble_eq_true rfl) (fun p e s m args below meth c ls A0 Q X hI hnd hnm hl hret => ?_)
  have X : XC p s m args meth c cJ6_append 3 RJ6 D jC (jty j.1) A0 Z := X
  have hx := X.1
  have hb := X.2.1
  have hown := X.2.2.2.1
  have hts := X.2.2.2.2.1
  have hl : lv_has ls 3 [(0, .ref a0), (1, va_rf q1_)] := by cases q1_ <;> exact hl
  unfold hJ6_append at hf
  obtain ⟨H, eH⟩ : ∃ H, H = s.heap := ⟨_, rfl⟩
  obtain ⟨locs, eL⟩ : ∃ locs : List Loc, locs = [] := ⟨_, rfl⟩
  have hI : HI D jC G A0 s.heap H locs := by rw [eH, eL]; exact hI
  rw [← eL]
  obtain ⟨cells, eC⟩ : ∃ n : Nat, n = 0 := ⟨_, rfl⟩
  obtain ⟨slots, eS⟩ : ∃ n : Nat, n = 0 := ⟨_, rfl⟩
  have hm : cells + mc ≤ MC ∧ slots + ms ≤ MS := by rw [eC, eS]; exact hm0_
  suffices h : W p l e (rhJ6_append fr lo MC MS) s m args below meth c H locs cells slots Q (F0 m 0 ls []) by rw [eH, eC, eS] at h; exact h
  clear eH eL eC eS
  refine h_aload_n (o := q1_) hx hb dJ6_append_0 rfl (lv_at hl 1 rfl) ?_
  refine h_ifnonnull (tgt := 9) hx hb dJ6_append_1 (by decide) (fun a2 c1 => ?_) (fun c1 => ?_)
  · have hf := hf.2 a2 c1
    revert hl hf
    subst c1
    intro hl hf
    have hl : lv_has ls 3 [(0, .ref a0), (1, .ref a2)] := hl
    refine lv_aload_n hx hb dJ6_append_9 rfl (lv_at hl 1 rfl) ?_
    obtain ⟨_, _, hO, hf⟩ := hf
    refine h_ki X hI (h_runV (As := []) X hI (h_recv X hI hO (show jC.1[20]? = some (RJ8, TJ8, 4) from rfl)) (mhJ8_length l Z D j Λ fr lo E a2 G _ hf H.size) (cwV 0 hts (lw_V q1472 q1473 q1474 q184 q1475) rfl rfl rfl (by decide +kernel) (by show fr + 2 + 1 ≤ fr + 5 ∧ 8 + (1 + 11) + (lo + 60) ≤ lo + 132; omega)) rfl hl.1 (Nat.le_of_ble_eq_true rfl) dJ6_append_10 ⟨hm0 hm.1, hm0 hm.2⟩ rfl) (fun x8 G7 H locs hf hI => ?_)
    clear hO
    refine lv_istore_n (lv' := [(2, .int x8), (0, .ref a0), (1, .ref a2)]) hx hb dJ6_append_13 rfl hl (by decide) rfl (fun ls hl => ?_)
    refine lv_aload_n hx hb dJ6_append_14 rfl (lv_at hl 1 rfl) ?_
    refine lv_aload_n hx hb dJ6_append_15 rfl (lv_at hl 1 rfl) ?_
    refine hr_gtI X hI (rfl : jC.1[19]? = some (RJ7, TJ7, 4)) in_J7 3 (Nat.le_of_ble_eq_true rfl) hf q796 (fun _ h => h) dJ6_append_16 (fun x9 hf => ?_)
    refine lv_iload_n hx hb dJ6_append_19 rfl (lv_at hl 0 rfl) ?_
    refine lv_iadd hx hb dJ6_append_20 ?_
    obtain ⟨_, _, hO, hf⟩ := hf
    obtain ⟨m10, m11, hb1, hb2, hf⟩ := hf
    refine h_kv X hI (h_runU (As := [.int (x9 + x8)]) X hI (h_recv X hI hO (show jC.1[19]? = some (RJ7, TJ7, 4) from rfl)) (mhJ6_ensureCapacityInternal l Z D j Λ fr lo E a0 (x9 + x8) m10 m11 G7 _ hf H.size) (cwP 1 (X.2.2.2.2.2.1.1 19 _ (show jC.1[19]? = some (RJ7, TJ7, 4) from rfl)).2.1 hts q1431 q3502 (E.nw X q1432 rfl) q1433 q182 q1434 rfl rfl (by decide +kernel) (by show fr + 3 + 1 ≤ fr + 5 ∧ 8 + (3 + 11) + (lo + 88) ≤ lo + 132; omega)) rfl hl.1 (Nat.le_of_ble_eq_true rfl) dJ6_append_21 ⟨hmA hm.1 hb1, hmA hm.2 hb2⟩ rfl) (fun G12 H locs hf hI => ?_)
    have hm := And.intro (hmB hm.1 hb1) (hmB hm.2 hb2)
    clear hb1 hb2
    clear hO
    refine lv_aload_n hx hb dJ6_append_24 rfl (lv_at hl 1 rfl) ?_
    refine lv_aload_n hx hb dJ6_append_25 rfl (lv_at hl 1 rfl) ?_
    refine hr_gtI X hI (rfl : jC.1[19]? = some (RJ7, TJ7, 4)) in_J7 3 (Nat.le_of_ble_eq_true rfl) hf q796 (fun _ h => h) dJ6_append_26 (fun x13 hf => ?_)
    refine lv_aload_n hx hb dJ6_append_29 rfl (lv_at hl 2 rfl) ?_
    obtain ⟨_, _, hO, hf⟩ := hf
    refine h_kv X hI (h_runU (As := [.int x13, va_rf (some a2)]) X hI (h_recv X hI hO (show jC.1[19]? = some (RJ7, TJ7, 4) from rfl)) (mhJ6_putStringAt l Z D j Λ fr lo E a0 x13 (some a2) G12 _ hf H.size) (cwP 2 (X.2.2.2.2.2.1.1 19 _ (show jC.1[19]? = some (RJ7, TJ7, 4) from rfl)).2.1 hts q1476 q3504 (E.nw X q1477 rfl) q1478 q182 q1479 rfl rfl (by decide +kernel) (by show fr + 3 + 1 ≤ fr + 5 ∧ 8 + (3 + 11) + (lo + 83) ≤ lo + 132; omega)) rfl hl.1 (Nat.le_of_ble_eq_true rfl) dJ6_append_30 ⟨hm0 hm.1, hm0 hm.2⟩ rfl) (fun G14 H locs hf hI => ?_)
    clear hO
    refine lv_aload_n hx hb dJ6_append_33 rfl (lv_at hl 1 rfl) ?_
    refine lv_dup hx hb dJ6_append_34 rfl ?_
    refine hr_gtI X hI (rfl : jC.1[19]? = some (RJ7, TJ7, 4)) in_J7 3 (Nat.le_of_ble_eq_true rfl) hf q796 (fun _ h => h) dJ6_append_35 (fun x15 hf => ?_)
    refine lv_iload_n hx hb dJ6_append_38 rfl (lv_at hl 0 rfl) ?_
    refine lv_iadd hx hb dJ6_append_39 ?_
    refine hr_pt X hI (rfl : jC.1[19]? = some (RJ7, TJ7, 4)) in_J7 3 (Nat.le_of_ble_eq_true rfl) tyJ7 tyJ7_ok nmJ7 hf q796 (fun _ h => h) rfl rfl rfl dJ6_append_40 (fun G16 H locs hf hI => ?_)
    refine lv_aload_n hx hb dJ6_append_43 rfl (lv_at hl 1 rfl) ?_
    exact hret (v := (some a0)) hf hI dJ6_append_44 (hmC hm.1) (hmC hm.2)
  · have hf := hf.1 c1
    revert hl hf
    subst c1
    intro hl hf
    have hl : lv_has ls 3 [(0, .ref a0), (1, va_rf none)] := hl
    refine lv_aload_n hx hb dJ6_append_4 rfl (lv_at hl 0 rfl) ?_
    obtain ⟨_, _, hO, hf⟩ := hf
    obtain ⟨m3, m4, hb1, hb2, hf⟩ := hf
    refine h_kq X hI (h_runU (As := []) X hI (h_recv X hI hO (show jC.1[19]? = some (RJ7, TJ7, 4) from rfl)) (mhJ6_appendNull l Z D j Λ fr lo E a0 m3 m4 G _ hf H.size) (cwP 0 (X.2.2.2.2.2.1.1 19 _ (show jC.1[19]? = some (RJ7, TJ7, 4) from rfl)).2.1 hts q1427 q3501 (E.nw X q1428 rfl) q1429 q182 q1430 rfl rfl (by decide +kernel) (by show fr + 4 + 1 ≤ fr + 5 ∧ 8 + (3 + 11) + (lo + 110) ≤ lo + 132; omega)) rfl hl.1 (Nat.le_of_ble_eq_true rfl) dJ6_append_5 ⟨hmA hm.1 hb1, hmA hm.2 hb2⟩ rfl) (fun q6 G5 H locs hf hI => ?_)
    have hm := And.intro (hmB hm.1 hb1) (hmB hm.2 hb2)
    clear hb1 hb2
    clear hO
    exact hret (v := q6) hf hI dJ6_append_8 (hmC hm.1) (hmC hm.2)
/-! java/lang/StringBuilder.append(Ljava/lang/String;)Ljava/lang/StringBuilder; -/
def hJ7_append (j : JX) (Λ : JLam) (a0 : Nat) (q1_ : Option Nat) (mc ms : Nat) (G : HG) (post : Option Nat → HG → Prop) : Prop :=
  isO G a0 19 (∃ m1 m2 : Nat, m1 ≤ mc ∧ m2 ≤ ms ∧ hJ6_append j Λ a0 q1_ m1 m2 G fun q4 G3 => post (some a0) G3)
abbrev rhJ7_append (fr lo mc ms : Nat) : Room := { frames := fr + 6, cells := mc, slots := ms, locals := lo + 154 }
theorem mhJ7_append (l : Launch) (Z : (Nat → Prop) → State → Heap → Prop) (D : va_G) (j : JX) (Λ : JLam) (fr lo : Nat) (E : JE l Z D j Λ fr lo) (a0 : Nat) (q1_ : Option Nat) (mc ms : Nat) (G : HG) (post : Option Nat → HG → Prop) (hf : hJ7_append j Λ a0 q1_ mc ms G post) : HMq l yJ7_append (ws_ yJ7_append cJ7_append 2 (some (.object "java/lang/StringBuilder"))) (rhJ7_append fr lo mc ms) D jC (jty j.1) Z G [.ref a0, va_rf q1_] post mc ms := by
  obtain ⟨MC, eMC⟩ : ∃ MC, MC = mc := ⟨_, rfl⟩
  obtain ⟨MS, eMS⟩ : ∃ MS, MS = ms := ⟨_, rfl⟩
  suffices goal : HMq l yJ7_append (ws_ yJ7_append cJ7_append 2 (some (.object "java/lang/StringBuilder"))) (rhJ7_append fr lo MC MS) D jC (jty j.1) Z G [.ref a0, va_rf q1_] post MC MS by rw [eMC, eMS] at goal; exact goal
  have hm0_ : 0 + mc ≤ MC ∧ 0 + ms ≤ MS := by omega
  clear eMC eMS
  refine h_openq (Or.inl ⟨_, rfl⟩) E.1 (by decide) (by cases q1_ <;> exact Nat.le_of_ble_eq_true rfl) (fun p e s m args below meth c ls A0 Q X hI hnd hnm hl hret => ?_)
  have X : XC p s m args meth c cJ7_append 2 RJ7 D jC (jty j.1) A0 Z := X
  have hx := X.1
  have hb := X.2.1
  have hown := X.2.2.2.1
  have hts := X.2.2.2.2.1
  have hl : lv_has ls 2 [(0, .ref a0), (1, va_rf q1_)] := by cases q1_ <;> exact hl
  unfold hJ7_append at hf
  obtain ⟨H, eH⟩ : ∃ H, H = s.heap := ⟨_, rfl⟩
  obtain ⟨locs, eL⟩ : ∃ locs : List Loc, locs = [] := ⟨_, rfl⟩
  have hI : HI D jC G A0 s.heap H locs := by rw [eH, eL]; exact hI
  rw [← eL]
  obtain ⟨cells, eC⟩ : ∃ n : Nat, n = 0 := ⟨_, rfl⟩
  obtain ⟨slots, eS⟩ : ∃ n : Nat, n = 0 := ⟨_, rfl⟩
  have hm : cells + mc ≤ MC ∧ slots + ms ≤ MS := by rw [eC, eS]; exact hm0_
  suffices h : W p l e (rhJ7_append fr lo MC MS) s m args below meth c H locs cells slots Q (F0 m 0 ls []) by rw [eH, eC, eS] at h; exact h
  clear eH eL eC eS
  refine lv_aload_n hx hb dJ7_append_0 rfl (lv_at hl 0 rfl) ?_
  refine h_aload_n (o := q1_) hx hb dJ7_append_1 rfl (lv_at hl 1 rfl) ?_
  obtain ⟨_, _, hO, hf⟩ := hf
  obtain ⟨m1, m2, hb1, hb2, hf⟩ := hf
  refine h_kq X hI (h_runSU (As := [va_rf q1_]) X hI (X.2.2.2.2.2.1.1 19 _ (show jC.1[19]? = some (RJ7, TJ7, 4) from rfl)).2 (h_recv X hI hO (show jC.1[19]? = some (RJ7, TJ7, 4) from rfl)) (mhJ6_append l Z D j Λ fr lo E a0 q1_ m1 m2 G _ hf H.size) (cwSU 1 hts q1424 q3500 q805 q1425 q182 q1426 rfl rfl (by decide +kernel) (by show fr + 5 + 1 ≤ fr + 6 ∧ 8 + (3 + 11) + (lo + 132) ≤ lo + 154; omega)) rfl hl.1 (Nat.le_of_ble_eq_true rfl) dJ7_append_2 ⟨hmA hm.1 hb1, hmA hm.2 hb2⟩ rfl) (fun q4 G3 H locs hf hI => ?_)
  have hm := And.intro (hmB hm.1 hb1) (hmB hm.2 hb2)
  clear hb1 hb2
  clear hO
  refine lv_pop hx hb dJ7_append_5 (h_catq _) ?_
  refine lv_aload_n hx hb dJ7_append_6 rfl (lv_at hl 0 rfl) ?_
  exact hret (v := (some a0)) hf hI dJ7_append_7 (hmC hm.1) (hmC hm.2)
/-! java/lang/AbstractStringBuilder.append(I)Ljava/lang/AbstractStringBuilder; -/
def hJ6_append_2 (j : JX) (Λ : JLam) (a0 : Nat) (p1 : Int32) (mc ms : Nat) (G : HG) (post : Option Nat → HG → Prop) : Prop :=
  gtI G a0 19 3 fun x1 => hJ15_stringSize j Λ p1 G fun x3 G2 => isO G2 a0 19 (∃ m4 m5 : Nat, m4 ≤ mc ∧ m5 ≤ ms ∧ hJ6_ensureCapacityInternal j Λ a0 (x1 + x3) m4 m5 G2 fun G6 => isO G6 a0 19 (hJ6_isLatin1 j Λ a0 G6 fun x8 G7 => (x8 = 0 → (False)) ∧ (¬ x8 = 0 → (False))))
abbrev rhJ6_append_2 (fr lo mc ms : Nat) : Room := { frames := fr + 4, cells := mc, slots := ms, locals := lo + 110 }
theorem mhJ6_append_2 (l : Launch) (Z : (Nat → Prop) → State → Heap → Prop) (D : va_G) (j : JX) (Λ : JLam) (fr lo : Nat) (E : JE l Z D j Λ fr lo) (a0 : Nat) (p1 : Int32) (mc ms : Nat) (G : HG) (post : Option Nat → HG → Prop) (hf : hJ6_append_2 j Λ a0 p1 mc ms G post) : HMq l yJ6_append_2 (ws_ yJ6_append_2 cJ6_append_2 4 (some (.object "java/lang/AbstractStringBuilder"))) (rhJ6_append_2 fr lo mc ms) D jC (jty j.1) Z G [.ref a0, .int p1] post mc ms := by
  obtain ⟨MC, eMC⟩ : ∃ MC, MC = mc := ⟨_, rfl⟩
  obtain ⟨MS, eMS⟩ : ∃ MS, MS = ms := ⟨_, rfl⟩
  suffices goal : HMq l yJ6_append_2 (ws_ yJ6_append_2 cJ6_append_2 4 (some (.object "java/lang/AbstractStringBuilder"))) (rhJ6_append_2 fr lo MC MS) D jC (jty j.1) Z G [.ref a0, .int p1] post MC MS by rw [eMC, eMS] at goal; exact goal
  have hm0_ : 0 + mc ≤ MC ∧ 0 + ms ≤ MS := by omega
  clear eMC eMS
  refine h_openq (Or.inl ⟨_, rfl⟩) E.1 (by decide) (by exact Nat.le_of_ble_eq_true rfl) (fun p e s m args below meth c ls A0 Q X hI hnd hnm hl hret => ?_)
  have X : XC p s m args meth c cJ6_append_2 4 RJ6 D jC (jty j.1) A0 Z := X
  have hx := X.1
  have hb := X.2.1
  have hown := X.2.2.2.1
  have hts := X.2.2.2.2.1
  have hl : lv_has ls 4 [(0, .ref a0), (1, .int p1)] := by exact hl
  unfold hJ6_append_2 at hf
  obtain ⟨H, eH⟩ : ∃ H, H = s.heap := ⟨_, rfl⟩
  obtain ⟨locs, eL⟩ : ∃ locs : List Loc, locs = [] := ⟨_, rfl⟩
  have hI : HI D jC G A0 s.heap H locs := by rw [eH, eL]; exact hI
  rw [← eL]
  obtain ⟨cells, eC⟩ : ∃ n : Nat, n = 0 := ⟨_, rfl⟩
  obtain ⟨slots, eS⟩ : ∃ n : Nat, n = 0 := ⟨_, rfl⟩
  have hm : cells + mc ≤ MC ∧ slots + ms ≤ MS := by rw [eC, eS]; exact hm0_
  suffices h : W p l e (rhJ6_append_2 fr lo MC MS) s m args below meth c H locs cells slots Q (F0 m 0 ls []) by rw [eH, eC, eS] at h; exact h
  clear eH eL eC eS
  refine lv_aload_n hx hb dJ6_append_2_0 rfl (lv_at hl 0 rfl) ?_
  refine hr_gtI X hI (rfl : jC.1[19]? = some (RJ7, TJ7, 4)) in_J7 3 (Nat.le_of_ble_eq_true rfl) hf q796 (fun _ h => h) dJ6_append_2_1 (fun x1 hf => ?_)
  refine lv_istore_n (lv' := [(2, .int x1), (0, .ref a0), (1, .int p1)]) hx hb dJ6_append_2_4 rfl hl (by decide) rfl (fun ls hl => ?_)
  refine lv_iload_n hx hb dJ6_append_2_5 rfl (lv_at hl 0 rfl) ?_
  refine lv_iload_n hx hb dJ6_append_2_6 rfl (lv_at hl 2 rfl) ?_
  refine h_ki X hI (h_runS (As := [.int p1]) X hI (mhJ15_stringSize l Z D j Λ fr lo E p1 G _ hf H.size) (va_cwS 1 hts (lw_S q1517 q1518 q191 q1519) rfl rfl rfl (by decide +kernel) (by show fr + 1 + 1 ≤ fr + 4 ∧ 8 + (4 + 11) + (lo + 40) ≤ lo + 110; omega)) rfl hl.1 (Nat.le_of_ble_eq_true rfl) dJ6_append_2_7 ⟨hm0 hm.1, hm0 hm.2⟩ rfl) (fun x3 G2 H locs hf hI => ?_)
  refine lv_iadd hx hb dJ6_append_2_10 ?_
  refine lv_istore_n (lv' := [(3, .int (x1 + x3)), (2, .int x1), (0, .ref a0), (1, .int p1)]) hx hb dJ6_append_2_11 rfl hl (by decide) rfl (fun ls hl => ?_)
  refine lv_aload_n hx hb dJ6_append_2_12 rfl (lv_at hl 2 rfl) ?_
  refine lv_iload_n hx hb dJ6_append_2_13 rfl (lv_at hl 0 rfl) ?_
  obtain ⟨_, _, hO, hf⟩ := hf
  obtain ⟨m4, m5, hb1, hb2, hf⟩ := hf
  refine h_kv X hI (h_runU (As := [.int (x1 + x3)]) X hI (h_recv X hI hO (show jC.1[19]? = some (RJ7, TJ7, 4) from rfl)) (mhJ6_ensureCapacityInternal l Z D j Λ fr lo E a0 (x1 + x3) m4 m5 G2 _ hf H.size) (cwP 1 (X.2.2.2.2.2.1.1 19 _ (show jC.1[19]? = some (RJ7, TJ7, 4) from rfl)).2.1 hts q1431 q3502 (E.nw X q1432 rfl) q1433 q182 q1434 rfl rfl (by decide +kernel) (by show fr + 3 + 1 ≤ fr + 4 ∧ 8 + (3 + 11) + (lo + 88) ≤ lo + 110; omega)) rfl hl.1 (Nat.le_of_ble_eq_true rfl) dJ6_append_2_14 ⟨hmA hm.1 hb1, hmA hm.2 hb2⟩ rfl) (fun G6 H locs hf hI => ?_)
  have hm := And.intro (hmB hm.1 hb1) (hmB hm.2 hb2)
  clear hb1 hb2
  clear hO
  refine lv_aload_n hx hb dJ6_append_2_17 rfl (lv_at hl 2 rfl) ?_
  obtain ⟨_, _, hO, hf⟩ := hf
  refine h_ki X hI (h_runU (As := []) X hI (h_recv X hI hO (show jC.1[19]? = some (RJ7, TJ7, 4) from rfl)) (mhJ6_isLatin1 l Z D j Λ fr lo E a0 G6 _ hf H.size) (cwU (owner := "java/lang/AbstractStringBuilder") 0 hts q1229 q1231 q1232 q1230 q182 q1233 rfl rfl rfl (by decide +kernel) (by show fr + 1 + 1 ≤ fr + 4 ∧ 8 + (1 + 11) + (lo + 40) ≤ lo + 110; omega)) rfl hl.1 (Nat.le_of_ble_eq_true rfl) dJ6_append_2_18 ⟨hm0 hm.1, hm0 hm.2⟩ rfl) (fun x8 G7 H locs hf hI => ?_)
  clear hO
  refine lv_if_eq (tgt := 37) hx hb dJ6_append_2_21 (by decide) (fun c9 => ?_) (fun c9 => ?_)
  · have hf := hf.1 c9
    exact hf.elim
  · have hf := hf.2 c9
    exact hf.elim
/-! java/lang/StringBuilder.append(I)Ljava/lang/StringBuilder; -/
def hJ7_append_2 (j : JX) (Λ : JLam) (a0 : Nat) (p1 : Int32) (mc ms : Nat) (G : HG) (post : Option Nat → HG → Prop) : Prop :=
  isO G a0 19 (∃ m1 m2 : Nat, m1 ≤ mc ∧ m2 ≤ ms ∧ hJ6_append_2 j Λ a0 p1 m1 m2 G fun q4 G3 => post (some a0) G3)
abbrev rhJ7_append_2 (fr lo mc ms : Nat) : Room := { frames := fr + 5, cells := mc, slots := ms, locals := lo + 133 }
theorem mhJ7_append_2 (l : Launch) (Z : (Nat → Prop) → State → Heap → Prop) (D : va_G) (j : JX) (Λ : JLam) (fr lo : Nat) (E : JE l Z D j Λ fr lo) (a0 : Nat) (p1 : Int32) (mc ms : Nat) (G : HG) (post : Option Nat → HG → Prop) (hf : hJ7_append_2 j Λ a0 p1 mc ms G post) : HMq l yJ7_append_2 (ws_ yJ7_append_2 cJ7_append_2 2 (some (.object "java/lang/StringBuilder"))) (rhJ7_append_2 fr lo mc ms) D jC (jty j.1) Z G [.ref a0, .int p1] post mc ms := by
  obtain ⟨MC, eMC⟩ : ∃ MC, MC = mc := ⟨_, rfl⟩
  obtain ⟨MS, eMS⟩ : ∃ MS, MS = ms := ⟨_, rfl⟩
  suffices goal : HMq l yJ7_append_2 (ws_ yJ7_append_2 cJ7_append_2 2 (some (.object "java/lang/StringBuilder"))) (rhJ7_append_2 fr lo MC MS) D jC (jty j.1) Z G [.ref a0, .int p1] post MC MS by rw [eMC, eMS] at goal; exact goal
  have hm0_ : 0 + mc ≤ MC ∧ 0 + ms ≤ MS := by omega
  clear eMC eMS
  refine h_openq (Or.inl ⟨_, rfl⟩) E.1 (by decide) (by exact Nat.le_of_ble_eq_true rfl) (fun p e s m args below meth c ls A0 Q X hI hnd hnm hl hret => ?_)
  have X : XC p s m args meth c cJ7_append_2 2 RJ7 D jC (jty j.1) A0 Z := X
  have hx := X.1
  have hb := X.2.1
  have hown := X.2.2.2.1
  have hts := X.2.2.2.2.1
  have hl : lv_has ls 2 [(0, .ref a0), (1, .int p1)] := by exact hl
  unfold hJ7_append_2 at hf
  obtain ⟨H, eH⟩ : ∃ H, H = s.heap := ⟨_, rfl⟩
  obtain ⟨locs, eL⟩ : ∃ locs : List Loc, locs = [] := ⟨_, rfl⟩
  have hI : HI D jC G A0 s.heap H locs := by rw [eH, eL]; exact hI
  rw [← eL]
  obtain ⟨cells, eC⟩ : ∃ n : Nat, n = 0 := ⟨_, rfl⟩
  obtain ⟨slots, eS⟩ : ∃ n : Nat, n = 0 := ⟨_, rfl⟩
  have hm : cells + mc ≤ MC ∧ slots + ms ≤ MS := by rw [eC, eS]; exact hm0_
  suffices h : W p l e (rhJ7_append_2 fr lo MC MS) s m args below meth c H locs cells slots Q (F0 m 0 ls []) by rw [eH, eC, eS] at h; exact h
  clear eH eL eC eS
  refine lv_aload_n hx hb dJ7_append_2_0 rfl (lv_at hl 0 rfl) ?_
  refine lv_iload_n hx hb dJ7_append_2_1 rfl (lv_at hl 1 rfl) ?_
  obtain ⟨_, _, hO, hf⟩ := hf
  obtain ⟨m1, m2, hb1, hb2, hf⟩ := hf
  refine h_kq X hI (h_runSU (As := [.int p1]) X hI (X.2.2.2.2.2.1.1 19 _ (show jC.1[19]? = some (RJ7, TJ7, 4) from rfl)).2 (h_recv X hI hO (show jC.1[19]? = some (RJ7, TJ7, 4) from rfl)) (mhJ6_append_2 l Z D j Λ fr lo E a0 p1 m1 m2 G _ hf H.size) (cwSU 1 hts q1514 q3507 q805 q1515 q182 q1516 rfl rfl (by decide +kernel) (by show fr + 4 + 1 ≤ fr + 5 ∧ 8 + (4 + 11) + (lo + 110) ≤ lo + 133; omega)) rfl hl.1 (Nat.le_of_ble_eq_true rfl) dJ7_append_2_2 ⟨hmA hm.1 hb1, hmA hm.2 hb2⟩ rfl) (fun q4 G3 H locs hf hI => ?_)
  have hm := And.intro (hmB hm.1 hb1) (hmB hm.2 hb2)
  clear hb1 hb2
  clear hO
  refine lv_pop hx hb dJ7_append_2_5 (h_catq _) ?_
  refine lv_aload_n hx hb dJ7_append_2_6 rfl (lv_at hl 0 rfl) ?_
  exact hret (v := (some a0)) hf hI dJ7_append_2_7 (hmC hm.1) (hmC hm.2)
/-! java/lang/StringBuilder.length()I -/
def hJ7_length (j : JX) (Λ : JLam) (a0 : Nat) (G : HG) (post : Int32 → HG → Prop) : Prop :=
  isO G a0 19 (hJ6_length j Λ a0 G fun x2 G1 => post x2 G1)
abbrev rhJ7_length (fr lo : Nat) : Room := { frames := fr + 2, cells := 0, slots := 0, locals := lo + 60 }
theorem mhJ7_length (l : Launch) (Z : (Nat → Prop) → State → Heap → Prop) (D : va_G) (j : JX) (Λ : JLam) (fr lo : Nat) (E : JE l Z D j Λ fr lo) (a0 : Nat) (G : HG) (post : Int32 → HG → Prop) (hf : hJ7_length j Λ a0 G post) : HMi l yJ7_length (ws_ yJ7_length cJ7_length 1 (some .int)) (rhJ7_length fr lo) D jC (jty j.1) Z G [.ref a0] post 0 0 := by
  refine h_openi E.1 (by decide) (by exact Nat.le_of_ble_eq_true rfl) (fun p e s m args below meth c ls A0 Q X hI hnd hnm hl hret => ?_)
  have X : XC p s m args meth c cJ7_length 1 RJ7 D jC (jty j.1) A0 Z := X
  have hx := X.1
  have hb := X.2.1
  have hown := X.2.2.2.1
  have hts := X.2.2.2.2.1
  have hl : lv_has ls 1 [(0, .ref a0)] := by exact hl
  unfold hJ7_length at hf
  obtain ⟨H, eH⟩ : ∃ H, H = s.heap := ⟨_, rfl⟩
  obtain ⟨locs, eL⟩ : ∃ locs : List Loc, locs = [] := ⟨_, rfl⟩
  have hI : HI D jC G A0 s.heap H locs := by rw [eH, eL]; exact hI
  rw [← eL]
  suffices h : W p l e (rhJ7_length fr lo) s m args below meth c H locs 0 0 Q (F0 m 0 ls []) by rw [eH] at h; exact h
  clear eH eL
  refine lv_aload_n hx hb dJ7_length_0 rfl (lv_at hl 0 rfl) ?_
  obtain ⟨_, _, hO, hf⟩ := hf
  refine h_ki X hI (h_runSU (As := []) X hI (X.2.2.2.2.2.1.1 19 _ (show jC.1[19]? = some (RJ7, TJ7, 4) from rfl)).2 (h_recv X hI hO (show jC.1[19]? = some (RJ7, TJ7, 4) from rfl)) (mhJ6_length l Z D j Λ fr lo E a0 G _ hf H.size) (cwSU 0 hts q1558 q1554 q805 q1553 q182 q1559 rfl rfl (by decide +kernel) (by show fr + 1 + 1 ≤ fr + 2 ∧ 8 + (1 + 11) + (lo + 40) ≤ lo + 60; omega)) rfl hl.1 (Nat.le_of_ble_eq_true rfl) dJ7_length_1 ⟨Nat.le_refl _, Nat.le_refl _⟩ rfl) (fun x2 G1 H locs hf hI => ?_)
  clear hO
  exact hret hf hI dJ7_length_4 (Nat.le_refl _) (Nat.le_refl _)
/-! java/util/Arrays.checkLength(II)V -/
def hJ26_checkLength (j : JX) (Λ : JLam) (p0 : Int32) (p1 : Int32) (G : HG) (post : HG → Prop) : Prop :=
  (p0 ≤ p1 → (post G)) ∧ (¬ p0 ≤ p1 → (False))
abbrev rhJ26_checkLength (fr lo : Nat) : Room := { frames := fr + 1, cells := 0, slots := 0, locals := lo + 40 }
theorem mhJ26_checkLength (l : Launch) (Z : (Nat → Prop) → State → Heap → Prop) (D : va_G) (j : JX) (Λ : JLam) (fr lo : Nat) (E : JE l Z D j Λ fr lo) (p0 : Int32) (p1 : Int32) (G : HG) (post : HG → Prop) (hf : hJ26_checkLength j Λ p0 p1 G post) : HMv l yJ26_checkLength (ws_ yJ26_checkLength cJ26_checkLength 2 none) (rhJ26_checkLength fr lo) D jC (jty j.1) Z G [.int p0, .int p1] post 0 0 := by
  refine h_openv E.1 (by decide) (by exact Nat.le_of_ble_eq_true rfl) (fun p e s m args below meth c ls A0 Q X hI hnd hnm hl hret => ?_)
  have X : XC p s m args meth c cJ26_checkLength 2 RJ26 D jC (jty j.1) A0 Z := X
  have hx := X.1
  have hb := X.2.1
  have hown := X.2.2.2.1
  have hts := X.2.2.2.2.1
  have hl : lv_has ls 2 [(0, .int p0), (1, .int p1)] := by exact hl
  unfold hJ26_checkLength at hf
  obtain ⟨H, eH⟩ : ∃ H, H = s.heap := ⟨_, rfl⟩
  obtain ⟨locs, eL⟩ : ∃ locs : List Loc, locs = [] := ⟨_, rfl⟩
  have hI : HI D jC G A0 s.heap H locs := by rw [eH, eL]; exact hI
  rw [← eL]
  suffices h : W p l e (rhJ26_checkLength fr lo) s m args below meth c H locs 0 0 Q (F0 m 0 ls []) by rw [eH] at h; exact h
  clear eH eL
  refine lv_iload_n hx hb dJ26_checkLength_0 rfl (lv_at hl 1 rfl) ?_
  refine lv_iload_n hx hb dJ26_checkLength_1 rfl (lv_at hl 0 rfl) ?_
  refine lv_icmp_ge (tgt := 37) hx hb dJ26_checkLength_2 (by decide) (fun c1 => ?_) (fun c1 => ?_)
  · have hf := hf.1 c1
    exact hret hf hI dJ26_checkLength_37 (Nat.le_refl _) (Nat.le_refl _)
  · have hf := hf.2 c1
    exact hf.elim
/-! java/util/Arrays.copyOfRangeByte([BII)[B -/
def hJ26_copyOfRangeByte (j : JX) (Λ : JLam) (q0_ : Option Nat) (p1 : Int32) (p2 : Int32) (mc ms : Nat) (G : HG) (post : Option Nat → HG → Prop) : Prop :=
  hJ26_checkLength j Λ p1 p2 G fun G1 => 1 ≤ mc ∧ (p2 - p1).toNatClampNeg ≤ ms ∧ (¬ (p2 - p1) < 0 ∧ (p2 - p1).toNatClampNeg ≤ 65536 ∧ mkO G1 (.inl (j.1 2, (p2 - p1).toNatClampNeg, .inl (fun _ => 0))) fun a2 G3 => nnq q0_ fun a4 => aln (jty j.1) G3 a4 fun x5 => cpI .byte G3 a4 (j.1 2) p1 a2 (0 : Int32) (if (p2 - p1) < (x5 - p1) then (p2 - p1) else (x5 - p1)) fun G6 => post (some a2) G6)
abbrev rhJ26_copyOfRangeByte (fr lo mc ms : Nat) : Room := { frames := fr + 2, cells := mc, slots := ms, locals := lo + 61 }
theorem mhJ26_copyOfRangeByte (l : Launch) (Z : (Nat → Prop) → State → Heap → Prop) (D : va_G) (j : JX) (Λ : JLam) (fr lo : Nat) (E : JE l Z D j Λ fr lo) (q0_ : Option Nat) (p1 : Int32) (p2 : Int32) (mc ms : Nat) (G : HG) (post : Option Nat → HG → Prop) (hf : hJ26_copyOfRangeByte j Λ q0_ p1 p2 mc ms G post) : HMq l yJ26_copyOfRangeByte (ws_ yJ26_copyOfRangeByte cJ26_copyOfRangeByte 5 (some (.array .byte))) (rhJ26_copyOfRangeByte fr lo mc ms) D jC (jty j.1) Z G [va_rf q0_, .int p1, .int p2] post mc ms := by
  obtain ⟨MC, eMC⟩ : ∃ MC, MC = mc := ⟨_, rfl⟩
  obtain ⟨MS, eMS⟩ : ∃ MS, MS = ms := ⟨_, rfl⟩
  suffices goal : HMq l yJ26_copyOfRangeByte (ws_ yJ26_copyOfRangeByte cJ26_copyOfRangeByte 5 (some (.array .byte))) (rhJ26_copyOfRangeByte fr lo MC MS) D jC (jty j.1) Z G [va_rf q0_, .int p1, .int p2] post MC MS by rw [eMC, eMS] at goal; exact goal
  have hm0_ : 0 + mc ≤ MC ∧ 0 + ms ≤ MS := by omega
  clear eMC eMS
  refine h_openq (Or.inr ⟨_, rfl⟩) E.1 (by decide) (by cases q0_ <;> exact Nat.le_of_ble_eq_true rfl) (fun p e s m args below meth c ls A0 Q X hI hnd hnm hl hret => ?_)
  have X : XC p s m args meth c cJ26_copyOfRangeByte 5 RJ26 D jC (jty j.1) A0 Z := X
  have hx := X.1
  have hb := X.2.1
  have hown := X.2.2.2.1
  have hts := X.2.2.2.2.1
  have hl : lv_has ls 5 [(0, va_rf q0_), (1, .int p1), (2, .int p2)] := by cases q0_ <;> exact hl
  unfold hJ26_copyOfRangeByte at hf
  obtain ⟨H, eH⟩ : ∃ H, H = s.heap := ⟨_, rfl⟩
  obtain ⟨locs, eL⟩ : ∃ locs : List Loc, locs = [] := ⟨_, rfl⟩
  have hI : HI D jC G A0 s.heap H locs := by rw [eH, eL]; exact hI
  rw [← eL]
  obtain ⟨cells, eC⟩ : ∃ n : Nat, n = 0 := ⟨_, rfl⟩
  obtain ⟨slots, eS⟩ : ∃ n : Nat, n = 0 := ⟨_, rfl⟩
  have hm : cells + mc ≤ MC ∧ slots + ms ≤ MS := by rw [eC, eS]; exact hm0_
  suffices h : W p l e (rhJ26_copyOfRangeByte fr lo MC MS) s m args below meth c H locs cells slots Q (F0 m 0 ls []) by rw [eH, eC, eS] at h; exact h
  clear eH eL eC eS
  refine lv_iload_n hx hb dJ26_copyOfRangeByte_0 rfl (lv_at hl 1 rfl) ?_
  refine lv_iload_n hx hb dJ26_copyOfRangeByte_1 rfl (lv_at hl 2 rfl) ?_
  refine h_kv X hI (h_runS (As := [.int p1, .int p2]) X hI (mhJ26_checkLength l Z D j Λ fr lo E p1 p2 G _ hf H.size) (va_cwS 2 hts (lw_S q1567 q1568 q204 q1569) rfl rfl rfl (by decide +kernel) (by show fr + 1 + 1 ≤ fr + 2 ∧ 8 + (2 + 11) + (lo + 40) ≤ lo + 61; omega)) rfl hl.1 (Nat.le_of_ble_eq_true rfl) dJ26_copyOfRangeByte_2 ⟨hm0 hm.1, hm0 hm.2⟩ rfl) (fun G1 H locs hf hI => ?_)
  refine lv_iload_n hx hb dJ26_copyOfRangeByte_5 rfl (lv_at hl 2 rfl) ?_
  refine lv_iload_n hx hb dJ26_copyOfRangeByte_6 rfl (lv_at hl 1 rfl) ?_
  refine lv_isub hx hb dJ26_copyOfRangeByte_7 ?_
  refine lv_istore_n (lv' := [(3, .int (p2 - p1)), (0, va_rf q0_), (1, .int p1), (2, .int p2)]) hx hb dJ26_copyOfRangeByte_8 rfl hl (by decide) rfl (fun ls hl => ?_)
  refine lv_iload_n hx hb dJ26_copyOfRangeByte_9 rfl (lv_at hl 0 rfl) ?_
  obtain ⟨hb1, hb2, hf⟩ := hf
  refine hr_newab X hI 2 q317 rfl hf (hmA hm.1 hb1) (hmA hm.2 hb2) dJ26_copyOfRangeByte_10 (fun a2 G3 H hf hI => ?_)
  have hm := And.intro (hmB hm.1 hb1) (hmB hm.2 hb2)
  clear hb1 hb2
  refine lv_astore (lv' := [(4, .ref a2), (3, .int (p2 - p1)), (0, va_rf q0_), (1, .int p1), (2, .int p2)]) hx hb dJ26_copyOfRangeByte_12 hl (by decide) rfl (fun ls hl => ?_)
  refine h_aload_n (o := q0_) hx hb dJ26_copyOfRangeByte_14 rfl (lv_at hl 2 rfl) ?_
  refine lv_iload_n hx hb dJ26_copyOfRangeByte_15 rfl (lv_at hl 3 rfl) ?_
  refine lv_aload hx hb dJ26_copyOfRangeByte_16 (lv_at hl 0 rfl) ?_
  refine lv_iconst (v := 0) hx hb dJ26_copyOfRangeByte_18 (by decide) ?_
  refine h_aload_n (o := q0_) hx hb dJ26_copyOfRangeByte_19 rfl (lv_at hl 2 rfl) ?_
  obtain ⟨a4, ea4, hf⟩ := hf
  revert hl hf
  subst ea4
  intro hl hf
  have hl : lv_has ls 5 [(4, .ref a2), (3, .int (p2 - p1)), (0, .ref a4), (1, .int p1), (2, .int p2)] := hl
  refine hr_aln X hI hf dJ26_copyOfRangeByte_20 (fun x5 hf => ?_)
  refine lv_iload_n hx hb dJ26_copyOfRangeByte_21 rfl (lv_at hl 3 rfl) ?_
  refine lv_isub hx hb dJ26_copyOfRangeByte_22 ?_
  refine lv_iload_n hx hb dJ26_copyOfRangeByte_23 rfl (lv_at hl 1 rfl) ?_
  refine x_mmin X hl.1 q1458 q638 q173 q639 (by show 1 ≤ fr + 2 ∧ 21 ≤ lo + 61; omega) (Nat.le_of_ble_eq_true rfl) ⟨hmC hm.1, hmC hm.2⟩ dJ26_copyOfRangeByte_24 ?_
  refine hr_cpI E X hI 2 rfl rfl hf q1459 hl.1 (Nat.le_of_ble_eq_true rfl) (by show 1 ≤ fr + 2 ∧ 40 ≤ lo + 61; omega) dJ26_copyOfRangeByte_27 (fun G6 H locs hf hI => ?_)
  refine lv_aload hx hb dJ26_copyOfRangeByte_30 (lv_at hl 0 rfl) ?_
  exact hret (v := (some a2)) hf hI dJ26_copyOfRangeByte_32 (hmC hm.1) (hmC hm.2)
/-! java/util/Arrays.copyOfRange([BII)[B -/
def hJ26_copyOfRange_b10 (j : JX) (Λ : JLam) (p1 : Int32) (p2 : Int32) (post : Option Nat → HG → Prop) (lq0 : Option Nat) (mc ms : Nat) (G : HG) : Prop :=
  ∃ m8 m9 : Nat, m8 ≤ mc ∧ m9 ≤ ms ∧ hJ26_copyOfRangeByte j Λ lq0 p1 p2 m8 m9 G fun q11 G10 => post q11 G10
def hJ26_copyOfRange (j : JX) (Λ : JLam) (q0_ : Option Nat) (p1 : Int32) (p2 : Int32) (mc ms : Nat) (G : HG) (post : Option Nat → HG → Prop) : Prop :=
  (p1 = 0 → (nnq q0_ fun a2 => aln (jty j.1) G a2 fun x3 => (p2 = x3 → (clB G a2 (j.1 2) mc ms fun n5 a6 G7 => isA G7 (some a6) (j.1 2) (post (some a6) G7))) ∧ (¬ p2 = x3 → (hJ26_copyOfRange_b10 j Λ p1 p2 post (some a2) mc ms G)))) ∧ (¬ p1 = 0 → (hJ26_copyOfRange_b10 j Λ p1 p2 post q0_ mc ms G))
abbrev rhJ26_copyOfRange (fr lo mc ms : Nat) : Room := { frames := fr + 3, cells := mc, slots := ms, locals := lo + 85 }
theorem mhJ26_copyOfRange (l : Launch) (Z : (Nat → Prop) → State → Heap → Prop) (D : va_G) (j : JX) (Λ : JLam) (fr lo : Nat) (E : JE l Z D j Λ fr lo) (q0_ : Option Nat) (p1 : Int32) (p2 : Int32) (mc ms : Nat) (G : HG) (post : Option Nat → HG → Prop) (hf : hJ26_copyOfRange j Λ q0_ p1 p2 mc ms G post) : HMq l yJ26_copyOfRange (ws_ yJ26_copyOfRange cJ26_copyOfRange 3 (some (.array .byte))) (rhJ26_copyOfRange fr lo mc ms) D jC (jty j.1) Z G [va_rf q0_, .int p1, .int p2] post mc ms := by
  obtain ⟨MC, eMC⟩ : ∃ MC, MC = mc := ⟨_, rfl⟩
  obtain ⟨MS, eMS⟩ : ∃ MS, MS = ms := ⟨_, rfl⟩
  suffices goal : HMq l yJ26_copyOfRange (ws_ yJ26_copyOfRange cJ26_copyOfRange 3 (some (.array .byte))) (rhJ26_copyOfRange fr lo MC MS) D jC (jty j.1) Z G [va_rf q0_, .int p1, .int p2] post MC MS by rw [eMC, eMS] at goal; exact goal
  have hm0_ : 0 + mc ≤ MC ∧ 0 + ms ≤ MS := by omega
  clear eMC eMS
  refine h_openq (Or.inr ⟨_, rfl⟩) E.1 (by decide) (by cases q0_ <;> exact Nat.le_of_ble_eq_true rfl) (fun p e s m args below meth c ls A0 Q X hI hnd hnm hl hret => ?_)
  have X : XC p s m args meth c cJ26_copyOfRange 3 RJ26 D jC (jty j.1) A0 Z := X
  have hx := X.1
  have hb := X.2.1
  have hown := X.2.2.2.1
  have hts := X.2.2.2.2.1
  have J10 : ∀ (lq0 : Option Nat) (mc ms : Nat) (G : HG), hJ26_copyOfRange_b10 j Λ p1 p2 post lq0 mc ms G → ∀ (cells slots : Nat), cells + mc ≤ MC ∧ slots + ms ≤ MS → ∀ (H : Heap) (locs : List Loc), HI D jC G A0 s.heap H locs → ∀ (ls : Array Slot), lv_has ls 3 [(0, va_rf lq0), (1, .int p1), (2, .int p2)] → W p l e (rhJ26_copyOfRange fr lo MC MS) s m args below meth c H locs cells slots Q (F0 m 10 ls []) := by
    intro lq0 mc ms G hf cells slots hm H locs hI ls hl
    unfold hJ26_copyOfRange_b10 at hf
    refine h_aload_n (o := lq0) hx hb dJ26_copyOfRange_10 rfl (lv_at hl 0 rfl) ?_
    refine lv_iload_n hx hb dJ26_copyOfRange_11 rfl (lv_at hl 1 rfl) ?_
    refine lv_iload_n hx hb dJ26_copyOfRange_12 rfl (lv_at hl 2 rfl) ?_
    obtain ⟨m8, m9, hb1, hb2, hf⟩ := hf
    refine h_kq X hI (h_runS (As := [va_rf lq0, .int p1, .int p2]) X hI (mhJ26_copyOfRangeByte l Z D j Λ fr lo E lq0 p1 p2 m8 m9 G _ hf H.size) (va_cwS 3 hts (lw_S q1564 q1565 q204 q1566) rfl rfl rfl (by decide +kernel) (by show fr + 2 + 1 ≤ fr + 3 ∧ 8 + (5 + 11) + (lo + 61) ≤ lo + 85; omega)) rfl hl.1 (Nat.le_of_ble_eq_true rfl) dJ26_copyOfRange_13 ⟨hmA hm.1 hb1, hmA hm.2 hb2⟩ rfl) (fun q11 G10 H locs hf hI => ?_)
    have hm := And.intro (hmB hm.1 hb1) (hmB hm.2 hb2)
    clear hb1 hb2
    exact hret (v := q11) hf hI dJ26_copyOfRange_16 (hmC hm.1) (hmC hm.2)
  have hl : lv_has ls 3 [(0, va_rf q0_), (1, .int p1), (2, .int p2)] := by cases q0_ <;> exact hl
  unfold hJ26_copyOfRange at hf
  obtain ⟨H, eH⟩ : ∃ H, H = s.heap := ⟨_, rfl⟩
  obtain ⟨locs, eL⟩ : ∃ locs : List Loc, locs = [] := ⟨_, rfl⟩
  have hI : HI D jC G A0 s.heap H locs := by rw [eH, eL]; exact hI
  rw [← eL]
  obtain ⟨cells, eC⟩ : ∃ n : Nat, n = 0 := ⟨_, rfl⟩
  obtain ⟨slots, eS⟩ : ∃ n : Nat, n = 0 := ⟨_, rfl⟩
  have hm : cells + mc ≤ MC ∧ slots + ms ≤ MS := by rw [eC, eS]; exact hm0_
  suffices h : W p l e (rhJ26_copyOfRange fr lo MC MS) s m args below meth c H locs cells slots Q (F0 m 0 ls []) by rw [eH, eC, eS] at h; exact h
  clear eH eL eC eS
  refine lv_iload_n hx hb dJ26_copyOfRange_0 rfl (lv_at hl 1 rfl) ?_
  refine lv_if_ne (tgt := 10) hx hb dJ26_copyOfRange_1 (by decide) (fun c1 => ?_) (fun c1 => ?_)
  · have hf := hf.2 c1
    exact J10 q0_ mc ms G hf _ _ hm H locs hI ls (lv_sub hl [0, 1, 2] rfl)
  · have hf := hf.1 c1
    refine lv_iload_n hx hb dJ26_copyOfRange_4 rfl (lv_at hl 2 rfl) ?_
    refine h_aload_n (o := q0_) hx hb dJ26_copyOfRange_5 rfl (lv_at hl 0 rfl) ?_
    obtain ⟨a2, ea2, hf⟩ := hf
    revert hl hf
    subst ea2
    intro hl hf
    have hl : lv_has ls 3 [(0, .ref a2), (1, .int p1), (2, .int p2)] := hl
    refine hr_aln X hI hf dJ26_copyOfRange_6 (fun x3 hf => ?_)
    refine lv_icmp_eq (tgt := 17) hx hb dJ26_copyOfRange_7 (by decide) (fun c4 => ?_) (fun c4 => ?_)
    · have hf := hf.1 c4
      refine lv_aload_n hx hb dJ26_copyOfRange_17 rfl (lv_at hl 0 rfl) ?_
      refine hr_clB E X hI hf q1451 hl.1 (Nat.le_of_ble_eq_true rfl) (by show 1 ≤ fr + 3 ∧ 40 ≤ lo + 85; omega) hm.1 hm.2 q1452 q1453 q1454 q1455 q1456 dJ26_copyOfRange_18 (fun n5 a6 G7 H hb1 hb2 hf hI => ?_)
      have hm := And.intro (hmB hm.1 hb1) (hmB hm.2 hb2)
      clear hb1 hb2
      refine hr_castP (v := (some a6)) X hI 2 rfl rfl (by decide +kernel) hf q1457 dJ26_copyOfRange_21 (fun hf => ?_)
      exact hret (v := (some a6)) hf hI dJ26_copyOfRange_24 (hmC hm.1) (hmC hm.2)
    · have hf := hf.2 c4
      exact J10 (some a2) mc ms G hf _ _ hm H locs hI ls (lv_sub hl [0, 1, 2] rfl)
/-! java/lang/String.<init>(Ljava/lang/AbstractStringBuilder;Ljava/lang/Void;)V -/
def hJ8_init_2_b79 (j : JX) (Λ : JLam) (a0 : Nat) (post : HG → Prop) (lq3 : Option Nat) (lx4 : Int32) (mc ms : Nat) (G : HG) : Prop :=
  ptV G a0 20 1 (.int 1) fun G18 => ∃ m19 m20 : Nat, m19 ≤ mc ∧ m20 ≤ ms ∧ hJ26_copyOfRange j Λ lq3 (0 : Int32) (lx4 <<< ((1 : Int32) &&& 31)) m19 m20 G18 fun q22 G21 => ptV G21 a0 20 0 (va_rf q22) fun G23 => post G23
def hJ8_init_2 (j : JX) (Λ : JLam) (a0 : Nat) (q1_ : Option Nat) (q2_ : Option Nat) (mc ms : Nat) (G : HG) (post : HG → Prop) : Prop :=
  nnq q1_ fun a1 => isO G a1 19 (hJ6_getValue j Λ a1 G fun q3 G2 => isO G2 a1 19 (hJ7_length j Λ a1 G2 fun x5 G4 => isO G4 a1 19 (hJ6_isLatin1 j Λ a1 G4 fun x7 G6 => (x7 = 0 → (gtI G6 a1 19 2 fun x10 => (x10 = 0 → (hJ8_init_2_b79 j Λ a0 post q3 x5 mc ms G6)) ∧ (¬ x10 = 0 → (False)))) ∧ (¬ x7 = 0 → (ptV G6 a0 20 1 (.int 0) fun G12 => ∃ m13 m14 : Nat, m13 ≤ mc ∧ m14 ≤ ms ∧ hJ26_copyOfRange j Λ q3 (0 : Int32) x5 m13 m14 G12 fun q16 G15 => ptV G15 a0 20 0 (va_rf q16) fun G17 => post G17)))))
abbrev rhJ8_init_2 (fr lo mc ms : Nat) : Room := { frames := fr + 4, cells := mc, slots := ms, locals := lo + 107 }
theorem mhJ8_init_2 (l : Launch) (Z : (Nat → Prop) → State → Heap → Prop) (D : va_G) (j : JX) (Λ : JLam) (fr lo : Nat) (E : JE l Z D j Λ fr lo) (a0 : Nat) (q1_ : Option Nat) (q2_ : Option Nat) (mc ms : Nat) (G : HG) (post : HG → Prop) (hf : hJ8_init_2 j Λ a0 q1_ q2_ mc ms G post) : HMv l yJ8_init_2 (ws_ yJ8_init_2 cJ8_init_2 5 none) (rhJ8_init_2 fr lo mc ms) D jC (jty j.1) Z G [.ref a0, va_rf q1_, va_rf q2_] post mc ms := by
  obtain ⟨MC, eMC⟩ : ∃ MC, MC = mc := ⟨_, rfl⟩
  obtain ⟨MS, eMS⟩ : ∃ MS, MS = ms := ⟨_, rfl⟩
  suffices goal : HMv l yJ8_init_2 (ws_ yJ8_init_2 cJ8_init_2 5 none) (rhJ8_init_2 fr lo MC MS) D jC (jty j.1) Z G [.ref a0, va_rf q1_, va_rf q2_] post MC MS by rw [eMC, eMS] at goal; exact goal
  have hm0_ : 0 + mc ≤ MC ∧ 0 + ms ≤ MS := by omega
  clear eMC eMS
  refine h_openv E.1 (by decide) (by cases q1_ <;> cases q2_ <;> exact Nat.le_of_ble_eq_true rfl) (fun p e s m args below meth c ls A0 Q X hI hnd hnm hl hret => ?_)
  have X : XC p s m args meth c cJ8_init_2 5 RJ8 D jC (jty j.1) A0 Z := X
  have hx := X.1
  have hb := X.2.1
  have hown := X.2.2.2.1
  have hts := X.2.2.2.2.1
  have J79 : ∀ (lq3 : Option Nat) (lx4 : Int32) (mc ms : Nat) (G : HG), hJ8_init_2_b79 j Λ a0 post lq3 lx4 mc ms G → ∀ (cells slots : Nat), cells + mc ≤ MC ∧ slots + ms ≤ MS → ∀ (H : Heap) (locs : List Loc), HI D jC G A0 s.heap H locs → ∀ (ls : Array Slot), lv_has ls 5 [(0, .ref a0), (3, va_rf lq3), (4, .int lx4)] → W p l e (rhJ8_init_2 fr lo MC MS) s m args below meth c H locs cells slots Q (F0 m 79 ls []) := by
    intro lq3 lx4 mc ms G hf cells slots hm H locs hI ls hl
    unfold hJ8_init_2_b79 at hf
    refine lv_aload_n hx hb dJ8_init_2_79 rfl (lv_at hl 0 rfl) ?_
    refine lv_iconst (v := 1) hx hb dJ8_init_2_80 (by decide) ?_
    refine hr_ptF X hI (rfl : jC.1[20]? = some (RJ8, TJ8, 4)) in_J8 1 (Nat.le_of_ble_eq_true rfl) tyJ8 tyJ8_ok nmJ8 hf q1581 (fun _ h => h) rfl hnm rfl rfl rfl dJ8_init_2_81 (fun G18 H locs hf hI => ?_)
    refine lv_aload_n hx hb dJ8_init_2_84 rfl (lv_at hl 0 rfl) ?_
    refine h_aload_n (o := lq3) hx hb dJ8_init_2_85 rfl (lv_at hl 1 rfl) ?_
    refine lv_iconst (v := 0) hx hb dJ8_init_2_86 (by decide) ?_
    refine lv_iload hx hb dJ8_init_2_87 (lv_at hl 2 rfl) ?_
    refine lv_iconst (v := 1) hx hb dJ8_init_2_89 (by decide) ?_
    refine lv_ishl hx hb dJ8_init_2_90 ?_
    obtain ⟨m19, m20, hb1, hb2, hf⟩ := hf
    refine h_kq X hI (h_runS (As := [va_rf lq3, .int 0, .int (lx4 <<< ((1 : Int32) &&& 31))]) X hI (mhJ26_copyOfRange l Z D j Λ fr lo E lq3 (0 : Int32) (lx4 <<< ((1 : Int32) &&& 31)) m19 m20 G18 _ hf H.size) (va_cwS 3 hts (lw_S q1561 q1562 q204 q1563) rfl rfl rfl (by decide +kernel) (by show fr + 3 + 1 ≤ fr + 4 ∧ 8 + (3 + 11) + (lo + 85) ≤ lo + 107; omega)) rfl hl.1 (Nat.le_of_ble_eq_true rfl) dJ8_init_2_91 ⟨hmA hm.1 hb1, hmA hm.2 hb2⟩ rfl) (fun q22 G21 H locs hf hI => ?_)
    have hm := And.intro (hmB hm.1 hb1) (hmB hm.2 hb2)
    clear hb1 hb2
    refine hr_ptF X hI (rfl : jC.1[20]? = some (RJ8, TJ8, 4)) in_J8 0 (Nat.le_of_ble_eq_true rfl) tyJ8 tyJ8_ok nmJ8 hf q1580 (fun _ h => h) rfl hnm rfl (nar_a _ _) (fit_a _ _) dJ8_init_2_94 (fun G23 H locs hf hI => ?_)
    exact hret hf hI dJ8_init_2_97 (hmC hm.1) (hmC hm.2)
  have hl : lv_has ls 5 [(0, .ref a0), (1, va_rf q1_), (2, va_rf q2_)] := by cases q1_ <;> cases q2_ <;> exact hl
  unfold hJ8_init_2 at hf
  obtain ⟨H, eH⟩ : ∃ H, H = s.heap := ⟨_, rfl⟩
  obtain ⟨locs, eL⟩ : ∃ locs : List Loc, locs = [] := ⟨_, rfl⟩
  have hI : HI D jC G A0 s.heap H locs := by rw [eH, eL]; exact hI
  rw [← eL]
  obtain ⟨cells, eC⟩ : ∃ n : Nat, n = 0 := ⟨_, rfl⟩
  obtain ⟨slots, eS⟩ : ∃ n : Nat, n = 0 := ⟨_, rfl⟩
  have hm : cells + mc ≤ MC ∧ slots + ms ≤ MS := by rw [eC, eS]; exact hm0_
  suffices h : W p l e (rhJ8_init_2 fr lo MC MS) s m args below meth c H locs cells slots Q (F0 m 0 ls []) by rw [eH, eC, eS] at h; exact h
  clear eH eL eC eS
  refine lv_aload_n hx hb dJ8_init_2_0 rfl (lv_at hl 0 rfl) ?_
  refine W.objInit hx hb hown (hts _ q1546) (hts _ q247) (hts _ q248) rfl (by rw [X.2.2.1]; exact hl.1) rfl dJ8_init_2_1 (by show 1 ≤ fr + 4; omega) (Nat.le_trans (m := 40) (Nat.le_of_ble_eq_true rfl) (by show 40 ≤ lo + 107; omega)) ?_
  show W p l e _ s m args below meth c H locs _ _ Q (F0 m 4 ls [])
  refine h_aload_n (o := q1_) hx hb dJ8_init_2_4 rfl (lv_at hl 1 rfl) ?_
  obtain ⟨a1, ea1, hf⟩ := hf
  revert hl hf
  subst ea1
  intro hl hf
  have hl : lv_has ls 5 [(0, .ref a0), (1, .ref a1), (2, va_rf q2_)] := hl
  obtain ⟨_, _, hO, hf⟩ := hf
  refine h_kq X hI (h_runU (As := []) X hI (h_recv X hI hO (show jC.1[19]? = some (RJ7, TJ7, 4) from rfl)) (mhJ6_getValue l Z D j Λ fr lo E a1 G _ hf H.size) (cwU (owner := "java/lang/AbstractStringBuilder") 0 hts q1547 q1549 q1550 q1548 q182 q1551 rfl rfl rfl (by decide +kernel) (by show fr + 1 + 1 ≤ fr + 4 ∧ 8 + (1 + 11) + (lo + 40) ≤ lo + 107; omega)) rfl hl.1 (Nat.le_of_ble_eq_true rfl) dJ8_init_2_5 ⟨hm0 hm.1, hm0 hm.2⟩ rfl) (fun q3 G2 H locs hf hI => ?_)
  clear hO
  refine h_astore_n (o := q3) (lv' := [(3, va_rf q3), (0, .ref a0), (1, .ref a1), (2, va_rf q2_)]) hx hb dJ8_init_2_8 rfl hl (by decide) (by cases q2_ <;> rfl) (fun ls hl => ?_)
  refine lv_aload_n hx hb dJ8_init_2_9 rfl (lv_at hl 2 rfl) ?_
  obtain ⟨_, _, hO, hf⟩ := hf
  refine h_ki X hI (h_runU (As := []) X hI (h_recv X hI hO (show jC.1[19]? = some (RJ7, TJ7, 4) from rfl)) (mhJ7_length l Z D j Λ fr lo E a1 G2 _ hf H.size) (cwOv (owner := "java/lang/AbstractStringBuilder") 0 hts q1552 q1554 q1553 q1555 q1556 q183 q1557 q1559 rfl rfl (by decide +kernel) (by show fr + 2 + 1 ≤ fr + 4 ∧ 8 + (1 + 11) + (lo + 60) ≤ lo + 107; omega)) rfl hl.1 (Nat.le_of_ble_eq_true rfl) dJ8_init_2_10 ⟨hm0 hm.1, hm0 hm.2⟩ rfl) (fun x5 G4 H locs hf hI => ?_)
  clear hO
  refine lv_istore (lv' := [(4, .int x5), (3, va_rf q3), (0, .ref a0), (1, .ref a1), (2, va_rf q2_)]) hx hb dJ8_init_2_13 hl (by decide) (by cases q3 <;> rfl) (fun ls hl => ?_)
  refine lv_aload_n hx hb dJ8_init_2_15 rfl (lv_at hl 3 rfl) ?_
  obtain ⟨_, _, hO, hf⟩ := hf
  refine h_ki X hI (h_runU (As := []) X hI (h_recv X hI hO (show jC.1[19]? = some (RJ7, TJ7, 4) from rfl)) (mhJ6_isLatin1 l Z D j Λ fr lo E a1 G4 _ hf H.size) (cwU (owner := "java/lang/AbstractStringBuilder") 0 hts q1560 q1231 q1232 q1230 q182 q1233 rfl rfl rfl (by decide +kernel) (by show fr + 1 + 1 ≤ fr + 4 ∧ 8 + (1 + 11) + (lo + 40) ≤ lo + 107; omega)) rfl hl.1 (Nat.le_of_ble_eq_true rfl) dJ8_init_2_16 ⟨hm0 hm.1, hm0 hm.2⟩ rfl) (fun x7 G6 H locs hf hI => ?_)
  clear hO
  refine lv_if_eq (tgt := 41) hx hb dJ8_init_2_19 (by decide) (fun c8 => ?_) (fun c8 => ?_)
  · have hf := hf.1 c8
    refine va_gets (v := .int 1) hx hb ((E.z X).2.1 _ (List.mem_of_getElem? (show jStI[0]? = some _ from rfl))) hI.2 hown (hts _ q881) (fun _ h => h) dJ8_init_2_41 ?_
    refine lv_if_eq (tgt := 79) hx hb dJ8_init_2_44 (by decide) (fun c9 => absurd c9 (by decide)) (fun c9 => ?_)
    refine lv_aload_n hx hb dJ8_init_2_47 rfl (lv_at hl 3 rfl) ?_
    refine hr_gtI X hI (rfl : jC.1[19]? = some (RJ7, TJ7, 4)) in_J7 2 (Nat.le_of_ble_eq_true rfl) hf q795 (fun _ h => h) dJ8_init_2_48 (fun x10 hf => ?_)
    refine lv_if_eq (tgt := 79) hx hb dJ8_init_2_51 (by decide) (fun c11 => ?_) (fun c11 => ?_)
    · have hf := hf.1 c11
      exact J79 q3 x5 mc ms G6 hf _ _ hm H locs hI ls (lv_sub hl [2, 1, 0] rfl)
    · have hf := hf.2 c11
      exact hf.elim
  · have hf := hf.2 c8
    refine lv_aload_n hx hb dJ8_init_2_22 rfl (lv_at hl 2 rfl) ?_
    refine lv_iconst (v := 0) hx hb dJ8_init_2_23 (by decide) ?_
    refine hr_ptF X hI (rfl : jC.1[20]? = some (RJ8, TJ8, 4)) in_J8 1 (Nat.le_of_ble_eq_true rfl) tyJ8 tyJ8_ok nmJ8 hf q1581 (fun _ h => h) rfl hnm rfl rfl rfl dJ8_init_2_24 (fun G12 H locs hf hI => ?_)
    refine lv_aload_n hx hb dJ8_init_2_27 rfl (lv_at hl 2 rfl) ?_
    refine h_aload_n (o := q3) hx hb dJ8_init_2_28 rfl (lv_at hl 1 rfl) ?_
    refine lv_iconst (v := 0) hx hb dJ8_init_2_29 (by decide) ?_
    refine lv_iload hx hb dJ8_init_2_30 (lv_at hl 0 rfl) ?_
    obtain ⟨m13, m14, hb1, hb2, hf⟩ := hf
    refine h_kq X hI (h_runS (As := [va_rf q3, .int 0, .int x5]) X hI (mhJ26_copyOfRange l Z D j Λ fr lo E q3 (0 : Int32) x5 m13 m14 G12 _ hf H.size) (va_cwS 3 hts (lw_S q1561 q1562 q204 q1563) rfl rfl rfl (by decide +kernel) (by show fr + 3 + 1 ≤ fr + 4 ∧ 8 + (3 + 11) + (lo + 85) ≤ lo + 107; omega)) rfl hl.1 (Nat.le_of_ble_eq_true rfl) dJ8_init_2_32 ⟨hmA hm.1 hb1, hmA hm.2 hb2⟩ rfl) (fun q16 G15 H locs hf hI => ?_)
    have hm := And.intro (hmB hm.1 hb1) (hmB hm.2 hb2)
    clear hb1 hb2
    refine hr_ptF X hI (rfl : jC.1[20]? = some (RJ8, TJ8, 4)) in_J8 0 (Nat.le_of_ble_eq_true rfl) tyJ8 tyJ8_ok nmJ8 hf q1580 (fun _ h => h) rfl hnm rfl (nar_a _ _) (fit_a _ _) dJ8_init_2_35 (fun G17 H locs hf hI => ?_)
    refine lv_goto (tgt := 97) hx hb dJ8_init_2_38 (by decide) ?_
    exact hret hf hI dJ8_init_2_97 (hmC hm.1) (hmC hm.2)
/-! java/lang/String.<init>(Ljava/lang/StringBuilder;)V -/
def hJ8_init (j : JX) (Λ : JLam) (a0 : Nat) (q1_ : Option Nat) (mc ms : Nat) (G : HG) (post : HG → Prop) : Prop :=
  ∃ m1 m2 : Nat, m1 ≤ mc ∧ m2 ≤ ms ∧ hJ8_init_2 j Λ a0 q1_ none m1 m2 G fun G3 => post G3
abbrev rhJ8_init (fr lo mc ms : Nat) : Room := { frames := fr + 5, cells := mc, slots := ms, locals := lo + 131 }
theorem mhJ8_init (l : Launch) (Z : (Nat → Prop) → State → Heap → Prop) (D : va_G) (j : JX) (Λ : JLam) (fr lo : Nat) (E : JE l Z D j Λ fr lo) (a0 : Nat) (q1_ : Option Nat) (mc ms : Nat) (G : HG) (post : HG → Prop) (hf : hJ8_init j Λ a0 q1_ mc ms G post) : HMv l yJ8_init (ws_ yJ8_init cJ8_init 2 none) (rhJ8_init fr lo mc ms) D jC (jty j.1) Z G [.ref a0, va_rf q1_] post mc ms := by
  obtain ⟨MC, eMC⟩ : ∃ MC, MC = mc := ⟨_, rfl⟩
  obtain ⟨MS, eMS⟩ : ∃ MS, MS = ms := ⟨_, rfl⟩
  suffices goal : HMv l yJ8_init (ws_ yJ8_init cJ8_init 2 none) (rhJ8_init fr lo MC MS) D jC (jty j.1) Z G [.ref a0, va_rf q1_] post MC MS by rw [eMC, eMS] at goal; exact goal
  have hm0_ : 0 + mc ≤ MC ∧ 0 + ms ≤ MS := by omega
  clear eMC eMS
  refine h_openv E.1 (by decide) (by cases q1_ <;> exact Nat.le_of_ble_eq_true rfl) (fun p e s m args below meth c ls A0 Q X hI hnd hnm hl hret => ?_)
  have X : XC p s m args meth c cJ8_init 2 RJ8 D jC (jty j.1) A0 Z := X
  have hx := X.1
  have hb := X.2.1
  have hown := X.2.2.2.1
  have hts := X.2.2.2.2.1
  have hl : lv_has ls 2 [(0, .ref a0), (1, va_rf q1_)] := by cases q1_ <;> exact hl
  unfold hJ8_init at hf
  obtain ⟨H, eH⟩ : ∃ H, H = s.heap := ⟨_, rfl⟩
  obtain ⟨locs, eL⟩ : ∃ locs : List Loc, locs = [] := ⟨_, rfl⟩
  have hI : HI D jC G A0 s.heap H locs := by rw [eH, eL]; exact hI
  rw [← eL]
  obtain ⟨cells, eC⟩ : ∃ n : Nat, n = 0 := ⟨_, rfl⟩
  obtain ⟨slots, eS⟩ : ∃ n : Nat, n = 0 := ⟨_, rfl⟩
  have hm : cells + mc ≤ MC ∧ slots + ms ≤ MS := by rw [eC, eS]; exact hm0_
  suffices h : W p l e (rhJ8_init fr lo MC MS) s m args below meth c H locs cells slots Q (F0 m 0 ls []) by rw [eH, eC, eS] at h; exact h
  clear eH eL eC eS
  refine lv_aload_n hx hb dJ8_init_0 rfl (lv_at hl 0 rfl) ?_
  refine h_aload_n (o := q1_) hx hb dJ8_init_1 rfl (lv_at hl 1 rfl) ?_
  refine lv_null hx hb dJ8_init_2 ?_
  obtain ⟨m1, m2, hb1, hb2, hf⟩ := hf
  refine h_kv X hI (h_runI (As := [va_rf q1_, va_rf none]) X hI (mhJ8_init_2 l Z D j Λ fr lo E a0 q1_ none m1 m2 G _ hf H.size) (cwIn 2 hts q1543 q1544 q184 q1545 rfl rfl rfl (by decide +kernel) (by show fr + 4 + 1 ≤ fr + 5 ∧ 8 + (5 + 11) + (lo + 107) ≤ lo + 131; omega)) rfl hl.1 (Nat.le_of_ble_eq_true rfl) dJ8_init_3 ⟨hmA hm.1 hb1, hmA hm.2 hb2⟩ rfl) (fun G3 H locs hf hI => ?_)
  have hm := And.intro (hmB hm.1 hb1) (hmB hm.2 hb2)
  clear hb1 hb2
  exact hret hf hI dJ8_init_6 (hmC hm.1) (hmC hm.2)
/-! java/lang/StringBuilder.toString()Ljava/lang/String; -/
def hJ7_toString (j : JX) (Λ : JLam) (a0 : Nat) (mc ms : Nat) (G : HG) (post : Option Nat → HG → Prop) : Prop :=
  1 ≤ mc ∧ 4 ≤ ms ∧ mkO G (.inr (20, [.null, .int 0, .int 0, .int 0])) fun a1 G2 => ∃ m3 m4 : Nat, m3 ≤ mc - 1 ∧ m4 ≤ ms - 4 ∧ hJ8_init j Λ a1 (some a0) m3 m4 G2 fun G5 => post (some a1) G5
abbrev rhJ7_toString (fr lo mc ms : Nat) : Room := { frames := fr + 6, cells := mc, slots := ms, locals := lo + 152 }
theorem mhJ7_toString (l : Launch) (Z : (Nat → Prop) → State → Heap → Prop) (D : va_G) (j : JX) (Λ : JLam) (fr lo : Nat) (E : JE l Z D j Λ fr lo) (a0 : Nat) (mc ms : Nat) (G : HG) (post : Option Nat → HG → Prop) (hf : hJ7_toString j Λ a0 mc ms G post) : HMq l yJ7_toString (ws_ yJ7_toString cJ7_toString 1 (some (.object "java/lang/String"))) (rhJ7_toString fr lo mc ms) D jC (jty j.1) Z G [.ref a0] post mc ms := by
  obtain ⟨MC, eMC⟩ : ∃ MC, MC = mc := ⟨_, rfl⟩
  obtain ⟨MS, eMS⟩ : ∃ MS, MS = ms := ⟨_, rfl⟩
  suffices goal : HMq l yJ7_toString (ws_ yJ7_toString cJ7_toString 1 (some (.object "java/lang/String"))) (rhJ7_toString fr lo MC MS) D jC (jty j.1) Z G [.ref a0] post MC MS by rw [eMC, eMS] at goal; exact goal
  have hm0_ : 0 + mc ≤ MC ∧ 0 + ms ≤ MS := by omega
  clear eMC eMS
  refine h_openq (Or.inl ⟨_, rfl⟩) E.1 (by decide) (by exact Nat.le_of_ble_eq_true rfl) (fun p e s m args below meth c ls A0 Q X hI hnd hnm hl hret => ?_)
  have X : XC p s m args meth c cJ7_toString 1 RJ7 D jC (jty j.1) A0 Z := X
  have hx := X.1
  have hb := X.2.1
  have hown := X.2.2.2.1
  have hts := X.2.2.2.2.1
  have hl : lv_has ls 1 [(0, .ref a0)] := by exact hl
  unfold hJ7_toString at hf
  obtain ⟨H, eH⟩ : ∃ H, H = s.heap := ⟨_, rfl⟩
  obtain ⟨locs, eL⟩ : ∃ locs : List Loc, locs = [] := ⟨_, rfl⟩
  have hI : HI D jC G A0 s.heap H locs := by rw [eH, eL]; exact hI
  rw [← eL]
  obtain ⟨cells, eC⟩ : ∃ n : Nat, n = 0 := ⟨_, rfl⟩
  obtain ⟨slots, eS⟩ : ∃ n : Nat, n = 0 := ⟨_, rfl⟩
  have hm : cells + mc ≤ MC ∧ slots + ms ≤ MS := by rw [eC, eS]; exact hm0_
  suffices h : W p l e (rhJ7_toString fr lo MC MS) s m args below meth c H locs cells slots Q (F0 m 0 ls []) by rw [eH, eC, eS] at h; exact h
  clear eH eL eC eS
  obtain ⟨hb1, hb2, hf⟩ := hf
  refine hr_new X hI (rfl : jC.1[20]? = some (RJ8, TJ8, 4)) in_J8 tyJ8 tyJ8_ok hf q1539 q316 q184 (by decide) (hmA hm.1 hb1) (hmA hm.2 hb2) dJ7_toString_0 (fun a1 G2 H hf hI => ?_)
  have hm := And.intro (hmB hm.1 hb1) (hmB hm.2 hb2)
  clear hb1 hb2
  refine lv_dup hx hb dJ7_toString_3 rfl ?_
  refine lv_aload_n hx hb dJ7_toString_4 rfl (lv_at hl 0 rfl) ?_
  obtain ⟨m3, m4, hb1, hb2, hf⟩ := hf
  refine h_kv X hI (h_runI (As := [va_rf (some a0)]) X hI (mhJ8_init l Z D j Λ fr lo E a1 (some a0) m3 m4 G2 _ hf H.size) (cwIn 1 hts q1540 q1541 q184 q1542 rfl rfl rfl (by decide +kernel) (by show fr + 5 + 1 ≤ fr + 6 ∧ 8 + (2 + 11) + (lo + 131) ≤ lo + 152; omega)) rfl hl.1 (Nat.le_of_ble_eq_true rfl) dJ7_toString_5 ⟨hmA hm.1 hb1, hmA hm.2 hb2⟩ rfl) (fun G5 H locs hf hI => ?_)
  have hm := And.intro (hmB hm.1 hb1) (hmB hm.2 hb2)
  clear hb1 hb2
  exact hret (v := (some a1)) hf hI dJ7_toString_8 (hmC hm.1) (hmC hm.2)
/-! java/lang/ArrayIndexOutOfBoundsException.<init>(I)V -/
def hJ27_init_2 (j : JX) (Λ : JLam) (a0 : Nat) (p1 : Int32) (mc ms : Nat) (G : HG) (post : HG → Prop) : Prop :=
  False
abbrev rhJ27_init_2 (fr lo mc ms : Nat) : Room := { frames := fr + 3, cells := mc, slots := ms, locals := lo + 81 }
theorem mhJ27_init_2 (l : Launch) (Z : (Nat → Prop) → State → Heap → Prop) (D : va_G) (j : JX) (Λ : JLam) (fr lo : Nat) (E : JE l Z D j Λ fr lo) (a0 : Nat) (p1 : Int32) (mc ms : Nat) (G : HG) (post : HG → Prop) (hf : hJ27_init_2 j Λ a0 p1 mc ms G post) : HMv l yJ27_init_2 (ws_ yJ27_init_2 cJ27_init_2 2 none) (rhJ27_init_2 fr lo mc ms) D jC (jty j.1) Z G [.ref a0, .int p1] post mc ms := by
  obtain ⟨MC, eMC⟩ : ∃ MC, MC = mc := ⟨_, rfl⟩
  obtain ⟨MS, eMS⟩ : ∃ MS, MS = ms := ⟨_, rfl⟩
  suffices goal : HMv l yJ27_init_2 (ws_ yJ27_init_2 cJ27_init_2 2 none) (rhJ27_init_2 fr lo MC MS) D jC (jty j.1) Z G [.ref a0, .int p1] post MC MS by rw [eMC, eMS] at goal; exact goal
  have hm0_ : 0 + mc ≤ MC ∧ 0 + ms ≤ MS := by omega
  clear eMC eMS
  refine h_openv E.1 (by decide) (by exact Nat.le_of_ble_eq_true rfl) (fun p e s m args below meth c ls A0 Q X hI hnd hnm hl hret => ?_)
  have X : XC p s m args meth c cJ27_init_2 2 RJ27 D jC (jty j.1) A0 Z := X
  have hx := X.1
  have hb := X.2.1
  have hown := X.2.2.2.1
  have hts := X.2.2.2.2.1
  have hl : lv_has ls 2 [(0, .ref a0), (1, .int p1)] := by exact hl
  unfold hJ27_init_2 at hf
  obtain ⟨H, eH⟩ : ∃ H, H = s.heap := ⟨_, rfl⟩
  obtain ⟨locs, eL⟩ : ∃ locs : List Loc, locs = [] := ⟨_, rfl⟩
  have hI : HI D jC G A0 s.heap H locs := by rw [eH, eL]; exact hI
  rw [← eL]
  obtain ⟨cells, eC⟩ : ∃ n : Nat, n = 0 := ⟨_, rfl⟩
  obtain ⟨slots, eS⟩ : ∃ n : Nat, n = 0 := ⟨_, rfl⟩
  have hm : cells + mc ≤ MC ∧ slots + ms ≤ MS := by rw [eC, eS]; exact hm0_
  suffices h : W p l e (rhJ27_init_2 fr lo MC MS) s m args below meth c H locs cells slots Q (F0 m 0 ls []) by rw [eH, eC, eS] at h; exact h
  clear eH eL eC eS
  exact hf.elim
/-! java/util/Arrays.rangeCheck(III)V -/
def hJ26_rangeCheck (j : JX) (Λ : JLam) (p0 : Int32) (p1 : Int32) (p2 : Int32) (mc ms : Nat) (G : HG) (post : HG → Prop) : Prop :=
  (p1 ≤ p2 → ((0 ≤ p1 → ((p2 ≤ p0 → (post G)) ∧ (¬ p2 ≤ p0 → (False)))) ∧ (¬ 0 ≤ p1 → (False)))) ∧ (¬ p1 ≤ p2 → (False))
abbrev rhJ26_rangeCheck (fr lo mc ms : Nat) : Room := { frames := fr + 1, cells := mc, slots := ms, locals := lo + 40 }
theorem mhJ26_rangeCheck (l : Launch) (Z : (Nat → Prop) → State → Heap → Prop) (D : va_G) (j : JX) (Λ : JLam) (fr lo : Nat) (E : JE l Z D j Λ fr lo) (p0 : Int32) (p1 : Int32) (p2 : Int32) (mc ms : Nat) (G : HG) (post : HG → Prop) (hf : hJ26_rangeCheck j Λ p0 p1 p2 mc ms G post) : HMv l yJ26_rangeCheck (ws_ yJ26_rangeCheck cJ26_rangeCheck 3 none) (rhJ26_rangeCheck fr lo mc ms) D jC (jty j.1) Z G [.int p0, .int p1, .int p2] post mc ms := by
  obtain ⟨MC, eMC⟩ : ∃ MC, MC = mc := ⟨_, rfl⟩
  obtain ⟨MS, eMS⟩ : ∃ MS, MS = ms := ⟨_, rfl⟩
  suffices goal : HMv l yJ26_rangeCheck (ws_ yJ26_rangeCheck cJ26_rangeCheck 3 none) (rhJ26_rangeCheck fr lo MC MS) D jC (jty j.1) Z G [.int p0, .int p1, .int p2] post MC MS by rw [eMC, eMS] at goal; exact goal
  have hm0_ : 0 + mc ≤ MC ∧ 0 + ms ≤ MS := by omega
  clear eMC eMS
  refine h_openv E.1 (by decide) (by exact Nat.le_of_ble_eq_true rfl) (fun p e s m args below meth c ls A0 Q X hI hnd hnm hl hret => ?_)
  have X : XC p s m args meth c cJ26_rangeCheck 3 RJ26 D jC (jty j.1) A0 Z := X
  have hx := X.1
  have hb := X.2.1
  have hown := X.2.2.2.1
  have hts := X.2.2.2.2.1
  have hl : lv_has ls 3 [(0, .int p0), (1, .int p1), (2, .int p2)] := by exact hl
  unfold hJ26_rangeCheck at hf
  obtain ⟨H, eH⟩ : ∃ H, H = s.heap := ⟨_, rfl⟩
  obtain ⟨locs, eL⟩ : ∃ locs : List Loc, locs = [] := ⟨_, rfl⟩
  have hI : HI D jC G A0 s.heap H locs := by rw [eH, eL]; exact hI
  rw [← eL]
  obtain ⟨cells, eC⟩ : ∃ n : Nat, n = 0 := ⟨_, rfl⟩
  obtain ⟨slots, eS⟩ : ∃ n : Nat, n = 0 := ⟨_, rfl⟩
  have hm : cells + mc ≤ MC ∧ slots + ms ≤ MS := by rw [eC, eS]; exact hm0_
  suffices h : W p l e (rhJ26_rangeCheck fr lo MC MS) s m args below meth c H locs cells slots Q (F0 m 0 ls []) by rw [eH, eC, eS] at h; exact h
  clear eH eL eC eS
  refine lv_iload_n hx hb dJ26_rangeCheck_0 rfl (lv_at hl 1 rfl) ?_
  refine lv_iload_n hx hb dJ26_rangeCheck_1 rfl (lv_at hl 2 rfl) ?_
  refine lv_icmp_le (tgt := 46) hx hb dJ26_rangeCheck_2 (by decide) (fun c1 => ?_) (fun c1 => ?_)
  · have hf := hf.1 c1
    refine lv_iload_n hx hb dJ26_rangeCheck_46 rfl (lv_at hl 1 rfl) ?_
    refine lv_if_ge (tgt := 59) hx hb dJ26_rangeCheck_47 (by decide) (fun c2 => ?_) (fun c2 => ?_)
    · have hf := hf.1 c2
      refine lv_iload_n hx hb dJ26_rangeCheck_59 rfl (lv_at hl 2 rfl) ?_
      refine lv_iload_n hx hb dJ26_rangeCheck_60 rfl (lv_at hl 0 rfl) ?_
      refine lv_icmp_le (tgt := 73) hx hb dJ26_rangeCheck_61 (by decide) (fun c3 => ?_) (fun c3 => ?_)
      · have hf := hf.1 c3
        exact hret hf hI dJ26_rangeCheck_73 (hmC hm.1) (hmC hm.2)
      · have hf := hf.2 c3
        exact hf.elim
    · have hf := hf.2 c2
      exact hf.elim
  · have hf := hf.2 c1
    exact hf.elim
/-! java/util/Arrays.fill([BIIB)V -/
def hJ26_fill_b10 (j : JX) (Λ : JLam) (p1 : Int32) (p2 : Int32) (p3 : Int32) (post : HG → Prop) (K10 : Nat → Int32 → Nat → Nat → HG → Prop) (la0 : Nat) (lx4 : Int32) (mc ms : Nat) (G : HG) : Prop :=
  (p2 ≤ lx4 → (post G)) ∧ (¬ p2 ≤ lx4 → (stI G la0 (j.1 2) lx4 (vp_nar .byte p3) fun G7 => K10 la0 (lx4 + 1) mc ms G7))
def hJ26_fill_l10 (j : JX) (Λ : JLam) (p1 : Int32) (p2 : Int32) (p3 : Int32) (post : HG → Prop) : Nat → Nat → Int32 → Nat → Nat → HG → Prop
  | 0 => fun _ _ _ _ _ => False
  | n + 1 => fun la0 lx4 mc ms G => hJ26_fill_b10 j Λ p1 p2 p3 post (hJ26_fill_l10 j Λ p1 p2 p3 post n) la0 lx4 mc ms G
def hJ26_fill (j : JX) (Λ : JLam) (q0_ : Option Nat) (p1 : Int32) (p2 : Int32) (p3 : Int32) (mc ms : Nat) (G : HG) (post : HG → Prop) : Prop :=
  nnq q0_ fun a1 => aln (jty j.1) G a1 fun x2 => ∃ m3 m4 : Nat, m3 ≤ mc ∧ m4 ≤ ms ∧ hJ26_rangeCheck j Λ x2 p1 p2 m3 m4 G fun G5 => ∃ n, hJ26_fill_l10 j Λ p1 p2 p3 post n a1 p1 (mc - m3) (ms - m4) G5
abbrev rhJ26_fill (fr lo mc ms : Nat) : Room := { frames := fr + 2, cells := mc, slots := ms, locals := lo + 62 }
theorem mhJ26_fill (l : Launch) (Z : (Nat → Prop) → State → Heap → Prop) (D : va_G) (j : JX) (Λ : JLam) (fr lo : Nat) (E : JE l Z D j Λ fr lo) (q0_ : Option Nat) (p1 : Int32) (p2 : Int32) (p3 : Int32) (mc ms : Nat) (G : HG) (post : HG → Prop) (hf : hJ26_fill j Λ q0_ p1 p2 p3 mc ms G post) : HMv l yJ26_fill (ws_ yJ26_fill cJ26_fill 5 none) (rhJ26_fill fr lo mc ms) D jC (jty j.1) Z G [va_rf q0_, .int p1, .int p2, .int p3] post mc ms := by
  obtain ⟨MC, eMC⟩ : ∃ MC, MC = mc := ⟨_, rfl⟩
  obtain ⟨MS, eMS⟩ : ∃ MS, MS = ms := ⟨_, rfl⟩
  suffices goal : HMv l yJ26_fill (ws_ yJ26_fill cJ26_fill 5 none) (rhJ26_fill fr lo MC MS) D jC (jty j.1) Z G [va_rf q0_, .int p1, .int p2, .int p3] post MC MS by rw [eMC, eMS] at goal; exact goal
  have hm0_ : 0 + mc ≤ MC ∧ 0 + ms ≤ MS := by omega
  clear eMC eMS
  refine h_openv E.1 (by decide) (by cases q0_ <;> exact Nat.le_of_ble_eq_true rfl) (fun p e s m args below meth c ls A0 Q X hI hnd hnm hl hret => ?_)
  have X : XC p s m args meth c cJ26_fill 5 RJ26 D jC (jty j.1) A0 Z := X
  have hx := X.1
  have hb := X.2.1
  have hown := X.2.2.2.1
  have hts := X.2.2.2.2.1
  have L10 : ∀ (n : Nat) (la0 : Nat) (lx4 : Int32) (mc ms : Nat) (G : HG), hJ26_fill_l10 j Λ p1 p2 p3 post n la0 lx4 mc ms G → ∀ (cells slots : Nat), cells + mc ≤ MC ∧ slots + ms ≤ MS → ∀ (H : Heap) (locs : List Loc), HI D jC G A0 s.heap H locs → ∀ (ls : Array Slot), lv_has ls 5 [(0, .ref la0), (2, .int p2), (3, .int p3), (4, .int lx4)] → W p l e (rhJ26_fill fr lo MC MS) s m args below meth c H locs cells slots Q (F0 m 10 ls []) := by
    intro n10
    induction n10 with
    | zero => intro la0 lx4 mc ms G hf; exact hf.elim
    | succ n10 ih10 =>
      intro la0 lx4 mc ms G hf cells slots hm H locs hI ls hl
      have hf : hJ26_fill_b10 j Λ p1 p2 p3 post (hJ26_fill_l10 j Λ p1 p2 p3 post n10) la0 lx4 mc ms G := hf
      unfold hJ26_fill_b10 at hf
      refine lv_iload hx hb dJ26_fill_10 (lv_at hl 3 rfl) ?_
      refine lv_iload_n hx hb dJ26_fill_12 rfl (lv_at hl 1 rfl) ?_
      refine lv_icmp_ge (tgt := 27) hx hb dJ26_fill_13 (by decide) (fun c6 => ?_) (fun c6 => ?_)
      · have hf := hf.1 c6
        exact hret hf hI dJ26_fill_27 (hmC hm.1) (hmC hm.2)
      · have hf := hf.2 c6
        refine lv_aload_n hx hb dJ26_fill_16 rfl (lv_at hl 0 rfl) ?_
        refine lv_iload hx hb dJ26_fill_17 (lv_at hl 3 rfl) ?_
        refine lv_iload_n hx hb dJ26_fill_19 rfl (lv_at hl 2 rfl) ?_
        refine hr_bst X hI 2 rfl hf dJ26_fill_20 (fun G7 H locs hf hI => ?_)
        refine lv_iinc (v := lx4 + 1) (lv' := [(4, .int (lx4 + 1)), (0, .ref la0), (2, .int p2), (3, .int p3)]) hx hb dJ26_fill_21 hl (k := 3) rfl rfl (by decide) rfl (fun ls hl => ?_)
        refine lv_goto (tgt := 10) hx hb dJ26_fill_24 (by decide) ?_
        exact ih10 la0 (lx4 + 1) mc ms G7 hf _ _ hm H locs hI ls (lv_sub hl [1, 2, 3, 0] rfl)
  have hl : lv_has ls 5 [(0, va_rf q0_), (1, .int p1), (2, .int p2), (3, .int p3)] := by cases q0_ <;> exact hl
  unfold hJ26_fill at hf
  obtain ⟨H, eH⟩ : ∃ H, H = s.heap := ⟨_, rfl⟩
  obtain ⟨locs, eL⟩ : ∃ locs : List Loc, locs = [] := ⟨_, rfl⟩
  have hI : HI D jC G A0 s.heap H locs := by rw [eH, eL]; exact hI
  rw [← eL]
  obtain ⟨cells, eC⟩ : ∃ n : Nat, n = 0 := ⟨_, rfl⟩
  obtain ⟨slots, eS⟩ : ∃ n : Nat, n = 0 := ⟨_, rfl⟩
  have hm : cells + mc ≤ MC ∧ slots + ms ≤ MS := by rw [eC, eS]; exact hm0_
  suffices h : W p l e (rhJ26_fill fr lo MC MS) s m args below meth c H locs cells slots Q (F0 m 0 ls []) by rw [eH, eC, eS] at h; exact h
  clear eH eL eC eS
  refine h_aload_n (o := q0_) hx hb dJ26_fill_0 rfl (lv_at hl 0 rfl) ?_
  obtain ⟨a1, ea1, hf⟩ := hf
  revert hl hf
  subst ea1
  intro hl hf
  have hl : lv_has ls 5 [(0, .ref a1), (1, .int p1), (2, .int p2), (3, .int p3)] := hl
  refine hr_aln X hI hf dJ26_fill_1 (fun x2 hf => ?_)
  refine lv_iload_n hx hb dJ26_fill_2 rfl (lv_at hl 1 rfl) ?_
  refine lv_iload_n hx hb dJ26_fill_3 rfl (lv_at hl 2 rfl) ?_
  obtain ⟨m3, m4, hb1, hb2, hf⟩ := hf
  refine h_kv X hI (h_runS (As := [.int x2, .int p1, .int p2]) X hI (mhJ26_rangeCheck l Z D j Λ fr lo E x2 p1 p2 m3 m4 G _ hf H.size) (va_cwS 3 hts (lw_S q1603 q1604 q204 q1605) rfl rfl rfl (by decide +kernel) (by show fr + 1 + 1 ≤ fr + 2 ∧ 8 + (3 + 11) + (lo + 40) ≤ lo + 62; omega)) rfl hl.1 (Nat.le_of_ble_eq_true rfl) dJ26_fill_4 ⟨hmA hm.1 hb1, hmA hm.2 hb2⟩ rfl) (fun G5 H locs hf hI => ?_)
  have hm := And.intro (hmB hm.1 hb1) (hmB hm.2 hb2)
  clear hb1 hb2
  refine lv_iload_n hx hb dJ26_fill_7 rfl (lv_at hl 1 rfl) ?_
  refine lv_istore (lv' := [(4, .int p1), (0, .ref a1), (1, .int p1), (2, .int p2), (3, .int p3)]) hx hb dJ26_fill_8 hl (by decide) rfl (fun ls hl => ?_)
  obtain ⟨n, hf⟩ := hf
  exact L10 n a1 p1 (mc - m3) (ms - m4) G5 hf _ _ hm H locs hI ls (lv_sub hl [1, 3, 4, 0] rfl)
