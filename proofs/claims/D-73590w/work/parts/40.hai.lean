/-! THE COMPONENT as transformers over its heap, and the walks (printed by gen/genh.py) -/
/-! java/util/HashMap.put(Ljava/lang/Object;Ljava/lang/Object;)Ljava/lang/Object; -/
def hJ5_put (j : JX) (Λ : JLam) (a0 : Nat) (q1_ : Option Nat) (q2_ : Option Nat) (mc ms : Nat) (G : HG) (post : Option Nat → HG → Prop) : Prop :=
  hJ5_hash j Λ q1_ G fun x2 G1 => isO G1 a0 16 (∃ m3 m4 : Nat, m3 ≤ mc ∧ m4 ≤ ms ∧ hJ5_putVal j Λ a0 x2 q1_ q2_ (0 : Int32) (1 : Int32) m3 m4 G1 fun q6 G5 => post q6 G5)
abbrev rhJ5_put (fr lo mc ms : Nat) : Room := { frames := fr + 8, cells := mc, slots := ms, locals := lo + 247 }
theorem mhJ5_put (l : Launch) (Z : (Nat → Prop) → State → Heap → Prop) (D : va_G) (j : JX) (Λ : JLam) (fr lo : Nat) (E : JE l Z D j Λ fr lo) (a0 : Nat) (q1_ : Option Nat) (q2_ : Option Nat) (mc ms : Nat) (G : HG) (post : Option Nat → HG → Prop) (hf : hJ5_put j Λ a0 q1_ q2_ mc ms G post) : HMq l yJ5_put (ws_ yJ5_put cJ5_put 3 (some (.object "java/lang/Object"))) (rhJ5_put fr lo mc ms) D jC (jty j.1) Z G [.ref a0, va_rf q1_, va_rf q2_] post mc ms := by
  obtain ⟨MC, eMC⟩ : ∃ MC, MC = mc := ⟨_, rfl⟩
  obtain ⟨MS, eMS⟩ : ∃ MS, MS = ms := ⟨_, rfl⟩
  suffices goal : HMq l yJ5_put (ws_ yJ5_put cJ5_put 3 (some (.object "java/lang/Object"))) (rhJ5_put fr lo MC MS) D jC (jty j.1) Z G [.ref a0, va_rf q1_, va_rf q2_] post MC MS by rw [eMC, eMS] at goal; exact goal
  have hm0_ : 0 + mc ≤ MC ∧ 0 + ms ≤ MS := by omega
  clear eMC eMS
  refine h_openq (Or.inl ⟨_, rfl⟩) E.1 (by decide) (by cases q1_ <;> cases q2_ <;> exact Nat.le_of_ble_eq_true rfl) (fun p e s m args below meth c ls A0 Q X hI hnd hnm hl hret => ?_)
  have X : XC p s m args meth c cJ5_put 3 RJ5 D jC (jty j.1) A0 Z := X
  have hx := X.1
  have hb := X.2.1
  have hown := X.2.2.2.1
  have hts := X.2.2.2.2.1
  have hl : lv_has ls 3 [(0, .ref a0), (1, va_rf q1_), (2, va_rf q2_)] := by cases q1_ <;> cases q2_ <;> exact hl
  unfold hJ5_put at hf
  obtain ⟨H, eH⟩ : ∃ H, H = s.heap := ⟨_, rfl⟩
  obtain ⟨locs, eL⟩ : ∃ locs : List Loc, locs = [] := ⟨_, rfl⟩
  have hI : HI D jC G A0 s.heap H locs := by rw [eH, eL]; exact hI
  rw [← eL]
  obtain ⟨cells, eC⟩ : ∃ n : Nat, n = 0 := ⟨_, rfl⟩
  obtain ⟨slots, eS⟩ : ∃ n : Nat, n = 0 := ⟨_, rfl⟩
  have hm : cells + mc ≤ MC ∧ slots + ms ≤ MS := by rw [eC, eS]; exact hm0_
  suffices h : W p l e (rhJ5_put fr lo MC MS) s m args below meth c H locs cells slots Q (F0 m 0 ls []) by rw [eH, eC, eS] at h; exact h
  clear eH eL eC eS
  refine lv_aload_n hx hb dJ5_put_0 rfl (lv_at hl 0 rfl) ?_
  refine h_aload_n (o := q1_) hx hb dJ5_put_1 rfl (lv_at hl 1 rfl) ?_
  refine h_ki X hI (h_runS (As := [va_rf q1_]) X hI (mhJ5_hash l Z D j Λ fr lo E q1_ G _ hf H.size) (va_cwS 1 hts (lw_S q840 q841 q181 q842) rfl rfl rfl (by decide +kernel) (by show fr + 5 + 1 ≤ fr + 8 ∧ 8 + (2 + 11) + (lo + 130) ≤ lo + 247; omega)) rfl hl.1 (Nat.le_of_ble_eq_true rfl) dJ5_put_2 ⟨hm0 hm.1, hm0 hm.2⟩ rfl) (fun x2 G1 H locs hf hI => ?_)
  refine h_aload_n (o := q1_) hx hb dJ5_put_5 rfl (lv_at hl 1 rfl) ?_
  refine h_aload_n (o := q2_) hx hb dJ5_put_6 rfl (lv_at hl 2 rfl) ?_
  refine lv_iconst (v := 0) hx hb dJ5_put_7 (by decide) ?_
  refine lv_iconst (v := 1) hx hb dJ5_put_8 (by decide) ?_
  obtain ⟨_, _, hO, hf⟩ := hf
  obtain ⟨m3, m4, hb1, hb2, hf⟩ := hf
  refine h_kq X hI (h_runV (As := [.int x2, va_rf q1_, va_rf q2_, .int 0, .int 1]) X hI (h_recv X hI hO (show jC.1[16]? = some (RJ5, TJ5, 8) from rfl)) (mhJ5_putVal l Z D j Λ fr lo E a0 x2 q1_ q2_ (0 : Int32) (1 : Int32) m3 m4 G1 _ hf H.size) (cwV 5 hts (lw_V q944 q945 q946 q181 q947) rfl rfl rfl (by decide +kernel) (by show fr + 7 + 1 ≤ fr + 8 ∧ 8 + (13 + 11) + (lo + 215) ≤ lo + 247; omega)) rfl hl.1 (Nat.le_of_ble_eq_true rfl) dJ5_put_9 ⟨hmA hm.1 hb1, hmA hm.2 hb2⟩ rfl) (fun q6 G5 H locs hf hI => ?_)
  have hm := And.intro (hmB hm.1 hb1) (hmB hm.2 hb2)
  clear hb1 hb2
  clear hO
  exact hret (v := q6) hf hI dJ5_put_12 (hmC hm.1) (hmC hm.2)
/-! java/util/HashSet.add(Ljava/lang/Object;)Z -/
def hJ30_add (j : JX) (Λ : JLam) (a0 : Nat) (q1_ : Option Nat) (mc ms : Nat) (G : HG) (post : Int32 → HG → Prop) : Prop :=
  gtQ G a0 22 0 fun q1 => nnq q1 fun a2 => isO G a2 16 (∃ m3 m4 : Nat, m3 ≤ mc ∧ m4 ≤ ms ∧ hJ5_put j Λ a2 q1_ (some (j.2 42)) m3 m4 G fun q6 G5 => (q6 = none → (post (1 : Int32) G5)) ∧ (∀ a8, q6 = some a8 → (post (0 : Int32) G5)))
abbrev rhJ30_add (fr lo mc ms : Nat) : Room := { frames := fr + 9, cells := mc, slots := ms, locals := lo + 269 }
theorem mhJ30_add (l : Launch) (Z : (Nat → Prop) → State → Heap → Prop) (D : va_G) (j : JX) (Λ : JLam) (fr lo : Nat) (E : JE l Z D j Λ fr lo) (a0 : Nat) (q1_ : Option Nat) (mc ms : Nat) (G : HG) (post : Int32 → HG → Prop) (hf : hJ30_add j Λ a0 q1_ mc ms G post) : HMi l yJ30_add (ws_ yJ30_add cJ30_add 2 (some .boolean)) (rhJ30_add fr lo mc ms) D jC (jty j.1) Z G [.ref a0, va_rf q1_] post mc ms := by
  obtain ⟨MC, eMC⟩ : ∃ MC, MC = mc := ⟨_, rfl⟩
  obtain ⟨MS, eMS⟩ : ∃ MS, MS = ms := ⟨_, rfl⟩
  suffices goal : HMi l yJ30_add (ws_ yJ30_add cJ30_add 2 (some .boolean)) (rhJ30_add fr lo MC MS) D jC (jty j.1) Z G [.ref a0, va_rf q1_] post MC MS by rw [eMC, eMS] at goal; exact goal
  have hm0_ : 0 + mc ≤ MC ∧ 0 + ms ≤ MS := by omega
  clear eMC eMS
  refine h_openz E.1 (by decide) (by cases q1_ <;> exact Nat.le_of_ble_eq_true rfl) (fun p e s m args below meth c ls A0 Q X hI hnd hnm hl hret => ?_)
  have X : XC p s m args meth c cJ30_add 2 RJ30 D jC (jty j.1) A0 Z := X
  have hx := X.1
  have hb := X.2.1
  have hown := X.2.2.2.1
  have hts := X.2.2.2.2.1
  have hl : lv_has ls 2 [(0, .ref a0), (1, va_rf q1_)] := by cases q1_ <;> exact hl
  unfold hJ30_add at hf
  obtain ⟨H, eH⟩ : ∃ H, H = s.heap := ⟨_, rfl⟩
  obtain ⟨locs, eL⟩ : ∃ locs : List Loc, locs = [] := ⟨_, rfl⟩
  have hI : HI D jC G A0 s.heap H locs := by rw [eH, eL]; exact hI
  rw [← eL]
  obtain ⟨cells, eC⟩ : ∃ n : Nat, n = 0 := ⟨_, rfl⟩
  obtain ⟨slots, eS⟩ : ∃ n : Nat, n = 0 := ⟨_, rfl⟩
  have hm : cells + mc ≤ MC ∧ slots + ms ≤ MS := by rw [eC, eS]; exact hm0_
  suffices h : W p l e (rhJ30_add fr lo MC MS) s m args below meth c H locs cells slots Q (F0 m 0 ls []) by rw [eH, eC, eS] at h; exact h
  clear eH eL eC eS
  refine lv_aload_n hx hb dJ30_add_0 rfl (lv_at hl 0 rfl) ?_
  refine hr_gtQ X hI (rfl : jC.1[22]? = some (RJ30, TJ30, 1)) in_J30 0 (Nat.le_of_ble_eq_true rfl) hf q2227 (fun _ h => h) dJ30_add_1 (fun q1 hf => ?_)
  refine h_aload_n (o := q1_) hx hb dJ30_add_4 rfl (lv_at hl 1 rfl) ?_
  refine va_gets (v := .ref (j.2 42)) hx hb ((E.z X).2.2.1 _ (List.mem_of_getElem? (show jStR[2]? = some _ from rfl))) hI.2 hown (hts _ q2252) (fun _ h => h) dJ30_add_5 ?_
  obtain ⟨a2, ea2, hf⟩ := hf
  revert hl hf
  subst ea2
  intro hl hf
  have hl : lv_has ls 2 [(0, .ref a0), (1, va_rf q1_)] := hl
  obtain ⟨_, _, hO, hf⟩ := hf
  obtain ⟨m3, m4, hb1, hb2, hf⟩ := hf
  refine h_kq X hI (h_runV (As := [va_rf q1_, va_rf (some (j.2 42))]) X hI (h_recv X hI hO (show jC.1[16]? = some (RJ5, TJ5, 8) from rfl)) (mhJ5_put l Z D j Λ fr lo E a2 q1_ (some (j.2 42)) m3 m4 G _ hf H.size) (cwV 2 hts (lw_V q2254 q837 q838 q181 q839) rfl rfl rfl (by decide +kernel) (by show fr + 8 + 1 ≤ fr + 9 ∧ 8 + (3 + 11) + (lo + 247) ≤ lo + 269; omega)) rfl hl.1 (Nat.le_of_ble_eq_true rfl) dJ30_add_8 ⟨hmA hm.1 hb1, hmA hm.2 hb2⟩ rfl) (fun q6 G5 H locs hf hI => ?_)
  have hm := And.intro (hmB hm.1 hb1) (hmB hm.2 hb2)
  clear hb1 hb2
  clear hO
  refine h_ifnonnull (tgt := 18) hx hb dJ30_add_11 (by decide) (fun a8 c7 => ?_) (fun c7 => ?_)
  · have hf := hf.2 a8 c7
    revert hl hf
    subst c7
    intro hl hf
    have hl : lv_has ls 2 [(0, .ref a0), (1, va_rf q1_)] := hl
    refine lv_iconst (v := 0) hx hb dJ30_add_18 (by decide) ?_
    exact hret rfl hf hI dJ30_add_19 (hmC hm.1) (hmC hm.2)
  · have hf := hf.1 c7
    revert hl hf
    subst c7
    intro hl hf
    have hl : lv_has ls 2 [(0, .ref a0), (1, va_rf q1_)] := hl
    refine lv_iconst (v := 1) hx hb dJ30_add_14 (by decide) ?_
    refine lv_goto (tgt := 19) hx hb dJ30_add_15 (by decide) ?_
    exact hret rfl hf hI dJ30_add_19 (hmC hm.1) (hmC hm.2)
/-! java/util/HashMap.keysToArray([Ljava/lang/Object;)[Ljava/lang/Object; -/
def hJ5_keysToArray_b46 (j : JX) (Λ : JLam) (a0 : Nat) (post : Option Nat → HG → Prop) (K32 : Option Nat → Option Nat → Int32 → Nat → Int32 → Int32 → HG → Prop) (K46 : Option Nat → Option Nat → Int32 → Nat → Int32 → Int32 → Option Nat → HG → Prop) (lq1 : Option Nat) (lq2 : Option Nat) (lx4 : Int32) (la5 : Nat) (lx6 : Int32) (lx7 : Int32) (lq8 : Option Nat) (G : HG) : Prop :=
  (lq8 = none → (K32 lq1 lq2 lx4 la5 lx6 (lx7 + 1) G)) ∧ (∀ a10, lq8 = some a10 → (g2Q G a10 1 fun q11 => nnq lq2 fun a12 => stQ jOk (jty j.1) G a12 lx4 q11 fun G13 => g2Q G13 a10 3 fun q14 => K46 lq1 (some a12) (lx4 + 1) la5 lx6 lx7 q14 G13))
def hJ5_keysToArray_l46 (j : JX) (Λ : JLam) (a0 : Nat) (post : Option Nat → HG → Prop) (K32 : Option Nat → Option Nat → Int32 → Nat → Int32 → Int32 → HG → Prop) : Nat → Option Nat → Option Nat → Int32 → Nat → Int32 → Int32 → Option Nat → HG → Prop
  | 0 => fun _ _ _ _ _ _ _ _ => False
  | n + 1 => fun lq1 lq2 lx4 la5 lx6 lx7 lq8 G => hJ5_keysToArray_b46 j Λ a0 post K32 (hJ5_keysToArray_l46 j Λ a0 post K32 n) lq1 lq2 lx4 la5 lx6 lx7 lq8 G
def hJ5_keysToArray_b32 (j : JX) (Λ : JLam) (a0 : Nat) (post : Option Nat → HG → Prop) (K32 : Option Nat → Option Nat → Int32 → Nat → Int32 → Int32 → HG → Prop) (lq1 : Option Nat) (lq2 : Option Nat) (lx4 : Int32) (la5 : Nat) (lx6 : Int32) (lx7 : Int32) (G : HG) : Prop :=
  (lx6 ≤ lx7 → (post lq1 G)) ∧ (¬ lx6 ≤ lx7 → (ldQ (jty j.1) G la5 lx7 fun q8 => ∃ n, hJ5_keysToArray_l46 j Λ a0 post K32 n lq1 lq2 lx4 la5 lx6 lx7 q8 G))
def hJ5_keysToArray_l32 (j : JX) (Λ : JLam) (a0 : Nat) (post : Option Nat → HG → Prop) : Nat → Option Nat → Option Nat → Int32 → Nat → Int32 → Int32 → HG → Prop
  | 0 => fun _ _ _ _ _ _ _ => False
  | n + 1 => fun lq1 lq2 lx4 la5 lx6 lx7 G => hJ5_keysToArray_b32 j Λ a0 post (hJ5_keysToArray_l32 j Λ a0 post n) lq1 lq2 lx4 la5 lx6 lx7 G
def hJ5_keysToArray (j : JX) (Λ : JLam) (a0 : Nat) (q1_ : Option Nat) (G : HG) (post : Option Nat → HG → Prop) : Prop :=
  gtI G a0 16 4 fun x1 => (x1 ≤ 0 → (post q1_ G)) ∧ (¬ x1 ≤ 0 → (gtQ G a0 16 2 fun q3 => (q3 = none → (post q1_ G)) ∧ (∀ a5, q3 = some a5 → (aln (jty j.1) G a5 fun x6 => ∃ n, hJ5_keysToArray_l32 j Λ a0 post n q1_ q1_ (0 : Int32) a5 x6 (0 : Int32) G))))
abbrev rhJ5_keysToArray (fr lo : Nat) : Room := { frames := fr + 1, cells := 0, slots := 0, locals := lo + 40 }
theorem mhJ5_keysToArray (l : Launch) (Z : (Nat → Prop) → State → Heap → Prop) (D : va_G) (j : JX) (Λ : JLam) (fr lo : Nat) (E : JE l Z D j Λ fr lo) (a0 : Nat) (q1_ : Option Nat) (G : HG) (post : Option Nat → HG → Prop) (hf : hJ5_keysToArray j Λ a0 q1_ G post) : HMq l yJ5_keysToArray (ws_ yJ5_keysToArray cJ5_keysToArray 9 (some (.array (.object "java/lang/Object")))) (rhJ5_keysToArray fr lo) D jC (jty j.1) Z G [.ref a0, va_rf q1_] post 0 0 := by
  refine h_openq (Or.inr ⟨_, rfl⟩) E.1 (by decide) (by cases q1_ <;> exact Nat.le_of_ble_eq_true rfl) (fun p e s m args below meth c ls A0 Q X hI hnd hnm hl hret => ?_)
  have X : XC p s m args meth c cJ5_keysToArray 9 RJ5 D jC (jty j.1) A0 Z := X
  have hx := X.1
  have hb := X.2.1
  have hown := X.2.2.2.1
  have hts := X.2.2.2.2.1
  have L32 : ∀ (n : Nat) (lq1 : Option Nat) (lq2 : Option Nat) (lx4 : Int32) (la5 : Nat) (lx6 : Int32) (lx7 : Int32) (G : HG), hJ5_keysToArray_l32 j Λ a0 post n lq1 lq2 lx4 la5 lx6 lx7 G → ∀ (H : Heap) (locs : List Loc), HI D jC G A0 s.heap H locs → ∀ (ls : Array Slot), lv_has ls 9 [(1, va_rf lq1), (2, va_rf lq2), (4, .int lx4), (5, .ref la5), (6, .int lx6), (7, .int lx7)] → W p l e (rhJ5_keysToArray fr lo) s m args below meth c H locs 0 0 Q (F0 m 32 ls []) := by
    intro n32
    induction n32 with
    | zero => intro lq1 lq2 lx4 la5 lx6 lx7 G hf; exact hf.elim
    | succ n32 ih32 =>
      have L46 : ∀ (n : Nat) (lq1 : Option Nat) (lq2 : Option Nat) (lx4 : Int32) (la5 : Nat) (lx6 : Int32) (lx7 : Int32) (lq8 : Option Nat) (G : HG), hJ5_keysToArray_l46 j Λ a0 post (hJ5_keysToArray_l32 j Λ a0 post n32) n lq1 lq2 lx4 la5 lx6 lx7 lq8 G → ∀ (H : Heap) (locs : List Loc), HI D jC G A0 s.heap H locs → ∀ (ls : Array Slot), lv_has ls 9 [(1, va_rf lq1), (2, va_rf lq2), (4, .int lx4), (5, .ref la5), (6, .int lx6), (7, .int lx7), (8, va_rf lq8)] → W p l e (rhJ5_keysToArray fr lo) s m args below meth c H locs 0 0 Q (F0 m 46 ls []) := by
        intro n46
        induction n46 with
        | zero => intro lq1 lq2 lx4 la5 lx6 lx7 lq8 G hf; exact hf.elim
        | succ n46 ih46 =>
          intro lq1 lq2 lx4 la5 lx6 lx7 lq8 G hf H locs hI ls hl
          have hf : hJ5_keysToArray_b46 j Λ a0 post (hJ5_keysToArray_l32 j Λ a0 post n32) (hJ5_keysToArray_l46 j Λ a0 post (hJ5_keysToArray_l32 j Λ a0 post n32) n46) lq1 lq2 lx4 la5 lx6 lx7 lq8 G := hf
          unfold hJ5_keysToArray_b46 at hf
          refine h_aload (o := lq8) hx hb dJ5_keysToArray_46 (lv_at hl 6 rfl) ?_
          refine h_ifnull (tgt := 73) hx hb dJ5_keysToArray_48 (by decide) (fun c9 => ?_) (fun a10 c9 => ?_)
          · have hf := hf.1 c9
            revert hl hf
            subst c9
            intro hl hf
            have hl : lv_has ls 9 [(1, va_rf lq1), (2, va_rf lq2), (4, .int lx4), (5, .ref la5), (6, .int lx6), (7, .int lx7), (8, va_rf none)] := hl
            refine lv_iinc (v := lx7 + 1) (lv' := [(7, .int (lx7 + 1)), (1, va_rf lq1), (2, va_rf lq2), (4, .int lx4), (5, .ref la5), (6, .int lx6), (8, va_rf none)]) hx hb dJ5_keysToArray_73 hl (k := 5) rfl rfl (by decide) rfl (fun ls hl => ?_)
            refine lv_goto (tgt := 32) hx hb dJ5_keysToArray_76 (by decide) ?_
            exact ih32 lq1 lq2 lx4 la5 lx6 (lx7 + 1) G hf H locs hI ls (lv_sub hl [1, 2, 3, 4, 5, 0] rfl)
          · have hf := hf.2 a10 c9
            revert hl hf
            subst c9
            intro hl hf
            have hl : lv_has ls 9 [(1, va_rf lq1), (2, va_rf lq2), (4, .int lx4), (5, .ref la5), (6, .int lx6), (7, .int lx7), (8, .ref a10)] := hl
            refine h_aload_n (o := lq2) hx hb dJ5_keysToArray_51 rfl (lv_at hl 1 rfl) ?_
            refine lv_iload hx hb dJ5_keysToArray_52 (lv_at hl 2 rfl) ?_
            refine lv_iinc (v := lx4 + 1) (lv' := [(4, .int (lx4 + 1)), (1, va_rf lq1), (2, va_rf lq2), (5, .ref la5), (6, .int lx6), (7, .int lx7), (8, .ref a10)]) hx hb dJ5_keysToArray_54 hl (k := 2) rfl rfl (by decide) rfl (fun ls hl => ?_)
            refine lv_aload hx hb dJ5_keysToArray_57 (lv_at hl 6 rfl) ?_
            refine hr_g2Q X hI 1 (Nat.le_of_ble_eq_true rfl) hf rfl q983 (fun _ h => h) dJ5_keysToArray_59 (fun q11 hf => ?_)
            obtain ⟨a12, ea12, hf⟩ := hf
            revert hl hf
            subst ea12
            intro hl hf
            have hl : lv_has ls 9 [(4, .int (lx4 + 1)), (1, va_rf lq1), (2, .ref a12), (5, .ref la5), (6, .int lx6), (7, .int lx7), (8, .ref a10)] := hl
            refine hr_qst (v := q11) X hI (jOk_asg (E.w X)) hf dJ5_keysToArray_62 (fun G13 H locs hf hI => ?_)
            refine lv_aload hx hb dJ5_keysToArray_63 (lv_at hl 6 rfl) ?_
            refine hr_g2Q X hI 3 (Nat.le_of_ble_eq_true rfl) hf rfl q990 (fun _ h => h) dJ5_keysToArray_65 (fun q14 hf => ?_)
            refine h_astore (o := q14) (lv' := [(8, va_rf q14), (4, .int (lx4 + 1)), (1, va_rf lq1), (2, .ref a12), (5, .ref la5), (6, .int lx6), (7, .int lx7)]) hx hb dJ5_keysToArray_68 hl (by decide) rfl (fun ls hl => ?_)
            refine lv_goto (tgt := 46) hx hb dJ5_keysToArray_70 (by decide) ?_
            exact ih46 lq1 (some a12) (lx4 + 1) la5 lx6 lx7 q14 G13 hf H locs hI ls (lv_sub hl [2, 3, 1, 4, 5, 6, 0] rfl)
      intro lq1 lq2 lx4 la5 lx6 lx7 G hf H locs hI ls hl
      have hf : hJ5_keysToArray_b32 j Λ a0 post (hJ5_keysToArray_l32 j Λ a0 post n32) lq1 lq2 lx4 la5 lx6 lx7 G := hf
      unfold hJ5_keysToArray_b32 at hf
      refine lv_iload hx hb dJ5_keysToArray_32 (lv_at hl 5 rfl) ?_
      refine lv_iload hx hb dJ5_keysToArray_34 (lv_at hl 4 rfl) ?_
      refine lv_icmp_ge (tgt := 79) hx hb dJ5_keysToArray_36 (by decide) (fun c7 => ?_) (fun c7 => ?_)
      · have hf := hf.1 c7
        refine h_aload_n (o := lq1) hx hb dJ5_keysToArray_79 rfl (lv_at hl 0 rfl) ?_
        exact hret (v := lq1) hf hI dJ5_keysToArray_80 (Nat.le_refl _) (Nat.le_refl _)
      · have hf := hf.2 c7
        refine lv_aload hx hb dJ5_keysToArray_39 (lv_at hl 3 rfl) ?_
        refine lv_iload hx hb dJ5_keysToArray_41 (lv_at hl 5 rfl) ?_
        refine hr_qld X hI hf dJ5_keysToArray_43 (fun q8 hf => ?_)
        refine h_astore (o := q8) (lv' := [(8, va_rf q8), (1, va_rf lq1), (2, va_rf lq2), (4, .int lx4), (5, .ref la5), (6, .int lx6), (7, .int lx7)]) hx hb dJ5_keysToArray_44 hl (by decide) rfl (fun ls hl => ?_)
        obtain ⟨n, hf⟩ := hf
        exact L46 n lq1 lq2 lx4 la5 lx6 lx7 q8 G hf H locs hI ls (lv_sub hl [1, 2, 3, 4, 5, 6, 0] rfl)
  have hl : lv_has ls 9 [(0, .ref a0), (1, va_rf q1_)] := by cases q1_ <;> exact hl
  unfold hJ5_keysToArray at hf
  obtain ⟨H, eH⟩ : ∃ H, H = s.heap := ⟨_, rfl⟩
  obtain ⟨locs, eL⟩ : ∃ locs : List Loc, locs = [] := ⟨_, rfl⟩
  have hI : HI D jC G A0 s.heap H locs := by rw [eH, eL]; exact hI
  rw [← eL]
  suffices h : W p l e (rhJ5_keysToArray fr lo) s m args below meth c H locs 0 0 Q (F0 m 0 ls []) by rw [eH] at h; exact h
  clear eH eL
  refine h_aload_n (o := q1_) hx hb dJ5_keysToArray_0 rfl (lv_at hl 1 rfl) ?_
  refine h_astore_n (o := q1_) (lv' := [(2, va_rf q1_), (0, .ref a0), (1, va_rf q1_)]) hx hb dJ5_keysToArray_1 rfl hl (by decide) (by cases q1_ <;> rfl) (fun ls hl => ?_)
  refine lv_iconst (v := 0) hx hb dJ5_keysToArray_2 (by decide) ?_
  refine lv_istore (lv' := [(4, .int 0), (2, va_rf q1_), (0, .ref a0), (1, va_rf q1_)]) hx hb dJ5_keysToArray_3 hl (by decide) rfl (fun ls hl => ?_)
  refine lv_aload_n hx hb dJ5_keysToArray_5 rfl (lv_at hl 2 rfl) ?_
  refine hr_gtI X hI (rfl : jC.1[16]? = some (RJ5, TJ5, 8)) in_J5 4 (Nat.le_of_ble_eq_true rfl) hf q748 (fun _ h => h) dJ5_keysToArray_6 (fun x1 hf => ?_)
  refine lv_if_le (tgt := 79) hx hb dJ5_keysToArray_9 (by decide) (fun c2 => ?_) (fun c2 => ?_)
  · have hf := hf.1 c2
    refine h_aload_n (o := q1_) hx hb dJ5_keysToArray_79 rfl (lv_at hl 3 rfl) ?_
    exact hret (v := q1_) hf hI dJ5_keysToArray_80 (Nat.le_refl _) (Nat.le_refl _)
  · have hf := hf.2 c2
    refine lv_aload_n hx hb dJ5_keysToArray_12 rfl (lv_at hl 2 rfl) ?_
    refine hr_gtQ X hI (rfl : jC.1[16]? = some (RJ5, TJ5, 8)) in_J5 2 (Nat.le_of_ble_eq_true rfl) hf q747 (fun _ h => h) dJ5_keysToArray_13 (fun q3 hf => ?_)
    refine lv_dup hx hb dJ5_keysToArray_16 (h_catq _) ?_
    refine h_astore_n (o := q3) (lv' := [(3, va_rf q3), (4, .int 0), (2, va_rf q1_), (0, .ref a0), (1, va_rf q1_)]) hx hb dJ5_keysToArray_17 rfl hl (by decide) (by cases q1_ <;> rfl) (fun ls hl => ?_)
    refine h_ifnull (tgt := 79) hx hb dJ5_keysToArray_18 (by decide) (fun c4 => ?_) (fun a5 c4 => ?_)
    · have hf := hf.1 c4
      revert hl hf
      subst c4
      intro hl hf
      have hl : lv_has ls 9 [(3, va_rf none), (4, .int 0), (2, va_rf q1_), (0, .ref a0), (1, va_rf q1_)] := hl
      refine h_aload_n (o := q1_) hx hb dJ5_keysToArray_79 rfl (lv_at hl 4 rfl) ?_
      exact hret (v := q1_) hf hI dJ5_keysToArray_80 (Nat.le_refl _) (Nat.le_refl _)
    · have hf := hf.2 a5 c4
      revert hl hf
      subst c4
      intro hl hf
      have hl : lv_has ls 9 [(3, .ref a5), (4, .int 0), (2, va_rf q1_), (0, .ref a0), (1, va_rf q1_)] := hl
      refine lv_aload_n hx hb dJ5_keysToArray_21 rfl (lv_at hl 0 rfl) ?_
      refine lv_astore (lv' := [(5, .ref a5), (3, .ref a5), (4, .int 0), (2, va_rf q1_), (0, .ref a0), (1, va_rf q1_)]) hx hb dJ5_keysToArray_22 hl (by decide) rfl (fun ls hl => ?_)
      refine lv_aload hx hb dJ5_keysToArray_24 (lv_at hl 0 rfl) ?_
      refine hr_aln X hI hf dJ5_keysToArray_26 (fun x6 hf => ?_)
      refine lv_istore (lv' := [(6, .int x6), (5, .ref a5), (3, .ref a5), (4, .int 0), (2, va_rf q1_), (0, .ref a0), (1, va_rf q1_)]) hx hb dJ5_keysToArray_27 hl (by decide) rfl (fun ls hl => ?_)
      refine lv_iconst (v := 0) hx hb dJ5_keysToArray_29 (by decide) ?_
      refine lv_istore (lv' := [(7, .int 0), (6, .int x6), (5, .ref a5), (3, .ref a5), (4, .int 0), (2, va_rf q1_), (0, .ref a0), (1, va_rf q1_)]) hx hb dJ5_keysToArray_30 hl (by decide) rfl (fun ls hl => ?_)
      obtain ⟨n, hf⟩ := hf
      exact L32 n q1_ q1_ (0 : Int32) a5 x6 (0 : Int32) G hf H locs hI ls (lv_sub hl [7, 5, 4, 2, 1, 0] rfl)
/-! java/util/HashSet.toArray()[Ljava/lang/Object; -/
def hJ30_toArray (j : JX) (Λ : JLam) (a0 : Nat) (mc ms : Nat) (G : HG) (post : Option Nat → HG → Prop) : Prop :=
  gtQ G a0 22 0 fun q1 => gtQ G a0 22 0 fun q2 => nnq q2 fun a3 => isO G a3 16 (hJ5_size j Λ a3 G fun x5 G4 => 1 ≤ mc ∧ x5.toNatClampNeg ≤ ms ∧ (¬ x5 < 0 ∧ x5.toNatClampNeg ≤ 65536 ∧ mkO G4 (.inl (j.1 10, x5.toNatClampNeg, .inr (.inr (.inr (.inr (fun _ => none)))))) fun a6 G7 => nnq q1 fun a8 => isO G7 a8 16 (hJ5_keysToArray j Λ a8 (some a6) G7 fun q10 G9 => post q10 G9)))
abbrev rhJ30_toArray (fr lo mc ms : Nat) : Room := { frames := fr + 2, cells := mc, slots := ms, locals := lo + 68 }
theorem mhJ30_toArray (l : Launch) (Z : (Nat → Prop) → State → Heap → Prop) (D : va_G) (j : JX) (Λ : JLam) (fr lo : Nat) (E : JE l Z D j Λ fr lo) (a0 : Nat) (mc ms : Nat) (G : HG) (post : Option Nat → HG → Prop) (hf : hJ30_toArray j Λ a0 mc ms G post) : HMq l yJ30_toArray (ws_ yJ30_toArray cJ30_toArray 1 (some (.array (.object "java/lang/Object")))) (rhJ30_toArray fr lo mc ms) D jC (jty j.1) Z G [.ref a0] post mc ms := by
  obtain ⟨MC, eMC⟩ : ∃ MC, MC = mc := ⟨_, rfl⟩
  obtain ⟨MS, eMS⟩ : ∃ MS, MS = ms := ⟨_, rfl⟩
  suffices goal : HMq l yJ30_toArray (ws_ yJ30_toArray cJ30_toArray 1 (some (.array (.object "java/lang/Object")))) (rhJ30_toArray fr lo MC MS) D jC (jty j.1) Z G [.ref a0] post MC MS by rw [eMC, eMS] at goal; exact goal
  have hm0_ : 0 + mc ≤ MC ∧ 0 + ms ≤ MS := by omega
  clear eMC eMS
  refine h_openq (Or.inr ⟨_, rfl⟩) E.1 (by decide) (by exact Nat.le_of_ble_eq_true rfl) (fun p e s m args below meth c ls A0 Q X hI hnd hnm hl hret => ?_)
  have X : XC p s m args meth c cJ30_toArray 1 RJ30 D jC (jty j.1) A0 Z := X
  have hx := X.1
  have hb := X.2.1
  have hown := X.2.2.2.1
  have hts := X.2.2.2.2.1
  have hl : lv_has ls 1 [(0, .ref a0)] := by exact hl
  unfold hJ30_toArray at hf
  obtain ⟨H, eH⟩ : ∃ H, H = s.heap := ⟨_, rfl⟩
  obtain ⟨locs, eL⟩ : ∃ locs : List Loc, locs = [] := ⟨_, rfl⟩
  have hI : HI D jC G A0 s.heap H locs := by rw [eH, eL]; exact hI
  rw [← eL]
  obtain ⟨cells, eC⟩ : ∃ n : Nat, n = 0 := ⟨_, rfl⟩
  obtain ⟨slots, eS⟩ : ∃ n : Nat, n = 0 := ⟨_, rfl⟩
  have hm : cells + mc ≤ MC ∧ slots + ms ≤ MS := by rw [eC, eS]; exact hm0_
  suffices h : W p l e (rhJ30_toArray fr lo MC MS) s m args below meth c H locs cells slots Q (F0 m 0 ls []) by rw [eH, eC, eS] at h; exact h
  clear eH eL eC eS
  refine lv_aload_n hx hb dJ30_toArray_0 rfl (lv_at hl 0 rfl) ?_
  refine hr_gtQ X hI (rfl : jC.1[22]? = some (RJ30, TJ30, 1)) in_J30 0 (Nat.le_of_ble_eq_true rfl) hf q2227 (fun _ h => h) dJ30_toArray_1 (fun q1 hf => ?_)
  refine lv_aload_n hx hb dJ30_toArray_4 rfl (lv_at hl 0 rfl) ?_
  refine hr_gtQ X hI (rfl : jC.1[22]? = some (RJ30, TJ30, 1)) in_J30 0 (Nat.le_of_ble_eq_true rfl) hf q2227 (fun _ h => h) dJ30_toArray_5 (fun q2 hf => ?_)
  obtain ⟨a3, ea3, hf⟩ := hf
  revert hl hf
  subst ea3
  intro hl hf
  have hl : lv_has ls 1 [(0, .ref a0)] := hl
  obtain ⟨_, _, hO, hf⟩ := hf
  refine h_ki X hI (h_runV (As := []) X hI (h_recv X hI hO (show jC.1[16]? = some (RJ5, TJ5, 8) from rfl)) (mhJ5_size l Z D j Λ fr lo E a3 G _ hf H.size) (cwV 0 hts (lw_V q2259 q2260 q2261 q181 q2262) rfl rfl rfl (by decide +kernel) (by show fr + 1 + 1 ≤ fr + 2 ∧ 8 + (1 + 11) + (lo + 40) ≤ lo + 68; omega)) rfl hl.1 (by cases q1 <;> exact Nat.le_of_ble_eq_true rfl) dJ30_toArray_8 ⟨hm0 hm.1, hm0 hm.2⟩ rfl) (fun x5 G4 H locs hf hI => ?_)
  clear hO
  obtain ⟨hb1, hb2, hf⟩ := hf
  refine hr_newq X hI 10 q2643 ((E.w X).2.1 _ q456) rfl hf (hmA hm.1 hb1) (hmA hm.2 hb2) dJ30_toArray_11 (fun a6 G7 H hf hI => ?_)
  have hm := And.intro (hmB hm.1 hb1) (hmB hm.2 hb2)
  clear hb1 hb2
  obtain ⟨a8, ea8, hf⟩ := hf
  revert hl hf
  subst ea8
  intro hl hf
  have hl : lv_has ls 1 [(0, .ref a0)] := hl
  obtain ⟨_, _, hO, hf⟩ := hf
  refine h_kq X hI (h_runV (As := [va_rf (some a6)]) X hI (h_recv X hI hO (show jC.1[16]? = some (RJ5, TJ5, 8) from rfl)) (mhJ5_keysToArray l Z D j Λ fr lo E a8 (some a6) G7 _ hf H.size) (cwV 1 hts (lw_V q2644 q2645 q2646 q181 q2647) rfl rfl rfl (by decide +kernel) (by show fr + 1 + 1 ≤ fr + 2 ∧ 8 + (9 + 11) + (lo + 40) ≤ lo + 68; omega)) rfl hl.1 (Nat.le_of_ble_eq_true rfl) dJ30_toArray_14 ⟨hm0 hm.1, hm0 hm.2⟩ rfl) (fun q10 G9 H locs hf hI => ?_)
  clear hO
  exact hret (v := q10) hf hI dJ30_toArray_17 (hmC hm.1) (hmC hm.2)
/-! java/util/HashMap.getNode(Ljava/lang/Object;)Ljava/util/HashMap$Node; -/
def hJ5_getNode_b137 (j : JX) (Λ : JLam) (a0 : Nat) (post : Option Nat → HG → Prop) (K99 : Option Nat → Nat → Int32 → HG → Prop) (lq1 : Option Nat) (la4 : Nat) (lx6 : Int32) (G : HG) : Prop :=
  g2Q G la4 3 fun q36 => (q36 = none → (post none G)) ∧ (∀ a38, q36 = some a38 → (K99 lq1 a38 lx6 G))
def hJ5_getNode_b99 (j : JX) (Λ : JLam) (a0 : Nat) (post : Option Nat → HG → Prop) (K99 : Option Nat → Nat → Int32 → HG → Prop) (lq1 : Option Nat) (la4 : Nat) (lx6 : Int32) (G : HG) : Prop :=
  g2I G la4 0 fun x27 => (x27 = lx6 → (g2Q G la4 1 fun q29 => (q29 = lq1 → (post (some la4) G)) ∧ (¬ q29 = lq1 → ((lq1 = none → (hJ5_getNode_b137 j Λ a0 post K99 none la4 lx6 G)) ∧ (∀ a32, lq1 = some a32 → (dispequals j Λ a32 q29 G fun x33 G34 => (x33 = 0 → (hJ5_getNode_b137 j Λ a0 post K99 (some a32) la4 lx6 G34)) ∧ (¬ x33 = 0 → (post (some la4) G34)))))))) ∧ (¬ x27 = lx6 → (hJ5_getNode_b137 j Λ a0 post K99 lq1 la4 lx6 G))
def hJ5_getNode_l99 (j : JX) (Λ : JLam) (a0 : Nat) (post : Option Nat → HG → Prop) : Nat → Option Nat → Nat → Int32 → HG → Prop
  | 0 => fun _ _ _ _ => False
  | n + 1 => fun lq1 la4 lx6 G => hJ5_getNode_b99 j Λ a0 post (hJ5_getNode_l99 j Λ a0 post n) lq1 la4 lx6 G
def hJ5_getNode_b71 (j : JX) (Λ : JLam) (a0 : Nat) (post : Option Nat → HG → Prop) (lq1 : Option Nat) (la3 : Nat) (lx6 : Int32) (G : HG) : Prop :=
  g2Q G la3 3 fun q20 => (q20 = none → (post none G)) ∧ (∀ a22, q20 = some a22 → (inO G (some la3) "java/util/HashMap$TreeNode" fun x23 => (x23 = 0 → (∃ n, hJ5_getNode_l99 j Λ a0 post n lq1 a22 lx6 G)) ∧ (¬ x23 = 0 → (csO G (some la3) "java/util/HashMap$TreeNode" (isO G la3 18 (hJ23_getTreeNode j Λ la3 lx6 lq1 G fun q26 G25 => post q26 G25))))))
def hJ5_getNode (j : JX) (Λ : JLam) (a0 : Nat) (q1_ : Option Nat) (G : HG) (post : Option Nat → HG → Prop) : Prop :=
  gtQ G a0 16 2 fun q1 => (q1 = none → (post none G)) ∧ (∀ a3, q1 = some a3 → (aln (jty j.1) G a3 fun x4 => (x4 ≤ 0 → (post none G)) ∧ (¬ x4 ≤ 0 → (hJ5_hash j Λ q1_ G fun x7 G6 => ldQ (jty j.1) G6 a3 ((x4 - 1) &&& x7) fun q8 => (q8 = none → (post none G6)) ∧ (∀ a10, q8 = some a10 → (g2I G6 a10 0 fun x11 => (x11 = x7 → (g2Q G6 a10 1 fun q13 => (q13 = q1_ → (post (some a10) G6)) ∧ (¬ q13 = q1_ → ((q1_ = none → (hJ5_getNode_b71 j Λ a0 post none a10 x7 G6)) ∧ (∀ a16, q1_ = some a16 → (dispequals j Λ a16 q13 G6 fun x17 G18 => (x17 = 0 → (hJ5_getNode_b71 j Λ a0 post (some a16) a10 x7 G18)) ∧ (¬ x17 = 0 → (post (some a10) G18)))))))) ∧ (¬ x11 = x7 → (hJ5_getNode_b71 j Λ a0 post q1_ a10 x7 G6))))))))
abbrev rhJ5_getNode (fr lo : Nat) : Room := { frames := fr + 6, cells := 0, slots := 0, locals := lo + 151 }
theorem mhJ5_getNode (l : Launch) (Z : (Nat → Prop) → State → Heap → Prop) (D : va_G) (j : JX) (Λ : JLam) (fr lo : Nat) (E : JE l Z D j Λ fr lo) (a0 : Nat) (q1_ : Option Nat) (G : HG) (post : Option Nat → HG → Prop) (hf : hJ5_getNode j Λ a0 q1_ G post) : HMq l yJ5_getNode (ws_ yJ5_getNode cJ5_getNode 8 (some (.object "java/util/HashMap$Node"))) (rhJ5_getNode fr lo) D jC (jty j.1) Z G [.ref a0, va_rf q1_] post 0 0 := by
  refine h_openq (Or.inl ⟨_, rfl⟩) E.1 (by decide) (by cases q1_ <;> exact Nat.le_of_ble_eq_true rfl) (fun p e s m args below meth c ls A0 Q X hI hnd hnm hl hret => ?_)
  have X : XC p s m args meth c cJ5_getNode 8 RJ5 D jC (jty j.1) A0 Z := X
  have hx := X.1
  have hb := X.2.1
  have hown := X.2.2.2.1
  have hts := X.2.2.2.2.1
  have L99 : ∀ (n : Nat) (lq1 : Option Nat) (la4 : Nat) (lx6 : Int32) (G : HG), hJ5_getNode_l99 j Λ a0 post n lq1 la4 lx6 G → ∀ (H : Heap) (locs : List Loc), HI D jC G A0 s.heap H locs → ∀ (ls : Array Slot), lv_has ls 8 [(1, va_rf lq1), (4, .ref la4), (6, .int lx6)] → W p l e (rhJ5_getNode fr lo) s m args below meth c H locs 0 0 Q (F0 m 99 ls []) := by
    intro n99
    induction n99 with
    | zero => intro lq1 la4 lx6 G hf; exact hf.elim
    | succ n99 ih99 =>
      have J137 : ∀ (lq1 : Option Nat) (la4 : Nat) (lx6 : Int32) (G : HG), hJ5_getNode_b137 j Λ a0 post (hJ5_getNode_l99 j Λ a0 post n99) lq1 la4 lx6 G → ∀ (H : Heap) (locs : List Loc), HI D jC G A0 s.heap H locs → ∀ (ls : Array Slot), lv_has ls 8 [(1, va_rf lq1), (4, .ref la4), (6, .int lx6)] → W p l e (rhJ5_getNode fr lo) s m args below meth c H locs 0 0 Q (F0 m 137 ls []) := by
        intro lq1 la4 lx6 G hf H locs hI ls hl
        unfold hJ5_getNode_b137 at hf
        refine lv_aload hx hb dJ5_getNode_137 (lv_at hl 1 rfl) ?_
        refine hr_g2Q X hI 3 (Nat.le_of_ble_eq_true rfl) hf rfl q990 (fun _ h => h) dJ5_getNode_139 (fun q36 hf => ?_)
        refine lv_dup hx hb dJ5_getNode_142 (h_catq _) ?_
        refine h_astore (o := q36) (lv' := [(4, va_rf q36), (1, va_rf lq1), (6, .int lx6)]) hx hb dJ5_getNode_143 hl (by decide) rfl (fun ls hl => ?_)
        refine h_ifnonnull (tgt := 99) hx hb dJ5_getNode_145 (by decide) (fun a38 c37 => ?_) (fun c37 => ?_)
        · have hf := hf.2 a38 c37
          revert hl hf
          subst c37
          intro hl hf
          have hl : lv_has ls 8 [(4, .ref a38), (1, va_rf lq1), (6, .int lx6)] := hl
          exact ih99 lq1 a38 lx6 G hf H locs hI ls (lv_sub hl [1, 0, 2] rfl)
        · have hf := hf.1 c37
          revert hl hf
          subst c37
          intro hl hf
          have hl : lv_has ls 8 [(4, va_rf none), (1, va_rf lq1), (6, .int lx6)] := hl
          refine lv_null hx hb dJ5_getNode_148 ?_
          exact hret (v := none) hf hI dJ5_getNode_149 (Nat.le_refl _) (Nat.le_refl _)
      intro lq1 la4 lx6 G hf H locs hI ls hl
      have hf : hJ5_getNode_b99 j Λ a0 post (hJ5_getNode_l99 j Λ a0 post n99) lq1 la4 lx6 G := hf
      unfold hJ5_getNode_b99 at hf
      refine lv_aload hx hb dJ5_getNode_99 (lv_at hl 1 rfl) ?_
      refine hr_g2I X hI 0 (Nat.le_of_ble_eq_true rfl) hf rfl q979 (fun _ h => h) dJ5_getNode_101 (fun x27 hf => ?_)
      refine lv_iload hx hb dJ5_getNode_104 (lv_at hl 2 rfl) ?_
      refine lv_icmp_ne (tgt := 137) hx hb dJ5_getNode_106 (by decide) (fun c28 => ?_) (fun c28 => ?_)
      · have hf := hf.2 c28
        exact J137 lq1 la4 lx6 G hf H locs hI ls (lv_sub hl [0, 1, 2] rfl)
      · have hf := hf.1 c28
        refine lv_aload hx hb dJ5_getNode_109 (lv_at hl 1 rfl) ?_
        refine hr_g2Q X hI 1 (Nat.le_of_ble_eq_true rfl) hf rfl q983 (fun _ h => h) dJ5_getNode_111 (fun q29 hf => ?_)
        refine lv_dup hx hb dJ5_getNode_114 (h_catq _) ?_
        refine h_astore (o := q29) (lv' := [(7, va_rf q29), (1, va_rf lq1), (4, .ref la4), (6, .int lx6)]) hx hb dJ5_getNode_115 hl (by decide) rfl (fun ls hl => ?_)
        refine h_aload_n (o := lq1) hx hb dJ5_getNode_117 rfl (lv_at hl 1 rfl) ?_
        refine lv_acmp_eq (rx := q29) (ry := lq1) (tgt := 134) hx hb dJ5_getNode_118 (by decide) (fun c30 => ?_) (fun c30 => ?_)
        · have hf := hf.1 c30
          refine lv_aload hx hb dJ5_getNode_134 (lv_at hl 2 rfl) ?_
          exact hret (v := (some la4)) hf hI dJ5_getNode_136 (Nat.le_refl _) (Nat.le_refl _)
        · have hf := hf.2 c30
          refine h_aload_n (o := lq1) hx hb dJ5_getNode_121 rfl (lv_at hl 1 rfl) ?_
          refine h_ifnull (tgt := 137) hx hb dJ5_getNode_122 (by decide) (fun c31 => ?_) (fun a32 c31 => ?_)
          · have hf := hf.1 c31
            revert hl hf
            subst c31
            intro hl hf
            have hl : lv_has ls 8 [(7, va_rf q29), (1, va_rf none), (4, .ref la4), (6, .int lx6)] := hl
            exact J137 none la4 lx6 G hf H locs hI ls (lv_sub hl [1, 2, 3] rfl)
          · have hf := hf.2 a32 c31
            revert hl hf
            subst c31
            intro hl hf
            have hl : lv_has ls 8 [(7, va_rf q29), (1, .ref a32), (4, .ref la4), (6, .int lx6)] := hl
            refine lv_aload_n hx hb dJ5_getNode_125 rfl (lv_at hl 1 rfl) ?_
            refine h_aload (o := q29) hx hb dJ5_getNode_126 (lv_at hl 0 rfl) ?_
            refine h_ki X hI (by rcases hf with ⟨_, _, hO, hf⟩ | ⟨_, _, hO, hf⟩; exact h_runU (As := [va_rf q29]) X hI (h_recv X hI hO (show jC.1[13]? = some (RX13, TX13, 2) from rfl)) (mhX13_equals l Z D j Λ fr lo E a32 q29 G _ hf H.size) (cwA (owner := "java/lang/Object") 1 hts q1276 q1278 q1286 q1287 q214 q1288 (E.nw X q1275 rfl) rfl rfl (by decide +kernel) (by show fr + 1 + 1 ≤ fr + 6 ∧ 8 + (3 + 11) + (lo + 40) ≤ lo + 151; omega)) rfl hl.1 (Nat.le_of_ble_eq_true rfl) dJ5_getNode_128 ⟨Nat.le_refl _, Nat.le_refl _⟩ rfl; exact h_runU (As := [va_rf q29]) X hI (h_recv X hI hO (show jC.1[20]? = some (RJ8, TJ8, 4) from rfl)) (mhJ8_equals l Z D j Λ fr lo E a32 q29 G _ hf H.size) (cwA (owner := "java/lang/Object") 1 hts q1276 q1278 q1308 q1309 q184 q1310 (E.nw X q1275 rfl) rfl rfl (by decide +kernel) (by show fr + 2 + 1 ≤ fr + 6 ∧ 8 + (3 + 11) + (lo + 62) ≤ lo + 151; omega)) rfl hl.1 (Nat.le_of_ble_eq_true rfl) dJ5_getNode_128 ⟨Nat.le_refl _, Nat.le_refl _⟩ rfl) (fun x33 G34 H locs hf hI => ?_)
            refine lv_if_eq (tgt := 137) hx hb dJ5_getNode_131 (by decide) (fun c35 => ?_) (fun c35 => ?_)
            · have hf := hf.1 c35
              exact J137 (some a32) la4 lx6 G34 hf H locs hI ls (lv_sub hl [1, 2, 3] rfl)
            · have hf := hf.2 c35
              refine lv_aload hx hb dJ5_getNode_134 (lv_at hl 2 rfl) ?_
              exact hret (v := (some la4)) hf hI dJ5_getNode_136 (Nat.le_refl _) (Nat.le_refl _)
  have J71 : ∀ (lq1 : Option Nat) (la3 : Nat) (lx6 : Int32) (G : HG), hJ5_getNode_b71 j Λ a0 post lq1 la3 lx6 G → ∀ (H : Heap) (locs : List Loc), HI D jC G A0 s.heap H locs → ∀ (ls : Array Slot), lv_has ls 8 [(1, va_rf lq1), (3, .ref la3), (6, .int lx6)] → W p l e (rhJ5_getNode fr lo) s m args below meth c H locs 0 0 Q (F0 m 71 ls []) := by
    intro lq1 la3 lx6 G hf H locs hI ls hl
    unfold hJ5_getNode_b71 at hf
    refine lv_aload_n hx hb dJ5_getNode_71 rfl (lv_at hl 1 rfl) ?_
    refine hr_g2Q X hI 3 (Nat.le_of_ble_eq_true rfl) hf rfl q990 (fun _ h => h) dJ5_getNode_72 (fun q20 hf => ?_)
    refine lv_dup hx hb dJ5_getNode_75 (h_catq _) ?_
    refine h_astore (o := q20) (lv' := [(4, va_rf q20), (1, va_rf lq1), (3, .ref la3), (6, .int lx6)]) hx hb dJ5_getNode_76 hl (by decide) rfl (fun ls hl => ?_)
    refine h_ifnull (tgt := 148) hx hb dJ5_getNode_78 (by decide) (fun c21 => ?_) (fun a22 c21 => ?_)
    · have hf := hf.1 c21
      revert hl hf
      subst c21
      intro hl hf
      have hl : lv_has ls 8 [(4, va_rf none), (1, va_rf lq1), (3, .ref la3), (6, .int lx6)] := hl
      refine lv_null hx hb dJ5_getNode_148 ?_
      exact hret (v := none) hf hI dJ5_getNode_149 (Nat.le_refl _) (Nat.le_refl _)
    · have hf := hf.2 a22 c21
      revert hl hf
      subst c21
      intro hl hf
      have hl : lv_has ls 8 [(4, .ref a22), (1, va_rf lq1), (3, .ref la3), (6, .int lx6)] := hl
      refine lv_aload_n hx hb dJ5_getNode_81 rfl (lv_at hl 2 rfl) ?_
      refine hr_inst (v := (some la3)) E X hI hf q957 dJ5_getNode_82 (fun x23 hf => ?_)
      refine lv_if_eq (tgt := 99) hx hb dJ5_getNode_85 (by decide) (fun c24 => ?_) (fun c24 => ?_)
      · have hf := hf.1 c24
        obtain ⟨n, hf⟩ := hf
        exact L99 n lq1 a22 lx6 G hf H locs hI ls (lv_sub hl [1, 0, 3] rfl)
      · have hf := hf.2 c24
        refine lv_aload_n hx hb dJ5_getNode_88 rfl (lv_at hl 2 rfl) ?_
        refine hr_cast (v := (some la3)) E X hI hf q957 dJ5_getNode_89 (fun hf => ?_)
        refine lv_iload hx hb dJ5_getNode_92 (lv_at hl 3 rfl) ?_
        refine h_aload_n (o := lq1) hx hb dJ5_getNode_94 rfl (lv_at hl 1 rfl) ?_
        obtain ⟨_, _, hO, hf⟩ := hf
        refine h_kq X hI (h_runV (As := [.int lx6, va_rf lq1]) X hI (h_recv X hI hO (show jC.1[18]? = some (RJ23, TJ23, 11) from rfl)) (mhJ23_getTreeNode l Z D j Λ fr lo E la3 lx6 lq1 G _ hf H.size) (cwV 2 hts (lw_V q1759 q1760 q1761 q201 q1762) rfl rfl rfl (by decide +kernel) (by show fr + 4 + 1 ≤ fr + 6 ∧ 8 + (3 + 11) + (lo + 114) ≤ lo + 151; omega)) rfl hl.1 (Nat.le_of_ble_eq_true rfl) dJ5_getNode_95 ⟨Nat.le_refl _, Nat.le_refl _⟩ rfl) (fun q26 G25 H locs hf hI => ?_)
        clear hO
        exact hret (v := q26) hf hI dJ5_getNode_98 (Nat.le_refl _) (Nat.le_refl _)
  have hl : lv_has ls 8 [(0, .ref a0), (1, va_rf q1_)] := by cases q1_ <;> exact hl
  unfold hJ5_getNode at hf
  obtain ⟨H, eH⟩ : ∃ H, H = s.heap := ⟨_, rfl⟩
  obtain ⟨locs, eL⟩ : ∃ locs : List Loc, locs = [] := ⟨_, rfl⟩
  have hI : HI D jC G A0 s.heap H locs := by rw [eH, eL]; exact hI
  rw [← eL]
  suffices h : W p l e (rhJ5_getNode fr lo) s m args below meth c H locs 0 0 Q (F0 m 0 ls []) by rw [eH] at h; exact h
  clear eH eL
  refine lv_aload_n hx hb dJ5_getNode_0 rfl (lv_at hl 0 rfl) ?_
  refine hr_gtQ X hI (rfl : jC.1[16]? = some (RJ5, TJ5, 8)) in_J5 2 (Nat.le_of_ble_eq_true rfl) hf q747 (fun _ h => h) dJ5_getNode_1 (fun q1 hf => ?_)
  refine lv_dup hx hb dJ5_getNode_4 (h_catq _) ?_
  refine h_astore_n (o := q1) (lv' := [(2, va_rf q1), (0, .ref a0), (1, va_rf q1_)]) hx hb dJ5_getNode_5 rfl hl (by decide) (by cases q1_ <;> rfl) (fun ls hl => ?_)
  refine h_ifnull (tgt := 148) hx hb dJ5_getNode_6 (by decide) (fun c2 => ?_) (fun a3 c2 => ?_)
  · have hf := hf.1 c2
    revert hl hf
    subst c2
    intro hl hf
    have hl : lv_has ls 8 [(2, va_rf none), (0, .ref a0), (1, va_rf q1_)] := hl
    refine lv_null hx hb dJ5_getNode_148 ?_
    exact hret (v := none) hf hI dJ5_getNode_149 (Nat.le_refl _) (Nat.le_refl _)
  · have hf := hf.2 a3 c2
    revert hl hf
    subst c2
    intro hl hf
    have hl : lv_has ls 8 [(2, .ref a3), (0, .ref a0), (1, va_rf q1_)] := hl
    refine lv_aload_n hx hb dJ5_getNode_9 rfl (lv_at hl 0 rfl) ?_
    refine hr_aln X hI hf dJ5_getNode_10 (fun x4 hf => ?_)
    refine lv_dup hx hb dJ5_getNode_11 rfl ?_
    refine lv_istore (lv' := [(5, .int x4), (2, .ref a3), (0, .ref a0), (1, va_rf q1_)]) hx hb dJ5_getNode_12 hl (by decide) rfl (fun ls hl => ?_)
    refine lv_if_le (tgt := 148) hx hb dJ5_getNode_14 (by decide) (fun c5 => ?_) (fun c5 => ?_)
    · have hf := hf.1 c5
      refine lv_null hx hb dJ5_getNode_148 ?_
      exact hret (v := none) hf hI dJ5_getNode_149 (Nat.le_refl _) (Nat.le_refl _)
    · have hf := hf.2 c5
      refine lv_aload_n hx hb dJ5_getNode_17 rfl (lv_at hl 1 rfl) ?_
      refine lv_iload hx hb dJ5_getNode_18 (lv_at hl 0 rfl) ?_
      refine lv_iconst (v := 1) hx hb dJ5_getNode_20 (by decide) ?_
      refine lv_isub hx hb dJ5_getNode_21 ?_
      refine h_aload_n (o := q1_) hx hb dJ5_getNode_22 rfl (lv_at hl 3 rfl) ?_
      refine h_ki X hI (h_runS (As := [va_rf q1_]) X hI (mhJ5_hash l Z D j Λ fr lo E q1_ G _ hf H.size) (va_cwS 1 hts (lw_S q840 q841 q181 q842) rfl rfl rfl (by decide +kernel) (by show fr + 5 + 1 ≤ fr + 6 ∧ 8 + (2 + 11) + (lo + 130) ≤ lo + 151; omega)) rfl hl.1 (Nat.le_of_ble_eq_true rfl) dJ5_getNode_23 ⟨Nat.le_refl _, Nat.le_refl _⟩ rfl) (fun x7 G6 H locs hf hI => ?_)
      refine lv_dup hx hb dJ5_getNode_26 rfl ?_
      refine lv_istore (lv' := [(6, .int x7), (5, .int x4), (2, .ref a3), (0, .ref a0), (1, va_rf q1_)]) hx hb dJ5_getNode_27 hl (by decide) rfl (fun ls hl => ?_)
      refine lv_iand hx hb dJ5_getNode_29 ?_
      refine hr_qld X hI hf dJ5_getNode_30 (fun q8 hf => ?_)
      refine lv_dup hx hb dJ5_getNode_31 (h_catq _) ?_
      refine h_astore_n (o := q8) (lv' := [(3, va_rf q8), (6, .int x7), (5, .int x4), (2, .ref a3), (0, .ref a0), (1, va_rf q1_)]) hx hb dJ5_getNode_32 rfl hl (by decide) rfl (fun ls hl => ?_)
      refine h_ifnull (tgt := 148) hx hb dJ5_getNode_33 (by decide) (fun c9 => ?_) (fun a10 c9 => ?_)
      · have hf := hf.1 c9
        revert hl hf
        subst c9
        intro hl hf
        have hl : lv_has ls 8 [(3, va_rf none), (6, .int x7), (5, .int x4), (2, .ref a3), (0, .ref a0), (1, va_rf q1_)] := hl
        refine lv_null hx hb dJ5_getNode_148 ?_
        exact hret (v := none) hf hI dJ5_getNode_149 (Nat.le_refl _) (Nat.le_refl _)
      · have hf := hf.2 a10 c9
        revert hl hf
        subst c9
        intro hl hf
        have hl : lv_has ls 8 [(3, .ref a10), (6, .int x7), (5, .int x4), (2, .ref a3), (0, .ref a0), (1, va_rf q1_)] := hl
        refine lv_aload_n hx hb dJ5_getNode_36 rfl (lv_at hl 0 rfl) ?_
        refine hr_g2I X hI 0 (Nat.le_of_ble_eq_true rfl) hf rfl q979 (fun _ h => h) dJ5_getNode_37 (fun x11 hf => ?_)
        refine lv_iload hx hb dJ5_getNode_40 (lv_at hl 1 rfl) ?_
        refine lv_icmp_ne (tgt := 71) hx hb dJ5_getNode_42 (by decide) (fun c12 => ?_) (fun c12 => ?_)
        · have hf := hf.2 c12
          exact J71 q1_ a10 x7 G6 hf H locs hI ls (lv_sub hl [5, 0, 1] rfl)
        · have hf := hf.1 c12
          refine lv_aload_n hx hb dJ5_getNode_45 rfl (lv_at hl 0 rfl) ?_
          refine hr_g2Q X hI 1 (Nat.le_of_ble_eq_true rfl) hf rfl q983 (fun _ h => h) dJ5_getNode_46 (fun q13 hf => ?_)
          refine lv_dup hx hb dJ5_getNode_49 (h_catq _) ?_
          refine h_astore (o := q13) (lv' := [(7, va_rf q13), (3, .ref a10), (6, .int x7), (5, .int x4), (2, .ref a3), (0, .ref a0), (1, va_rf q1_)]) hx hb dJ5_getNode_50 hl (by decide) rfl (fun ls hl => ?_)
          refine h_aload_n (o := q1_) hx hb dJ5_getNode_52 rfl (lv_at hl 6 rfl) ?_
          refine lv_acmp_eq (rx := q13) (ry := q1_) (tgt := 69) hx hb dJ5_getNode_53 (by decide) (fun c14 => ?_) (fun c14 => ?_)
          · have hf := hf.1 c14
            refine lv_aload_n hx hb dJ5_getNode_69 rfl (lv_at hl 1 rfl) ?_
            exact hret (v := (some a10)) hf hI dJ5_getNode_70 (Nat.le_refl _) (Nat.le_refl _)
          · have hf := hf.2 c14
            refine h_aload_n (o := q1_) hx hb dJ5_getNode_56 rfl (lv_at hl 6 rfl) ?_
            refine h_ifnull (tgt := 71) hx hb dJ5_getNode_57 (by decide) (fun c15 => ?_) (fun a16 c15 => ?_)
            · have hf := hf.1 c15
              revert hl hf
              subst c15
              intro hl hf
              have hl : lv_has ls 8 [(7, va_rf q13), (3, .ref a10), (6, .int x7), (5, .int x4), (2, .ref a3), (0, .ref a0), (1, va_rf none)] := hl
              exact J71 none a10 x7 G6 hf H locs hI ls (lv_sub hl [6, 1, 2] rfl)
            · have hf := hf.2 a16 c15
              revert hl hf
              subst c15
              intro hl hf
              have hl : lv_has ls 8 [(7, va_rf q13), (3, .ref a10), (6, .int x7), (5, .int x4), (2, .ref a3), (0, .ref a0), (1, .ref a16)] := hl
              refine lv_aload_n hx hb dJ5_getNode_60 rfl (lv_at hl 6 rfl) ?_
              refine h_aload (o := q13) hx hb dJ5_getNode_61 (lv_at hl 0 rfl) ?_
              refine h_ki X hI (by rcases hf with ⟨_, _, hO, hf⟩ | ⟨_, _, hO, hf⟩; exact h_runU (As := [va_rf q13]) X hI (h_recv X hI hO (show jC.1[13]? = some (RX13, TX13, 2) from rfl)) (mhX13_equals l Z D j Λ fr lo E a16 q13 G6 _ hf H.size) (cwA (owner := "java/lang/Object") 1 hts q1276 q1278 q1286 q1287 q214 q1288 (E.nw X q1275 rfl) rfl rfl (by decide +kernel) (by show fr + 1 + 1 ≤ fr + 6 ∧ 8 + (3 + 11) + (lo + 40) ≤ lo + 151; omega)) rfl hl.1 (Nat.le_of_ble_eq_true rfl) dJ5_getNode_63 ⟨Nat.le_refl _, Nat.le_refl _⟩ rfl; exact h_runU (As := [va_rf q13]) X hI (h_recv X hI hO (show jC.1[20]? = some (RJ8, TJ8, 4) from rfl)) (mhJ8_equals l Z D j Λ fr lo E a16 q13 G6 _ hf H.size) (cwA (owner := "java/lang/Object") 1 hts q1276 q1278 q1308 q1309 q184 q1310 (E.nw X q1275 rfl) rfl rfl (by decide +kernel) (by show fr + 2 + 1 ≤ fr + 6 ∧ 8 + (3 + 11) + (lo + 62) ≤ lo + 151; omega)) rfl hl.1 (Nat.le_of_ble_eq_true rfl) dJ5_getNode_63 ⟨Nat.le_refl _, Nat.le_refl _⟩ rfl) (fun x17 G18 H locs hf hI => ?_)
              refine lv_if_eq (tgt := 71) hx hb dJ5_getNode_66 (by decide) (fun c19 => ?_) (fun c19 => ?_)
              · have hf := hf.1 c19
                exact J71 (some a16) a10 x7 G18 hf H locs hI ls (lv_sub hl [6, 1, 2] rfl)
              · have hf := hf.2 c19
                refine lv_aload_n hx hb dJ5_getNode_69 rfl (lv_at hl 1 rfl) ?_
                exact hret (v := (some a10)) hf hI dJ5_getNode_70 (Nat.le_refl _) (Nat.le_refl _)
/-! java/util/HashMap.get(Ljava/lang/Object;)Ljava/lang/Object; -/
def hJ5_get (j : JX) (Λ : JLam) (a0 : Nat) (q1_ : Option Nat) (G : HG) (post : Option Nat → HG → Prop) : Prop :=
  isO G a0 16 (hJ5_getNode j Λ a0 q1_ G fun q2 G1 => (q2 = none → (post none G1)) ∧ (∀ a4, q2 = some a4 → (g2Q G1 a4 2 fun q5 => post q5 G1)))
abbrev rhJ5_get (fr lo : Nat) : Room := { frames := fr + 7, cells := 0, slots := 0, locals := lo + 178 }
theorem mhJ5_get (l : Launch) (Z : (Nat → Prop) → State → Heap → Prop) (D : va_G) (j : JX) (Λ : JLam) (fr lo : Nat) (E : JE l Z D j Λ fr lo) (a0 : Nat) (q1_ : Option Nat) (G : HG) (post : Option Nat → HG → Prop) (hf : hJ5_get j Λ a0 q1_ G post) : HMq l yJ5_get (ws_ yJ5_get cJ5_get 3 (some (.object "java/lang/Object"))) (rhJ5_get fr lo) D jC (jty j.1) Z G [.ref a0, va_rf q1_] post 0 0 := by
  refine h_openq (Or.inl ⟨_, rfl⟩) E.1 (by decide) (by cases q1_ <;> exact Nat.le_of_ble_eq_true rfl) (fun p e s m args below meth c ls A0 Q X hI hnd hnm hl hret => ?_)
  have X : XC p s m args meth c cJ5_get 3 RJ5 D jC (jty j.1) A0 Z := X
  have hx := X.1
  have hb := X.2.1
  have hown := X.2.2.2.1
  have hts := X.2.2.2.2.1
  have hl : lv_has ls 3 [(0, .ref a0), (1, va_rf q1_)] := by cases q1_ <;> exact hl
  unfold hJ5_get at hf
  obtain ⟨H, eH⟩ : ∃ H, H = s.heap := ⟨_, rfl⟩
  obtain ⟨locs, eL⟩ : ∃ locs : List Loc, locs = [] := ⟨_, rfl⟩
  have hI : HI D jC G A0 s.heap H locs := by rw [eH, eL]; exact hI
  rw [← eL]
  suffices h : W p l e (rhJ5_get fr lo) s m args below meth c H locs 0 0 Q (F0 m 0 ls []) by rw [eH] at h; exact h
  clear eH eL
  refine lv_aload_n hx hb dJ5_get_0 rfl (lv_at hl 0 rfl) ?_
  refine h_aload_n (o := q1_) hx hb dJ5_get_1 rfl (lv_at hl 1 rfl) ?_
  obtain ⟨_, _, hO, hf⟩ := hf
  refine h_kq X hI (h_runV (As := [va_rf q1_]) X hI (h_recv X hI hO (show jC.1[16]? = some (RJ5, TJ5, 8) from rfl)) (mhJ5_getNode l Z D j Λ fr lo E a0 q1_ G _ hf H.size) (cwV 1 hts (lw_V q1755 q1756 q1757 q181 q1758) rfl rfl rfl (by decide +kernel) (by show fr + 6 + 1 ≤ fr + 7 ∧ 8 + (8 + 11) + (lo + 151) ≤ lo + 178; omega)) rfl hl.1 (Nat.le_of_ble_eq_true rfl) dJ5_get_2 ⟨Nat.le_refl _, Nat.le_refl _⟩ rfl) (fun q2 G1 H locs hf hI => ?_)
  clear hO
  refine lv_dup hx hb dJ5_get_5 (h_catq _) ?_
  refine h_astore_n (o := q2) (lv' := [(2, va_rf q2), (0, .ref a0), (1, va_rf q1_)]) hx hb dJ5_get_6 rfl hl (by decide) (by cases q1_ <;> rfl) (fun ls hl => ?_)
  refine h_ifnonnull (tgt := 14) hx hb dJ5_get_7 (by decide) (fun a4 c3 => ?_) (fun c3 => ?_)
  · have hf := hf.2 a4 c3
    revert hl hf
    subst c3
    intro hl hf
    have hl : lv_has ls 3 [(2, .ref a4), (0, .ref a0), (1, va_rf q1_)] := hl
    refine lv_aload_n hx hb dJ5_get_14 rfl (lv_at hl 0 rfl) ?_
    refine hr_g2Q X hI 2 (Nat.le_of_ble_eq_true rfl) hf rfl q985 (fun _ h => h) dJ5_get_15 (fun q5 hf => ?_)
    exact hret (v := q5) hf hI dJ5_get_18 (Nat.le_refl _) (Nat.le_refl _)
  · have hf := hf.1 c3
    revert hl hf
    subst c3
    intro hl hf
    have hl : lv_has ls 3 [(2, va_rf none), (0, .ref a0), (1, va_rf q1_)] := hl
    refine lv_null hx hb dJ5_get_10 ?_
    refine lv_goto (tgt := 18) hx hb dJ5_get_11 (by decide) ?_
    exact hret (v := none) hf hI dJ5_get_18 (Nat.le_refl _) (Nat.le_refl _)
/-! java/lang/AbstractStringBuilder.setLength(I)V -/
def hJ6_setLength_b76 (j : JX) (Λ : JLam) (a0 : Nat) (p1 : Int32) (post : HG → Prop) (mc ms : Nat) (G : HG) : Prop :=
  ptV G a0 19 3 (.int p1) fun G20 => post G20
def hJ6_setLength (j : JX) (Λ : JLam) (a0 : Nat) (p1 : Int32) (mc ms : Nat) (G : HG) (post : HG → Prop) : Prop :=
  (0 ≤ p1 → (isO G a0 19 (∃ m2 m3 : Nat, m2 ≤ mc ∧ m3 ≤ ms ∧ hJ6_ensureCapacityInternal j Λ a0 p1 m2 m3 G fun G4 => gtI G4 a0 19 3 fun x5 => (p1 ≤ x5 → (gtI G4 a0 19 3 fun x7 => (x7 ≤ p1 → (hJ6_setLength_b76 j Λ a0 p1 post (mc - m2) (ms - m3) G4)) ∧ (¬ x7 ≤ p1 → (ptV G4 a0 19 2 (.int 1) fun G9 => hJ6_setLength_b76 j Λ a0 p1 post (mc - m2) (ms - m3) G9)))) ∧ (¬ p1 ≤ x5 → (isO G4 a0 19 (hJ6_isLatin1 j Λ a0 G4 fun x11 G10 => (x11 = 0 → (False)) ∧ (¬ x11 = 0 → (gtQ G10 a0 19 0 fun q15 => gtI G10 a0 19 3 fun x16 => ∃ m17 m18 : Nat, m17 ≤ mc - m2 ∧ m18 ≤ ms - m3 ∧ hJ16_fillNull j Λ q15 x16 p1 m17 m18 G10 fun G19 => hJ6_setLength_b76 j Λ a0 p1 post (mc - m2 - m17) (ms - m3 - m18) G19)))))))) ∧ (¬ 0 ≤ p1 → (False))
abbrev rhJ6_setLength (fr lo mc ms : Nat) : Room := { frames := fr + 4, cells := mc, slots := ms, locals := lo + 110 }
theorem mhJ6_setLength (l : Launch) (Z : (Nat → Prop) → State → Heap → Prop) (D : va_G) (j : JX) (Λ : JLam) (fr lo : Nat) (E : JE l Z D j Λ fr lo) (a0 : Nat) (p1 : Int32) (mc ms : Nat) (G : HG) (post : HG → Prop) (hf : hJ6_setLength j Λ a0 p1 mc ms G post) : HMv l yJ6_setLength (ws_ yJ6_setLength cJ6_setLength 2 none) (rhJ6_setLength fr lo mc ms) D jC (jty j.1) Z G [.ref a0, .int p1] post mc ms := by
  obtain ⟨MC, eMC⟩ : ∃ MC, MC = mc := ⟨_, rfl⟩
  obtain ⟨MS, eMS⟩ : ∃ MS, MS = ms := ⟨_, rfl⟩
  suffices goal : HMv l yJ6_setLength (ws_ yJ6_setLength cJ6_setLength 2 none) (rhJ6_setLength fr lo MC MS) D jC (jty j.1) Z G [.ref a0, .int p1] post MC MS by rw [eMC, eMS] at goal; exact goal
  have hm0_ : 0 + mc ≤ MC ∧ 0 + ms ≤ MS := by omega
  clear eMC eMS
  refine h_openv E.1 (by decide) (by exact Nat.le_of_ble_eq_true rfl) (fun p e s m args below meth c ls A0 Q X hI hnd hnm hl hret => ?_)
  have X : XC p s m args meth c cJ6_setLength 2 RJ6 D jC (jty j.1) A0 Z := X
  have hx := X.1
  have hb := X.2.1
  have hown := X.2.2.2.1
  have hts := X.2.2.2.2.1
  have J76 : ∀ (mc ms : Nat) (G : HG), hJ6_setLength_b76 j Λ a0 p1 post mc ms G → ∀ (cells slots : Nat), cells + mc ≤ MC ∧ slots + ms ≤ MS → ∀ (H : Heap) (locs : List Loc), HI D jC G A0 s.heap H locs → ∀ (ls : Array Slot), lv_has ls 2 [(0, .ref a0), (1, .int p1)] → W p l e (rhJ6_setLength fr lo MC MS) s m args below meth c H locs cells slots Q (F0 m 76 ls []) := by
    intro mc ms G hf cells slots hm H locs hI ls hl
    unfold hJ6_setLength_b76 at hf
    refine lv_aload_n hx hb dJ6_setLength_76 rfl (lv_at hl 0 rfl) ?_
    refine lv_iload_n hx hb dJ6_setLength_77 rfl (lv_at hl 1 rfl) ?_
    refine hr_pt X hI (rfl : jC.1[19]? = some (RJ7, TJ7, 4)) in_J7 3 (Nat.le_of_ble_eq_true rfl) tyJ7 tyJ7_ok nmJ7 hf q796 (fun _ h => h) rfl rfl rfl dJ6_setLength_78 (fun G20 H locs hf hI => ?_)
    exact hret hf hI dJ6_setLength_81 (hmC hm.1) (hmC hm.2)
  have hl : lv_has ls 2 [(0, .ref a0), (1, .int p1)] := by exact hl
  unfold hJ6_setLength at hf
  obtain ⟨H, eH⟩ : ∃ H, H = s.heap := ⟨_, rfl⟩
  obtain ⟨locs, eL⟩ : ∃ locs : List Loc, locs = [] := ⟨_, rfl⟩
  have hI : HI D jC G A0 s.heap H locs := by rw [eH, eL]; exact hI
  rw [← eL]
  obtain ⟨cells, eC⟩ : ∃ n : Nat, n = 0 := ⟨_, rfl⟩
  obtain ⟨slots, eS⟩ : ∃ n : Nat, n = 0 := ⟨_, rfl⟩
  have hm : cells + mc ≤ MC ∧ slots + ms ≤ MS := by rw [eC, eS]; exact hm0_
  suffices h : W p l e (rhJ6_setLength fr lo MC MS) s m args below meth c H locs cells slots Q (F0 m 0 ls []) by rw [eH, eC, eS] at h; exact h
  clear eH eL eC eS
  refine lv_iload_n hx hb dJ6_setLength_0 rfl (lv_at hl 1 rfl) ?_
  refine lv_if_ge (tgt := 13) hx hb dJ6_setLength_1 (by decide) (fun c1 => ?_) (fun c1 => ?_)
  · have hf := hf.1 c1
    refine lv_aload_n hx hb dJ6_setLength_13 rfl (lv_at hl 0 rfl) ?_
    refine lv_iload_n hx hb dJ6_setLength_14 rfl (lv_at hl 1 rfl) ?_
    obtain ⟨_, _, hO, hf⟩ := hf
    obtain ⟨m2, m3, hb1, hb2, hf⟩ := hf
    refine h_kv X hI (h_runU (As := [.int p1]) X hI (h_recv X hI hO (show jC.1[19]? = some (RJ7, TJ7, 4) from rfl)) (mhJ6_ensureCapacityInternal l Z D j Λ fr lo E a0 p1 m2 m3 G _ hf H.size) (cwP 1 (X.2.2.2.2.2.1.1 19 _ (show jC.1[19]? = some (RJ7, TJ7, 4) from rfl)).2.1 hts q1431 q3502 (E.nw X q1432 rfl) q1433 q182 q1434 rfl rfl (by decide +kernel) (by show fr + 3 + 1 ≤ fr + 4 ∧ 8 + (3 + 11) + (lo + 88) ≤ lo + 110; omega)) rfl hl.1 (Nat.le_of_ble_eq_true rfl) dJ6_setLength_15 ⟨hmA hm.1 hb1, hmA hm.2 hb2⟩ rfl) (fun G4 H locs hf hI => ?_)
    have hm := And.intro (hmB hm.1 hb1) (hmB hm.2 hb2)
    clear hb1 hb2
    clear hO
    refine lv_aload_n hx hb dJ6_setLength_18 rfl (lv_at hl 0 rfl) ?_
    refine hr_gtI X hI (rfl : jC.1[19]? = some (RJ7, TJ7, 4)) in_J7 3 (Nat.le_of_ble_eq_true rfl) hf q796 (fun _ h => h) dJ6_setLength_19 (fun x5 hf => ?_)
    refine lv_iload_n hx hb dJ6_setLength_22 rfl (lv_at hl 1 rfl) ?_
    refine lv_icmp_ge (tgt := 63) hx hb dJ6_setLength_23 (by decide) (fun c6 => ?_) (fun c6 => ?_)
    · have hf := hf.1 c6
      refine lv_aload_n hx hb dJ6_setLength_63 rfl (lv_at hl 0 rfl) ?_
      refine hr_gtI X hI (rfl : jC.1[19]? = some (RJ7, TJ7, 4)) in_J7 3 (Nat.le_of_ble_eq_true rfl) hf q796 (fun _ h => h) dJ6_setLength_64 (fun x7 hf => ?_)
      refine lv_iload_n hx hb dJ6_setLength_67 rfl (lv_at hl 1 rfl) ?_
      refine lv_icmp_le (tgt := 76) hx hb dJ6_setLength_68 (by decide) (fun c8 => ?_) (fun c8 => ?_)
      · have hf := hf.1 c8
        exact J76 (mc - m2) (ms - m3) G4 hf _ _ hm H locs hI ls (lv_sub hl [0, 1] rfl)
      · have hf := hf.2 c8
        refine lv_aload_n hx hb dJ6_setLength_71 rfl (lv_at hl 0 rfl) ?_
        refine lv_iconst (v := 1) hx hb dJ6_setLength_72 (by decide) ?_
        refine hr_pt X hI (rfl : jC.1[19]? = some (RJ7, TJ7, 4)) in_J7 2 (Nat.le_of_ble_eq_true rfl) tyJ7 tyJ7_ok nmJ7 hf q794 (fun _ h => h) rfl rfl rfl dJ6_setLength_73 (fun G9 H locs hf hI => ?_)
        exact J76 (mc - m2) (ms - m3) G9 hf _ _ hm H locs hI ls (lv_sub hl [0, 1] rfl)
    · have hf := hf.2 c6
      refine lv_aload_n hx hb dJ6_setLength_26 rfl (lv_at hl 0 rfl) ?_
      obtain ⟨_, _, hO, hf⟩ := hf
      refine h_ki X hI (h_runU (As := []) X hI (h_recv X hI hO (show jC.1[19]? = some (RJ7, TJ7, 4) from rfl)) (mhJ6_isLatin1 l Z D j Λ fr lo E a0 G4 _ hf H.size) (cwU (owner := "java/lang/AbstractStringBuilder") 0 hts q1229 q1231 q1232 q1230 q182 q1233 rfl rfl rfl (by decide +kernel) (by show fr + 1 + 1 ≤ fr + 4 ∧ 8 + (1 + 11) + (lo + 40) ≤ lo + 110; omega)) rfl hl.1 (Nat.le_of_ble_eq_true rfl) dJ6_setLength_27 ⟨hm0 hm.1, hm0 hm.2⟩ rfl) (fun x11 G10 H locs hf hI => ?_)
      clear hO
      refine lv_if_eq (tgt := 48) hx hb dJ6_setLength_30 (by decide) (fun c12 => ?_) (fun c12 => ?_)
      · have hf := hf.1 c12
        exact hf.elim
      · have hf := hf.2 c12
        refine lv_aload_n hx hb dJ6_setLength_33 rfl (lv_at hl 0 rfl) ?_
        refine hr_gtQ X hI (rfl : jC.1[19]? = some (RJ7, TJ7, 4)) in_J7 0 (Nat.le_of_ble_eq_true rfl) hf q792 (fun _ h => h) dJ6_setLength_34 (fun q15 hf => ?_)
        refine lv_aload_n hx hb dJ6_setLength_37 rfl (lv_at hl 0 rfl) ?_
        refine hr_gtI X hI (rfl : jC.1[19]? = some (RJ7, TJ7, 4)) in_J7 3 (Nat.le_of_ble_eq_true rfl) hf q796 (fun _ h => h) dJ6_setLength_38 (fun x16 hf => ?_)
        refine lv_iload_n hx hb dJ6_setLength_41 rfl (lv_at hl 1 rfl) ?_
        obtain ⟨m17, m18, hb1, hb2, hf⟩ := hf
        refine h_kv X hI (h_runS (As := [va_rf q15, .int x16, .int p1]) X hI (mhJ16_fillNull l Z D j Λ fr lo E q15 x16 p1 m17 m18 G10 _ hf H.size) (va_cwS 3 hts (lw_S q1597 q1598 q193 q1599) rfl rfl rfl (by decide +kernel) (by show fr + 3 + 1 ≤ fr + 4 ∧ 8 + (3 + 11) + (lo + 86) ≤ lo + 110; omega)) rfl hl.1 (Nat.le_of_ble_eq_true rfl) dJ6_setLength_42 ⟨hmA hm.1 hb1, hmA hm.2 hb2⟩ rfl) (fun G19 H locs hf hI => ?_)
        have hm := And.intro (hmB hm.1 hb1) (hmB hm.2 hb2)
        clear hb1 hb2
        refine lv_goto (tgt := 76) hx hb dJ6_setLength_45 (by decide) ?_
        exact J76 (mc - m2 - m17) (ms - m3 - m18) G19 hf _ _ hm H locs hI ls (lv_sub hl [0, 1] rfl)
  · have hf := hf.2 c1
    exact hf.elim
/-! java/lang/AbstractStringBuilder.append(C)Ljava/lang/AbstractStringBuilder; -/
def hJ6_append_3_b56 (j : JX) (Λ : JLam) (a0 : Nat) (p1 : Int32) (post : Option Nat → HG → Prop) (mc ms : Nat) (G : HG) : Prop :=
  False
def hJ6_append_3_b45 (j : JX) (Λ : JLam) (a0 : Nat) (p1 : Int32) (post : Option Nat → HG → Prop) (mc ms : Nat) (G : HG) : Prop :=
  isO G a0 19 (hJ6_isLatin1 j Λ a0 G fun x17 G16 => (x17 = 0 → (hJ6_append_3_b56 j Λ a0 p1 post mc ms G16)) ∧ (¬ x17 = 0 → (False)))
def hJ6_append_3 (j : JX) (Λ : JLam) (a0 : Nat) (p1 : Int32) (mc ms : Nat) (G : HG) (post : Option Nat → HG → Prop) : Prop :=
  gtI G a0 19 3 fun x1 => isO G a0 19 (∃ m2 m3 : Nat, m2 ≤ mc ∧ m3 ≤ ms ∧ hJ6_ensureCapacityInternal j Λ a0 (x1 + 1) m2 m3 G fun G4 => isO G4 a0 19 (hJ6_isLatin1 j Λ a0 G4 fun x6 G5 => (x6 = 0 → (hJ6_append_3_b45 j Λ a0 p1 post (mc - m2) (ms - m3) G5)) ∧ (¬ x6 = 0 → (hJ16_canEncode j Λ p1 G5 fun x9 G8 => (x9 = 0 → (hJ6_append_3_b45 j Λ a0 p1 post (mc - m2) (ms - m3) G8)) ∧ (¬ x9 = 0 → (gtQ G8 a0 19 0 fun q11 => gtI G8 a0 19 3 fun x12 => ptV G8 a0 19 3 (.int (x12 + 1)) fun G13 => nnq q11 fun a14 => stI G13 a14 (j.1 2) x12 (vp_nar .byte p1.toInt8.toInt32) fun G15 => post (some a0) G15))))))
abbrev rhJ6_append_3 (fr lo mc ms : Nat) : Room := { frames := fr + 4, cells := mc, slots := ms, locals := lo + 110 }
theorem mhJ6_append_3 (l : Launch) (Z : (Nat → Prop) → State → Heap → Prop) (D : va_G) (j : JX) (Λ : JLam) (fr lo : Nat) (E : JE l Z D j Λ fr lo) (a0 : Nat) (p1 : Int32) (mc ms : Nat) (G : HG) (post : Option Nat → HG → Prop) (hf : hJ6_append_3 j Λ a0 p1 mc ms G post) : HMq l yJ6_append_3 (ws_ yJ6_append_3 cJ6_append_3 2 (some (.object "java/lang/AbstractStringBuilder"))) (rhJ6_append_3 fr lo mc ms) D jC (jty j.1) Z G [.ref a0, .int p1] post mc ms := by
  obtain ⟨MC, eMC⟩ : ∃ MC, MC = mc := ⟨_, rfl⟩
  obtain ⟨MS, eMS⟩ : ∃ MS, MS = ms := ⟨_, rfl⟩
  suffices goal : HMq l yJ6_append_3 (ws_ yJ6_append_3 cJ6_append_3 2 (some (.object "java/lang/AbstractStringBuilder"))) (rhJ6_append_3 fr lo MC MS) D jC (jty j.1) Z G [.ref a0, .int p1] post MC MS by rw [eMC, eMS] at goal; exact goal
  have hm0_ : 0 + mc ≤ MC ∧ 0 + ms ≤ MS := by omega
  clear eMC eMS
  refine h_openq (Or.inl ⟨_, rfl⟩) E.1 (by decide) (by exact Nat.le_of_ble_eq_true rfl) (fun p e s m args below meth c ls A0 Q X hI hnd hnm hl hret => ?_)
  have X : XC p s m args meth c cJ6_append_3 2 RJ6 D jC (jty j.1) A0 Z := X
  have hx := X.1
  have hb := X.2.1
  have hown := X.2.2.2.1
  have hts := X.2.2.2.2.1
  have J56 : ∀ (mc ms : Nat) (G : HG), hJ6_append_3_b56 j Λ a0 p1 post mc ms G → ∀ (cells slots : Nat), cells + mc ≤ MC ∧ slots + ms ≤ MS → ∀ (H : Heap) (locs : List Loc), HI D jC G A0 s.heap H locs → ∀ (ls : Array Slot), lv_has ls 2 [(0, .ref a0), (1, .int p1)] → W p l e (rhJ6_append_3 fr lo MC MS) s m args below meth c H locs cells slots Q (F0 m 56 ls []) := by
    intro mc ms G hf cells slots hm H locs hI ls hl
    unfold hJ6_append_3_b56 at hf
    exact hf.elim
  have J45 : ∀ (mc ms : Nat) (G : HG), hJ6_append_3_b45 j Λ a0 p1 post mc ms G → ∀ (cells slots : Nat), cells + mc ≤ MC ∧ slots + ms ≤ MS → ∀ (H : Heap) (locs : List Loc), HI D jC G A0 s.heap H locs → ∀ (ls : Array Slot), lv_has ls 2 [(0, .ref a0), (1, .int p1)] → W p l e (rhJ6_append_3 fr lo MC MS) s m args below meth c H locs cells slots Q (F0 m 45 ls []) := by
    intro mc ms G hf cells slots hm H locs hI ls hl
    unfold hJ6_append_3_b45 at hf
    refine lv_aload_n hx hb dJ6_append_3_45 rfl (lv_at hl 0 rfl) ?_
    obtain ⟨_, _, hO, hf⟩ := hf
    refine h_ki X hI (h_runU (As := []) X hI (h_recv X hI hO (show jC.1[19]? = some (RJ7, TJ7, 4) from rfl)) (mhJ6_isLatin1 l Z D j Λ fr lo E a0 G _ hf H.size) (cwU (owner := "java/lang/AbstractStringBuilder") 0 hts q1229 q1231 q1232 q1230 q182 q1233 rfl rfl rfl (by decide +kernel) (by show fr + 1 + 1 ≤ fr + 4 ∧ 8 + (1 + 11) + (lo + 40) ≤ lo + 110; omega)) rfl hl.1 (Nat.le_of_ble_eq_true rfl) dJ6_append_3_46 ⟨hm0 hm.1, hm0 hm.2⟩ rfl) (fun x17 G16 H locs hf hI => ?_)
    clear hO
    refine lv_if_eq (tgt := 56) hx hb dJ6_append_3_49 (by decide) (fun c18 => ?_) (fun c18 => ?_)
    · have hf := hf.1 c18
      exact J56 mc ms G16 hf _ _ hm H locs hI ls (lv_sub hl [0, 1] rfl)
    · have hf := hf.2 c18
      exact hf.elim
  have hl : lv_has ls 2 [(0, .ref a0), (1, .int p1)] := by exact hl
  unfold hJ6_append_3 at hf
  obtain ⟨H, eH⟩ : ∃ H, H = s.heap := ⟨_, rfl⟩
  obtain ⟨locs, eL⟩ : ∃ locs : List Loc, locs = [] := ⟨_, rfl⟩
  have hI : HI D jC G A0 s.heap H locs := by rw [eH, eL]; exact hI
  rw [← eL]
  obtain ⟨cells, eC⟩ : ∃ n : Nat, n = 0 := ⟨_, rfl⟩
  obtain ⟨slots, eS⟩ : ∃ n : Nat, n = 0 := ⟨_, rfl⟩
  have hm : cells + mc ≤ MC ∧ slots + ms ≤ MS := by rw [eC, eS]; exact hm0_
  suffices h : W p l e (rhJ6_append_3 fr lo MC MS) s m args below meth c H locs cells slots Q (F0 m 0 ls []) by rw [eH, eC, eS] at h; exact h
  clear eH eL eC eS
  refine lv_aload_n hx hb dJ6_append_3_0 rfl (lv_at hl 0 rfl) ?_
  refine lv_aload_n hx hb dJ6_append_3_1 rfl (lv_at hl 0 rfl) ?_
  refine hr_gtI X hI (rfl : jC.1[19]? = some (RJ7, TJ7, 4)) in_J7 3 (Nat.le_of_ble_eq_true rfl) hf q796 (fun _ h => h) dJ6_append_3_2 (fun x1 hf => ?_)
  refine lv_iconst (v := 1) hx hb dJ6_append_3_5 (by decide) ?_
  refine lv_iadd hx hb dJ6_append_3_6 ?_
  obtain ⟨_, _, hO, hf⟩ := hf
  obtain ⟨m2, m3, hb1, hb2, hf⟩ := hf
  refine h_kv X hI (h_runU (As := [.int (x1 + 1)]) X hI (h_recv X hI hO (show jC.1[19]? = some (RJ7, TJ7, 4) from rfl)) (mhJ6_ensureCapacityInternal l Z D j Λ fr lo E a0 (x1 + 1) m2 m3 G _ hf H.size) (cwP 1 (X.2.2.2.2.2.1.1 19 _ (show jC.1[19]? = some (RJ7, TJ7, 4) from rfl)).2.1 hts q1431 q3502 (E.nw X q1432 rfl) q1433 q182 q1434 rfl rfl (by decide +kernel) (by show fr + 3 + 1 ≤ fr + 4 ∧ 8 + (3 + 11) + (lo + 88) ≤ lo + 110; omega)) rfl hl.1 (Nat.le_of_ble_eq_true rfl) dJ6_append_3_7 ⟨hmA hm.1 hb1, hmA hm.2 hb2⟩ rfl) (fun G4 H locs hf hI => ?_)
  have hm := And.intro (hmB hm.1 hb1) (hmB hm.2 hb2)
  clear hb1 hb2
  clear hO
  refine lv_aload_n hx hb dJ6_append_3_10 rfl (lv_at hl 0 rfl) ?_
  obtain ⟨_, _, hO, hf⟩ := hf
  refine h_ki X hI (h_runU (As := []) X hI (h_recv X hI hO (show jC.1[19]? = some (RJ7, TJ7, 4) from rfl)) (mhJ6_isLatin1 l Z D j Λ fr lo E a0 G4 _ hf H.size) (cwU (owner := "java/lang/AbstractStringBuilder") 0 hts q1229 q1231 q1232 q1230 q182 q1233 rfl rfl rfl (by decide +kernel) (by show fr + 1 + 1 ≤ fr + 4 ∧ 8 + (1 + 11) + (lo + 40) ≤ lo + 110; omega)) rfl hl.1 (Nat.le_of_ble_eq_true rfl) dJ6_append_3_11 ⟨hm0 hm.1, hm0 hm.2⟩ rfl) (fun x6 G5 H locs hf hI => ?_)
  clear hO
  refine lv_if_eq (tgt := 45) hx hb dJ6_append_3_14 (by decide) (fun c7 => ?_) (fun c7 => ?_)
  · have hf := hf.1 c7
    exact J45 (mc - m2) (ms - m3) G5 hf _ _ hm H locs hI ls (lv_sub hl [0, 1] rfl)
  · have hf := hf.2 c7
    refine lv_iload_n hx hb dJ6_append_3_17 rfl (lv_at hl 1 rfl) ?_
    refine h_ki X hI (h_runS (As := [.int p1]) X hI (mhJ16_canEncode l Z D j Λ fr lo E p1 G5 _ hf H.size) (va_cwS 1 hts (lw_S q1627 q1628 q193 q1629) rfl rfl rfl (by decide +kernel) (by show fr + 1 + 1 ≤ fr + 4 ∧ 8 + (1 + 11) + (lo + 40) ≤ lo + 110; omega)) rfl hl.1 (Nat.le_of_ble_eq_true rfl) dJ6_append_3_18 ⟨hm0 hm.1, hm0 hm.2⟩ rfl) (fun x9 G8 H locs hf hI => ?_)
    refine lv_if_eq (tgt := 45) hx hb dJ6_append_3_21 (by decide) (fun c10 => ?_) (fun c10 => ?_)
    · have hf := hf.1 c10
      exact J45 (mc - m2) (ms - m3) G8 hf _ _ hm H locs hI ls (lv_sub hl [0, 1] rfl)
    · have hf := hf.2 c10
      refine lv_aload_n hx hb dJ6_append_3_24 rfl (lv_at hl 0 rfl) ?_
      refine hr_gtQ X hI (rfl : jC.1[19]? = some (RJ7, TJ7, 4)) in_J7 0 (Nat.le_of_ble_eq_true rfl) hf q792 (fun _ h => h) dJ6_append_3_25 (fun q11 hf => ?_)
      refine lv_aload_n hx hb dJ6_append_3_28 rfl (lv_at hl 0 rfl) ?_
      refine lv_dup hx hb dJ6_append_3_29 rfl ?_
      refine hr_gtI X hI (rfl : jC.1[19]? = some (RJ7, TJ7, 4)) in_J7 3 (Nat.le_of_ble_eq_true rfl) hf q796 (fun _ h => h) dJ6_append_3_30 (fun x12 hf => ?_)
      refine lv_dup_x1 hx hb dJ6_append_3_33 rfl rfl ?_
      refine lv_iconst (v := 1) hx hb dJ6_append_3_34 (by decide) ?_
      refine lv_iadd hx hb dJ6_append_3_35 ?_
      refine hr_pt X hI (rfl : jC.1[19]? = some (RJ7, TJ7, 4)) in_J7 3 (Nat.le_of_ble_eq_true rfl) tyJ7 tyJ7_ok nmJ7 hf q796 (fun _ h => h) rfl rfl rfl dJ6_append_3_36 (fun G13 H locs hf hI => ?_)
      refine lv_iload_n hx hb dJ6_append_3_39 rfl (lv_at hl 1 rfl) ?_
      refine lv_i2b hx hb dJ6_append_3_40 rfl ?_
      obtain ⟨a14, ea14, hf⟩ := hf
      revert hl hf
      subst ea14
      intro hl hf
      have hl : lv_has ls 2 [(0, .ref a0), (1, .int p1)] := hl
      refine hr_bst X hI 2 rfl hf dJ6_append_3_41 (fun G15 H locs hf hI => ?_)
      refine lv_goto (tgt := 75) hx hb dJ6_append_3_42 (by decide) ?_
      refine lv_aload_n hx hb dJ6_append_3_75 rfl (lv_at hl 0 rfl) ?_
      exact hret (v := (some a0)) hf hI dJ6_append_3_76 (hmC hm.1) (hmC hm.2)
/-! java/lang/StringBuilder.setLength(I)V -/
def hJ7_setLength (j : JX) (Λ : JLam) (a0 : Nat) (p1 : Int32) (mc ms : Nat) (G : HG) (post : HG → Prop) : Prop :=
  isO G a0 19 (∃ m1 m2 : Nat, m1 ≤ mc ∧ m2 ≤ ms ∧ hJ6_setLength j Λ a0 p1 m1 m2 G fun G3 => post G3)
abbrev rhJ7_setLength (fr lo mc ms : Nat) : Room := { frames := fr + 5, cells := mc, slots := ms, locals := lo + 131 }
theorem mhJ7_setLength (l : Launch) (Z : (Nat → Prop) → State → Heap → Prop) (D : va_G) (j : JX) (Λ : JLam) (fr lo : Nat) (E : JE l Z D j Λ fr lo) (a0 : Nat) (p1 : Int32) (mc ms : Nat) (G : HG) (post : HG → Prop) (hf : hJ7_setLength j Λ a0 p1 mc ms G post) : HMv l yJ7_setLength (ws_ yJ7_setLength cJ7_setLength 2 none) (rhJ7_setLength fr lo mc ms) D jC (jty j.1) Z G [.ref a0, .int p1] post mc ms := by
  obtain ⟨MC, eMC⟩ : ∃ MC, MC = mc := ⟨_, rfl⟩
  obtain ⟨MS, eMS⟩ : ∃ MS, MS = ms := ⟨_, rfl⟩
  suffices goal : HMv l yJ7_setLength (ws_ yJ7_setLength cJ7_setLength 2 none) (rhJ7_setLength fr lo MC MS) D jC (jty j.1) Z G [.ref a0, .int p1] post MC MS by rw [eMC, eMS] at goal; exact goal
  have hm0_ : 0 + mc ≤ MC ∧ 0 + ms ≤ MS := by omega
  clear eMC eMS
  refine h_openv E.1 (by decide) (by exact Nat.le_of_ble_eq_true rfl) (fun p e s m args below meth c ls A0 Q X hI hnd hnm hl hret => ?_)
  have X : XC p s m args meth c cJ7_setLength 2 RJ7 D jC (jty j.1) A0 Z := X
  have hx := X.1
  have hb := X.2.1
  have hown := X.2.2.2.1
  have hts := X.2.2.2.2.1
  have hl : lv_has ls 2 [(0, .ref a0), (1, .int p1)] := by exact hl
  unfold hJ7_setLength at hf
  obtain ⟨H, eH⟩ : ∃ H, H = s.heap := ⟨_, rfl⟩
  obtain ⟨locs, eL⟩ : ∃ locs : List Loc, locs = [] := ⟨_, rfl⟩
  have hI : HI D jC G A0 s.heap H locs := by rw [eH, eL]; exact hI
  rw [← eL]
  obtain ⟨cells, eC⟩ : ∃ n : Nat, n = 0 := ⟨_, rfl⟩
  obtain ⟨slots, eS⟩ : ∃ n : Nat, n = 0 := ⟨_, rfl⟩
  have hm : cells + mc ≤ MC ∧ slots + ms ≤ MS := by rw [eC, eS]; exact hm0_
  suffices h : W p l e (rhJ7_setLength fr lo MC MS) s m args below meth c H locs cells slots Q (F0 m 0 ls []) by rw [eH, eC, eS] at h; exact h
  clear eH eL eC eS
  refine lv_aload_n hx hb dJ7_setLength_0 rfl (lv_at hl 0 rfl) ?_
  refine lv_iload_n hx hb dJ7_setLength_1 rfl (lv_at hl 1 rfl) ?_
  obtain ⟨_, _, hO, hf⟩ := hf
  obtain ⟨m1, m2, hb1, hb2, hf⟩ := hf
  refine h_kv X hI (h_runSU (As := [.int p1]) X hI (X.2.2.2.2.2.1.1 19 _ (show jC.1[19]? = some (RJ7, TJ7, 4) from rfl)).2 (h_recv X hI hO (show jC.1[19]? = some (RJ7, TJ7, 4) from rfl)) (mhJ6_setLength l Z D j Λ fr lo E a0 p1 m1 m2 G _ hf H.size) (cwSU 1 hts q1409 q3499 q805 q1410 q182 q1411 rfl rfl (by decide +kernel) (by show fr + 4 + 1 ≤ fr + 5 ∧ 8 + (2 + 11) + (lo + 110) ≤ lo + 131; omega)) rfl hl.1 (Nat.le_of_ble_eq_true rfl) dJ7_setLength_2 ⟨hmA hm.1 hb1, hmA hm.2 hb2⟩ rfl) (fun G3 H locs hf hI => ?_)
  have hm := And.intro (hmB hm.1 hb1) (hmB hm.2 hb2)
  clear hb1 hb2
  clear hO
  exact hret hf hI dJ7_setLength_5 (hmC hm.1) (hmC hm.2)
/-! java/lang/StringBuilder.append(C)Ljava/lang/StringBuilder; -/
def hJ7_append_3 (j : JX) (Λ : JLam) (a0 : Nat) (p1 : Int32) (mc ms : Nat) (G : HG) (post : Option Nat → HG → Prop) : Prop :=
  isO G a0 19 (∃ m1 m2 : Nat, m1 ≤ mc ∧ m2 ≤ ms ∧ hJ6_append_3 j Λ a0 p1 m1 m2 G fun q4 G3 => post (some a0) G3)
abbrev rhJ7_append_3 (fr lo mc ms : Nat) : Room := { frames := fr + 5, cells := mc, slots := ms, locals := lo + 131 }
theorem mhJ7_append_3 (l : Launch) (Z : (Nat → Prop) → State → Heap → Prop) (D : va_G) (j : JX) (Λ : JLam) (fr lo : Nat) (E : JE l Z D j Λ fr lo) (a0 : Nat) (p1 : Int32) (mc ms : Nat) (G : HG) (post : Option Nat → HG → Prop) (hf : hJ7_append_3 j Λ a0 p1 mc ms G post) : HMq l yJ7_append_3 (ws_ yJ7_append_3 cJ7_append_3 2 (some (.object "java/lang/StringBuilder"))) (rhJ7_append_3 fr lo mc ms) D jC (jty j.1) Z G [.ref a0, .int p1] post mc ms := by
  obtain ⟨MC, eMC⟩ : ∃ MC, MC = mc := ⟨_, rfl⟩
  obtain ⟨MS, eMS⟩ : ∃ MS, MS = ms := ⟨_, rfl⟩
  suffices goal : HMq l yJ7_append_3 (ws_ yJ7_append_3 cJ7_append_3 2 (some (.object "java/lang/StringBuilder"))) (rhJ7_append_3 fr lo MC MS) D jC (jty j.1) Z G [.ref a0, .int p1] post MC MS by rw [eMC, eMS] at goal; exact goal
  have hm0_ : 0 + mc ≤ MC ∧ 0 + ms ≤ MS := by omega
  clear eMC eMS
  refine h_openq (Or.inl ⟨_, rfl⟩) E.1 (by decide) (by exact Nat.le_of_ble_eq_true rfl) (fun p e s m args below meth c ls A0 Q X hI hnd hnm hl hret => ?_)
  have X : XC p s m args meth c cJ7_append_3 2 RJ7 D jC (jty j.1) A0 Z := X
  have hx := X.1
  have hb := X.2.1
  have hown := X.2.2.2.1
  have hts := X.2.2.2.2.1
  have hl : lv_has ls 2 [(0, .ref a0), (1, .int p1)] := by exact hl
  unfold hJ7_append_3 at hf
  obtain ⟨H, eH⟩ : ∃ H, H = s.heap := ⟨_, rfl⟩
  obtain ⟨locs, eL⟩ : ∃ locs : List Loc, locs = [] := ⟨_, rfl⟩
  have hI : HI D jC G A0 s.heap H locs := by rw [eH, eL]; exact hI
  rw [← eL]
  obtain ⟨cells, eC⟩ : ∃ n : Nat, n = 0 := ⟨_, rfl⟩
  obtain ⟨slots, eS⟩ : ∃ n : Nat, n = 0 := ⟨_, rfl⟩
  have hm : cells + mc ≤ MC ∧ slots + ms ≤ MS := by rw [eC, eS]; exact hm0_
  suffices h : W p l e (rhJ7_append_3 fr lo MC MS) s m args below meth c H locs cells slots Q (F0 m 0 ls []) by rw [eH, eC, eS] at h; exact h
  clear eH eL eC eS
  refine lv_aload_n hx hb dJ7_append_3_0 rfl (lv_at hl 0 rfl) ?_
  refine lv_iload_n hx hb dJ7_append_3_1 rfl (lv_at hl 1 rfl) ?_
  obtain ⟨_, _, hO, hf⟩ := hf
  obtain ⟨m1, m2, hb1, hb2, hf⟩ := hf
  refine h_kq X hI (h_runSU (As := [.int p1]) X hI (X.2.2.2.2.2.1.1 19 _ (show jC.1[19]? = some (RJ7, TJ7, 4) from rfl)).2 (h_recv X hI hO (show jC.1[19]? = some (RJ7, TJ7, 4) from rfl)) (mhJ6_append_3 l Z D j Λ fr lo E a0 p1 m1 m2 G _ hf H.size) (cwSU 1 hts q1624 q3508 q805 q1625 q182 q1626 rfl rfl (by decide +kernel) (by show fr + 4 + 1 ≤ fr + 5 ∧ 8 + (2 + 11) + (lo + 110) ≤ lo + 131; omega)) rfl hl.1 (Nat.le_of_ble_eq_true rfl) dJ7_append_3_2 ⟨hmA hm.1 hb1, hmA hm.2 hb2⟩ rfl) (fun q4 G3 H locs hf hI => ?_)
  have hm := And.intro (hmB hm.1 hb1) (hmB hm.2 hb2)
  clear hb1 hb2
  clear hO
  refine lv_pop hx hb dJ7_append_3_5 (h_catq _) ?_
  refine lv_aload_n hx hb dJ7_append_3_6 rfl (lv_at hl 0 rfl) ?_
  exact hret (v := (some a0)) hf hI dJ7_append_3_7 (hmC hm.1) (hmC hm.2)
/-! java/lang/String.checkBoundsBeginEnd(III)V -/
def hJ8_checkBoundsBeginEnd (j : JX) (Λ : JLam) (p0 : Int32) (p1 : Int32) (p2 : Int32) (G : HG) (post : HG → Prop) : Prop :=
  hJ21_checkFromToIndex j Λ p0 p1 p2 (some (j.2 44)) G fun x2 G1 => post G1
abbrev rhJ8_checkBoundsBeginEnd (fr lo : Nat) : Room := { frames := fr + 2, cells := 0, slots := 0, locals := lo + 63 }
theorem mhJ8_checkBoundsBeginEnd (l : Launch) (Z : (Nat → Prop) → State → Heap → Prop) (D : va_G) (j : JX) (Λ : JLam) (fr lo : Nat) (E : JE l Z D j Λ fr lo) (p0 : Int32) (p1 : Int32) (p2 : Int32) (G : HG) (post : HG → Prop) (hf : hJ8_checkBoundsBeginEnd j Λ p0 p1 p2 G post) : HMv l yJ8_checkBoundsBeginEnd (ws_ yJ8_checkBoundsBeginEnd cJ8_checkBoundsBeginEnd 3 none) (rhJ8_checkBoundsBeginEnd fr lo) D jC (jty j.1) Z G [.int p0, .int p1, .int p2] post 0 0 := by
  refine h_openv E.1 (by decide) (by exact Nat.le_of_ble_eq_true rfl) (fun p e s m args below meth c ls A0 Q X hI hnd hnm hl hret => ?_)
  have X : XC p s m args meth c cJ8_checkBoundsBeginEnd 3 RJ8 D jC (jty j.1) A0 Z := X
  have hx := X.1
  have hb := X.2.1
  have hown := X.2.2.2.1
  have hts := X.2.2.2.2.1
  have hl : lv_has ls 3 [(0, .int p0), (1, .int p1), (2, .int p2)] := by exact hl
  unfold hJ8_checkBoundsBeginEnd at hf
  obtain ⟨H, eH⟩ : ∃ H, H = s.heap := ⟨_, rfl⟩
  obtain ⟨locs, eL⟩ : ∃ locs : List Loc, locs = [] := ⟨_, rfl⟩
  have hI : HI D jC G A0 s.heap H locs := by rw [eH, eL]; exact hI
  rw [← eL]
  suffices h : W p l e (rhJ8_checkBoundsBeginEnd fr lo) s m args below meth c H locs 0 0 Q (F0 m 0 ls []) by rw [eH] at h; exact h
  clear eH eL
  refine lv_iload_n hx hb dJ8_checkBoundsBeginEnd_0 rfl (lv_at hl 0 rfl) ?_
  refine lv_iload_n hx hb dJ8_checkBoundsBeginEnd_1 rfl (lv_at hl 1 rfl) ?_
  refine lv_iload_n hx hb dJ8_checkBoundsBeginEnd_2 rfl (lv_at hl 2 rfl) ?_
  refine va_gets (v := .ref (j.2 44)) hx hb ((E.z X).2.2.1 _ (List.mem_of_getElem? (show jStR[4]? = some _ from rfl))) hI.2 hown (hts _ q1244) (fun _ h => h) dJ8_checkBoundsBeginEnd_3 ?_
  refine h_ki X hI (h_runS (As := [.int p0, .int p1, .int p2, va_rf (some (j.2 44))]) X hI (mhJ21_checkFromToIndex l Z D j Λ fr lo E p0 p1 p2 (some (j.2 44)) G _ hf H.size) (va_cwS 4 hts (lw_S q1246 q1247 q199 q1248) rfl rfl rfl (by decide +kernel) (by show fr + 1 + 1 ≤ fr + 2 ∧ 8 + (4 + 11) + (lo + 40) ≤ lo + 63; omega)) rfl hl.1 (Nat.le_of_ble_eq_true rfl) dJ8_checkBoundsBeginEnd_6 ⟨Nat.le_refl _, Nat.le_refl _⟩ rfl) (fun x2 G1 H locs hf hI => ?_)
  refine lv_pop hx hb dJ8_checkBoundsBeginEnd_9 rfl ?_
  exact hret hf hI dJ8_checkBoundsBeginEnd_10 (Nat.le_refl _) (Nat.le_refl _)
/-! java/lang/String.checkBoundsOffCount(III)I -/
def hJ8_checkBoundsOffCount (j : JX) (Λ : JLam) (p0 : Int32) (p1 : Int32) (p2 : Int32) (G : HG) (post : Int32 → HG → Prop) : Prop :=
  hJ21_checkFromIndexSize j Λ p0 p1 p2 (some (j.2 44)) G fun x2 G1 => post x2 G1
abbrev rhJ8_checkBoundsOffCount (fr lo : Nat) : Room := { frames := fr + 2, cells := 0, slots := 0, locals := lo + 63 }
theorem mhJ8_checkBoundsOffCount (l : Launch) (Z : (Nat → Prop) → State → Heap → Prop) (D : va_G) (j : JX) (Λ : JLam) (fr lo : Nat) (E : JE l Z D j Λ fr lo) (p0 : Int32) (p1 : Int32) (p2 : Int32) (G : HG) (post : Int32 → HG → Prop) (hf : hJ8_checkBoundsOffCount j Λ p0 p1 p2 G post) : HMi l yJ8_checkBoundsOffCount (ws_ yJ8_checkBoundsOffCount cJ8_checkBoundsOffCount 3 (some .int)) (rhJ8_checkBoundsOffCount fr lo) D jC (jty j.1) Z G [.int p0, .int p1, .int p2] post 0 0 := by
  refine h_openi E.1 (by decide) (by exact Nat.le_of_ble_eq_true rfl) (fun p e s m args below meth c ls A0 Q X hI hnd hnm hl hret => ?_)
  have X : XC p s m args meth c cJ8_checkBoundsOffCount 3 RJ8 D jC (jty j.1) A0 Z := X
  have hx := X.1
  have hb := X.2.1
  have hown := X.2.2.2.1
  have hts := X.2.2.2.2.1
  have hl : lv_has ls 3 [(0, .int p0), (1, .int p1), (2, .int p2)] := by exact hl
  unfold hJ8_checkBoundsOffCount at hf
  obtain ⟨H, eH⟩ : ∃ H, H = s.heap := ⟨_, rfl⟩
  obtain ⟨locs, eL⟩ : ∃ locs : List Loc, locs = [] := ⟨_, rfl⟩
  have hI : HI D jC G A0 s.heap H locs := by rw [eH, eL]; exact hI
  rw [← eL]
  suffices h : W p l e (rhJ8_checkBoundsOffCount fr lo) s m args below meth c H locs 0 0 Q (F0 m 0 ls []) by rw [eH] at h; exact h
  clear eH eL
  refine lv_iload_n hx hb dJ8_checkBoundsOffCount_0 rfl (lv_at hl 0 rfl) ?_
  refine lv_iload_n hx hb dJ8_checkBoundsOffCount_1 rfl (lv_at hl 1 rfl) ?_
  refine lv_iload_n hx hb dJ8_checkBoundsOffCount_2 rfl (lv_at hl 2 rfl) ?_
  refine va_gets (v := .ref (j.2 44)) hx hb ((E.z X).2.2.1 _ (List.mem_of_getElem? (show jStR[4]? = some _ from rfl))) hI.2 hown (hts _ q1244) (fun _ h => h) dJ8_checkBoundsOffCount_3 ?_
  refine h_ki X hI (h_runS (As := [.int p0, .int p1, .int p2, va_rf (some (j.2 44))]) X hI (mhJ21_checkFromIndexSize l Z D j Λ fr lo E p0 p1 p2 (some (j.2 44)) G _ hf H.size) (va_cwS 4 hts (lw_S q1501 q1502 q199 q1503) rfl rfl rfl (by decide +kernel) (by show fr + 1 + 1 ≤ fr + 2 ∧ 8 + (4 + 11) + (lo + 40) ≤ lo + 63; omega)) rfl hl.1 (Nat.le_of_ble_eq_true rfl) dJ8_checkBoundsOffCount_6 ⟨Nat.le_refl _, Nat.le_refl _⟩ rfl) (fun x2 G1 H locs hf hI => ?_)
  exact hret hf hI dJ8_checkBoundsOffCount_9 (Nat.le_refl _) (Nat.le_refl _)
/-! java/lang/String.charAt(I)C -/
def hJ8_charAt (j : JX) (Λ : JLam) (a0 : Nat) (p1 : Int32) (G : HG) (post : Int32 → HG → Prop) : Prop :=
  isO G a0 20 (hJ8_isLatin1 j Λ a0 G fun x2 G1 => (x2 = 0 → (False)) ∧ (¬ x2 = 0 → (gtQ G1 a0 20 0 fun q5 => hJ16_charAt j Λ q5 p1 G1 fun x7 G6 => narrow .char (.int x7) = .int x7 ∧ post x7 G6)))
abbrev rhJ8_charAt (fr lo : Nat) : Room := { frames := fr + 4, cells := 0, slots := 0, locals := lo + 104 }
theorem mhJ8_charAt (l : Launch) (Z : (Nat → Prop) → State → Heap → Prop) (D : va_G) (j : JX) (Λ : JLam) (fr lo : Nat) (E : JE l Z D j Λ fr lo) (a0 : Nat) (p1 : Int32) (G : HG) (post : Int32 → HG → Prop) (hf : hJ8_charAt j Λ a0 p1 G post) : HMi l yJ8_charAt (ws_ yJ8_charAt cJ8_charAt 2 (some .char)) (rhJ8_charAt fr lo) D jC (jty j.1) Z G [.ref a0, .int p1] post 0 0 := by
  refine h_openz E.1 (by decide) (by exact Nat.le_of_ble_eq_true rfl) (fun p e s m args below meth c ls A0 Q X hI hnd hnm hl hret => ?_)
  have X : XC p s m args meth c cJ8_charAt 2 RJ8 D jC (jty j.1) A0 Z := X
  have hx := X.1
  have hb := X.2.1
  have hown := X.2.2.2.1
  have hts := X.2.2.2.2.1
  have hl : lv_has ls 2 [(0, .ref a0), (1, .int p1)] := by exact hl
  unfold hJ8_charAt at hf
  obtain ⟨H, eH⟩ : ∃ H, H = s.heap := ⟨_, rfl⟩
  obtain ⟨locs, eL⟩ : ∃ locs : List Loc, locs = [] := ⟨_, rfl⟩
  have hI : HI D jC G A0 s.heap H locs := by rw [eH, eL]; exact hI
  rw [← eL]
  suffices h : W p l e (rhJ8_charAt fr lo) s m args below meth c H locs 0 0 Q (F0 m 0 ls []) by rw [eH] at h; exact h
  clear eH eL
  refine lv_aload_n hx hb dJ8_charAt_0 rfl (lv_at hl 0 rfl) ?_
  obtain ⟨_, _, hO, hf⟩ := hf
  refine h_ki X hI (h_runV (As := []) X hI (h_recv X hI hO (show jC.1[20]? = some (RJ8, TJ8, 4) from rfl)) (mhJ8_isLatin1 l Z D j Λ fr lo E a0 G _ hf H.size) (cwV 0 hts (lw_V q877 q878 q879 q184 q880) rfl rfl rfl (by decide +kernel) (by show fr + 1 + 1 ≤ fr + 4 ∧ 8 + (1 + 11) + (lo + 40) ≤ lo + 104; omega)) rfl hl.1 (Nat.le_of_ble_eq_true rfl) dJ8_charAt_1 ⟨Nat.le_refl _, Nat.le_refl _⟩ rfl) (fun x2 G1 H locs hf hI => ?_)
  clear hO
  refine lv_if_eq (tgt := 16) hx hb dJ8_charAt_4 (by decide) (fun c3 => ?_) (fun c3 => ?_)
  · have hf := hf.1 c3
    exact hf.elim
  · have hf := hf.2 c3
    refine lv_aload_n hx hb dJ8_charAt_7 rfl (lv_at hl 0 rfl) ?_
    refine hr_gtQ X hI (rfl : jC.1[20]? = some (RJ8, TJ8, 4)) in_J8 0 (Nat.le_of_ble_eq_true rfl) hf q1580 (fun _ h => h) dJ8_charAt_8 (fun q5 hf => ?_)
    refine lv_iload_n hx hb dJ8_charAt_11 rfl (lv_at hl 1 rfl) ?_
    refine h_ki X hI (h_runS (As := [va_rf q5, .int p1]) X hI (mhJ16_charAt l Z D j Λ fr lo E q5 p1 G1 _ hf H.size) (va_cwS 2 hts (lw_S q2857 q2858 q193 q2859) rfl rfl rfl (by decide +kernel) (by show fr + 3 + 1 ≤ fr + 4 ∧ 8 + (2 + 11) + (lo + 83) ≤ lo + 104; omega)) rfl hl.1 (Nat.le_of_ble_eq_true rfl) dJ8_charAt_12 ⟨Nat.le_refl _, Nat.le_refl _⟩ rfl) (fun x7 G6 H locs hf hI => ?_)
    obtain ⟨hz, hf⟩ := hf
    exact hret hz hf hI dJ8_charAt_15 (Nat.le_refl _) (Nat.le_refl _)
/-! MergeJudge$Slot.width()I -/
def hX1_width (j : JX) (Λ : JLam) (a0 : Nat) (G : HG) (post : Int32 → HG → Prop) : Prop :=
  gtQ G a0 1 0 fun q1 => inA j G q1 "[B" fun x2 => (x2 = 0 → (gtQ G a0 1 0 fun q4 => inA j G q4 "[S" fun x5 => (x5 = 0 → (gtQ G a0 1 0 fun q7 => inA j G q7 "[I" fun x8 => (x8 = 0 → (post (3 : Int32) G)) ∧ (¬ x8 = 0 → (post (2 : Int32) G)))) ∧ (¬ x5 = 0 → (post (1 : Int32) G)))) ∧ (¬ x2 = 0 → (post (0 : Int32) G))
abbrev rhX1_width (fr lo : Nat) : Room := { frames := fr + 1, cells := 0, slots := 0, locals := lo + 40 }
theorem mhX1_width (l : Launch) (Z : (Nat → Prop) → State → Heap → Prop) (D : va_G) (j : JX) (Λ : JLam) (fr lo : Nat) (E : JE l Z D j Λ fr lo) (a0 : Nat) (G : HG) (post : Int32 → HG → Prop) (hf : hX1_width j Λ a0 G post) : HMi l yX1_width (ws_ yX1_width cX1_width 1 (some .int)) (rhX1_width fr lo) D jC (jty j.1) Z G [.ref a0] post 0 0 := by
  refine h_openi E.1 (by decide) (by exact Nat.le_of_ble_eq_true rfl) (fun p e s m args below meth c ls A0 Q X hI hnd hnm hl hret => ?_)
  have X : XC p s m args meth c cX1_width 1 RX1 D jC (jty j.1) A0 Z := X
  have hx := X.1
  have hb := X.2.1
  have hown := X.2.2.2.1
  have hts := X.2.2.2.2.1
  have hl : lv_has ls 1 [(0, .ref a0)] := by exact hl
  unfold hX1_width at hf
  obtain ⟨H, eH⟩ : ∃ H, H = s.heap := ⟨_, rfl⟩
  obtain ⟨locs, eL⟩ : ∃ locs : List Loc, locs = [] := ⟨_, rfl⟩
  have hI : HI D jC G A0 s.heap H locs := by rw [eH, eL]; exact hI
  rw [← eL]
  suffices h : W p l e (rhX1_width fr lo) s m args below meth c H locs 0 0 Q (F0 m 0 ls []) by rw [eH] at h; exact h
  clear eH eL
  refine lv_aload_n hx hb dX1_width_0 rfl (lv_at hl 0 rfl) ?_
  refine hr_gtQ X hI (rfl : jC.1[1]? = some (RX1, TX1, 1)) in_X1 0 (Nat.le_of_ble_eq_true rfl) hf q432 (fun _ h => h) dX1_width_1 (fun q1 hf => ?_)
  refine hr_instA (v := q1) E X hI hf q382 dX1_width_4 (fun x2 hf => ?_)
  refine lv_if_eq (tgt := 14) hx hb dX1_width_7 (by decide) (fun c3 => ?_) (fun c3 => ?_)
  · have hf := hf.1 c3
    refine lv_aload_n hx hb dX1_width_14 rfl (lv_at hl 0 rfl) ?_
    refine hr_gtQ X hI (rfl : jC.1[1]? = some (RX1, TX1, 1)) in_X1 0 (Nat.le_of_ble_eq_true rfl) hf q432 (fun _ h => h) dX1_width_15 (fun q4 hf => ?_)
    refine hr_instA (v := q4) E X hI hf q383 dX1_width_18 (fun x5 hf => ?_)
    refine lv_if_eq (tgt := 28) hx hb dX1_width_21 (by decide) (fun c6 => ?_) (fun c6 => ?_)
    · have hf := hf.1 c6
      refine lv_aload_n hx hb dX1_width_28 rfl (lv_at hl 0 rfl) ?_
      refine hr_gtQ X hI (rfl : jC.1[1]? = some (RX1, TX1, 1)) in_X1 0 (Nat.le_of_ble_eq_true rfl) hf q432 (fun _ h => h) dX1_width_29 (fun q7 hf => ?_)
      refine hr_instA (v := q7) E X hI hf q402 dX1_width_32 (fun x8 hf => ?_)
      refine lv_if_eq (tgt := 42) hx hb dX1_width_35 (by decide) (fun c9 => ?_) (fun c9 => ?_)
      · have hf := hf.1 c9
        refine lv_iconst (v := 3) hx hb dX1_width_42 (by decide) ?_
        exact hret hf hI dX1_width_43 (Nat.le_refl _) (Nat.le_refl _)
      · have hf := hf.2 c9
        refine lv_iconst (v := 2) hx hb dX1_width_38 (by decide) ?_
        refine lv_goto (tgt := 43) hx hb dX1_width_39 (by decide) ?_
        exact hret hf hI dX1_width_43 (Nat.le_refl _) (Nat.le_refl _)
    · have hf := hf.2 c6
      refine lv_iconst (v := 1) hx hb dX1_width_24 (by decide) ?_
      refine lv_goto (tgt := 43) hx hb dX1_width_25 (by decide) ?_
      exact hret hf hI dX1_width_43 (Nat.le_refl _) (Nat.le_refl _)
  · have hf := hf.2 c3
    refine lv_iconst (v := 0) hx hb dX1_width_10 (by decide) ?_
    refine lv_goto (tgt := 43) hx hb dX1_width_11 (by decide) ?_
    exact hret hf hI dX1_width_43 (Nat.le_refl _) (Nat.le_refl _)
/-! MergeJudge$Base.<init>()V -/
def hX2_init (j : JX) (Λ : JLam) (a0 : Nat) (mc ms : Nat) (G : HG) (post : HG → Prop) : Prop :=
  1 ≤ mc ∧ 3 ≤ ms ∧ mkO G (.inr (15, [.int 0, .null, .int 0])) fun a1 G2 => ∃ m3 m4 : Nat, m3 ≤ mc - 1 ∧ m4 ≤ ms - 3 ∧ hJ2_init j Λ a1 (5 : Int32) m3 m4 G2 fun G5 => ptV G5 a0 2 0 (.ref a1) fun G6 => 1 ≤ mc - 1 - m3 ∧ 3 ≤ ms - 3 - m4 ∧ mkO G6 (.inr (15, [.int 0, .null, .int 0])) fun a7 G8 => ∃ m9 m10 : Nat, m9 ≤ mc - 1 - m3 - 1 ∧ m10 ≤ ms - 3 - m4 - 3 ∧ hJ2_init j Λ a7 (5 : Int32) m9 m10 G8 fun G11 => ptV G11 a0 2 1 (.ref a7) fun G12 => 1 ≤ mc - 1 - m3 - 1 - m9 ∧ 3 ≤ ms - 3 - m4 - 3 - m10 ∧ mkO G12 (.inr (15, [.int 0, .null, .int 0])) fun a13 G14 => hJ2_init_2 j Λ a13 G14 fun G15 => ptV G15 a0 2 2 (.ref a13) fun G16 => 1 ≤ mc - 1 - m3 - 1 - m9 - 1 ∧ (3 : Int32).toNatClampNeg ≤ ms - 3 - m4 - 3 - m10 - 3 ∧ (¬ (3 : Int32) < 0 ∧ (3 : Int32).toNatClampNeg ≤ 65536 ∧ mkO G16 (.inl (j.1 0, (3 : Int32).toNatClampNeg, .inl (fun _ => 0))) fun a17 G18 => ptV G18 a0 2 3 (.ref a17) fun G19 => post G19)
abbrev rhX2_init (fr lo mc ms : Nat) : Room := { frames := fr + 4, cells := mc, slots := ms, locals := lo + 101 }
theorem mhX2_init (l : Launch) (Z : (Nat → Prop) → State → Heap → Prop) (D : va_G) (j : JX) (Λ : JLam) (fr lo : Nat) (E : JE l Z D j Λ fr lo) (a0 : Nat) (mc ms : Nat) (G : HG) (post : HG → Prop) (hf : hX2_init j Λ a0 mc ms G post) : HMv l yX2_init (ws_ yX2_init cX2_init 1 none) (rhX2_init fr lo mc ms) D jC (jty j.1) Z G [.ref a0] post mc ms := by
  obtain ⟨MC, eMC⟩ : ∃ MC, MC = mc := ⟨_, rfl⟩
  obtain ⟨MS, eMS⟩ : ∃ MS, MS = ms := ⟨_, rfl⟩
  suffices goal : HMv l yX2_init (ws_ yX2_init cX2_init 1 none) (rhX2_init fr lo MC MS) D jC (jty j.1) Z G [.ref a0] post MC MS by rw [eMC, eMS] at goal; exact goal
  have hm0_ : 0 + mc ≤ MC ∧ 0 + ms ≤ MS := by omega
  clear eMC eMS
  refine h_openv E.1 (by decide) (by exact Nat.le_of_ble_eq_true rfl) (fun p e s m args below meth c ls A0 Q X hI hnd hnm hl hret => ?_)
  have X : XC p s m args meth c cX2_init 1 RX2 D jC (jty j.1) A0 Z := X
  have hx := X.1
  have hb := X.2.1
  have hown := X.2.2.2.1
  have hts := X.2.2.2.2.1
  have hl : lv_has ls 1 [(0, .ref a0)] := by exact hl
  unfold hX2_init at hf
  obtain ⟨H, eH⟩ : ∃ H, H = s.heap := ⟨_, rfl⟩
  obtain ⟨locs, eL⟩ : ∃ locs : List Loc, locs = [] := ⟨_, rfl⟩
  have hI : HI D jC G A0 s.heap H locs := by rw [eH, eL]; exact hI
  rw [← eL]
  obtain ⟨cells, eC⟩ : ∃ n : Nat, n = 0 := ⟨_, rfl⟩
  obtain ⟨slots, eS⟩ : ∃ n : Nat, n = 0 := ⟨_, rfl⟩
  have hm : cells + mc ≤ MC ∧ slots + ms ≤ MS := by rw [eC, eS]; exact hm0_
  suffices h : W p l e (rhX2_init fr lo MC MS) s m args below meth c H locs cells slots Q (F0 m 0 ls []) by rw [eH, eC, eS] at h; exact h
  clear eH eL eC eS
  refine lv_aload_n hx hb dX2_init_0 rfl (lv_at hl 0 rfl) ?_
  refine W.objInit hx hb hown (hts _ q442) (hts _ q247) (hts _ q248) rfl (by rw [X.2.2.1]; exact hl.1) rfl dX2_init_1 (by show 1 ≤ fr + 4; omega) (Nat.le_trans (m := 40) (Nat.le_of_ble_eq_true rfl) (by show 40 ≤ lo + 101; omega)) ?_
  show W p l e _ s m args below meth c H locs _ _ Q (F0 m 4 ls [])
  refine lv_aload_n hx hb dX2_init_4 rfl (lv_at hl 0 rfl) ?_
  obtain ⟨hb1, hb2, hf⟩ := hf
  refine hr_new X hI (rfl : jC.1[15]? = some (RJ2, TJ2, 3)) in_J2 tyJ2 tyJ2_ok hf q443 q444 q172 (by decide) (hmA hm.1 hb1) (hmA hm.2 hb2) dX2_init_5 (fun a1 G2 H hf hI => ?_)
  have hm := And.intro (hmB hm.1 hb1) (hmB hm.2 hb2)
  clear hb1 hb2
  refine lv_dup hx hb dX2_init_8 rfl ?_
  refine lv_iconst (v := 5) hx hb dX2_init_9 (by decide) ?_
  obtain ⟨m3, m4, hb1, hb2, hf⟩ := hf
  refine h_kv X hI (h_runI (As := [.int 5]) X hI (mhJ2_init l Z D j Λ fr lo E a1 (5 : Int32) m3 m4 G2 _ hf H.size) (cwIn 1 hts q445 q446 q172 q447 rfl rfl rfl (by decide +kernel) (by show fr + 3 + 1 ≤ fr + 4 ∧ 8 + (2 + 11) + (lo + 80) ≤ lo + 101; omega)) rfl hl.1 (Nat.le_of_ble_eq_true rfl) dX2_init_10 ⟨hmA hm.1 hb1, hmA hm.2 hb2⟩ rfl) (fun G5 H locs hf hI => ?_)
  have hm := And.intro (hmB hm.1 hb1) (hmB hm.2 hb2)
  clear hb1 hb2
  refine hr_ptF X hI (rfl : jC.1[2]? = some (RX2, TX2, 11)) in_X2 0 (Nat.le_of_ble_eq_true rfl) tyX2 tyX2_ok nmX2 hf q476 (fun _ h => h) rfl hnm rfl rfl rfl dX2_init_13 (fun G6 H locs hf hI => ?_)
  refine lv_aload_n hx hb dX2_init_16 rfl (lv_at hl 0 rfl) ?_
  obtain ⟨hb1, hb2, hf⟩ := hf
  refine hr_new X hI (rfl : jC.1[15]? = some (RJ2, TJ2, 3)) in_J2 tyJ2 tyJ2_ok hf q443 q444 q172 (by decide) (hmA hm.1 hb1) (hmA hm.2 hb2) dX2_init_17 (fun a7 G8 H hf hI => ?_)
  have hm := And.intro (hmB hm.1 hb1) (hmB hm.2 hb2)
  clear hb1 hb2
  refine lv_dup hx hb dX2_init_20 rfl ?_
  refine lv_iconst (v := 5) hx hb dX2_init_21 (by decide) ?_
  obtain ⟨m9, m10, hb1, hb2, hf⟩ := hf
  refine h_kv X hI (h_runI (As := [.int 5]) X hI (mhJ2_init l Z D j Λ fr lo E a7 (5 : Int32) m9 m10 G8 _ hf H.size) (cwIn 1 hts q445 q446 q172 q447 rfl rfl rfl (by decide +kernel) (by show fr + 3 + 1 ≤ fr + 4 ∧ 8 + (2 + 11) + (lo + 80) ≤ lo + 101; omega)) rfl hl.1 (Nat.le_of_ble_eq_true rfl) dX2_init_22 ⟨hmA hm.1 hb1, hmA hm.2 hb2⟩ rfl) (fun G11 H locs hf hI => ?_)
  have hm := And.intro (hmB hm.1 hb1) (hmB hm.2 hb2)
  clear hb1 hb2
  refine hr_ptF X hI (rfl : jC.1[2]? = some (RX2, TX2, 11)) in_X2 1 (Nat.le_of_ble_eq_true rfl) tyX2 tyX2_ok nmX2 hf q479 (fun _ h => h) rfl hnm rfl rfl rfl dX2_init_25 (fun G12 H locs hf hI => ?_)
  refine lv_aload_n hx hb dX2_init_28 rfl (lv_at hl 0 rfl) ?_
  obtain ⟨hb1, hb2, hf⟩ := hf
  refine hr_new X hI (rfl : jC.1[15]? = some (RJ2, TJ2, 3)) in_J2 tyJ2 tyJ2_ok hf q443 q444 q172 (by decide) (hmA hm.1 hb1) (hmA hm.2 hb2) dX2_init_29 (fun a13 G14 H hf hI => ?_)
  have hm := And.intro (hmB hm.1 hb1) (hmB hm.2 hb2)
  clear hb1 hb2
  refine lv_dup hx hb dX2_init_32 rfl ?_
  refine h_kv X hI (h_runI (As := []) X hI (mhJ2_init_2 l Z D j Λ fr lo E a13 G14 _ hf H.size) (cwIn 0 hts q471 q472 q172 q473 rfl rfl rfl (by decide +kernel) (by show fr + 3 + 1 ≤ fr + 4 ∧ 8 + (1 + 11) + (lo + 80) ≤ lo + 101; omega)) rfl hl.1 (Nat.le_of_ble_eq_true rfl) dX2_init_33 ⟨hm0 hm.1, hm0 hm.2⟩ rfl) (fun G15 H locs hf hI => ?_)
  refine hr_ptF X hI (rfl : jC.1[2]? = some (RX2, TX2, 11)) in_X2 2 (Nat.le_of_ble_eq_true rfl) tyX2 tyX2_ok nmX2 hf q484 (fun _ h => h) rfl hnm rfl rfl rfl dX2_init_36 (fun G16 H locs hf hI => ?_)
  refine lv_aload_n hx hb dX2_init_39 rfl (lv_at hl 0 rfl) ?_
  refine lv_iconst (v := 3) hx hb dX2_init_40 (by decide) ?_
  obtain ⟨hb1, hb2, hf⟩ := hf
  refine hr_newai X hI 0 q323 rfl hf (hmA hm.1 hb1) (hmA hm.2 hb2) dX2_init_41 (fun a17 G18 H hf hI => ?_)
  have hm := And.intro (hmB hm.1 hb1) (hmB hm.2 hb2)
  clear hb1 hb2
  refine hr_ptF X hI (rfl : jC.1[2]? = some (RX2, TX2, 11)) in_X2 3 (Nat.le_of_ble_eq_true rfl) tyX2 tyX2_ok nmX2 hf q486 (fun _ h => h) rfl hnm rfl rfl rfl dX2_init_43 (fun G19 H locs hf hI => ?_)
  exact hret hf hI dX2_init_46 (hmC hm.1) (hmC hm.2)
/-! MergeJudge.<init>()V -/
def hX0_init (j : JX) (Λ : JLam) (a0 : Nat) (mc ms : Nat) (G : HG) (post : HG → Prop) : Prop :=
  1 ≤ mc ∧ (4 : Int32).toNatClampNeg ≤ ms ∧ (¬ (4 : Int32) < 0 ∧ (4 : Int32).toNatClampNeg ≤ 65536 ∧ mkO G (.inl (j.1 5, (4 : Int32).toNatClampNeg, .inr (.inr (.inr (.inr (fun _ => none)))))) fun a1 G2 => 1 ≤ mc - 1 ∧ 1 ≤ ms - (4 : Int32).toNatClampNeg ∧ mkO G2 (.inr (1, [.null])) fun a3 G4 => hX1_init j Λ a3 G4 fun G5 => stQ jOk (jty j.1) G5 a1 (0 : Int32) (some a3) fun G6 => 1 ≤ mc - 1 - 1 ∧ 1 ≤ ms - (4 : Int32).toNatClampNeg - 1 ∧ mkO G6 (.inr (1, [.null])) fun a7 G8 => hX1_init j Λ a7 G8 fun G9 => stQ jOk (jty j.1) G9 a1 (1 : Int32) (some a7) fun G10 => 1 ≤ mc - 1 - 1 - 1 ∧ 1 ≤ ms - (4 : Int32).toNatClampNeg - 1 - 1 ∧ mkO G10 (.inr (1, [.null])) fun a11 G12 => hX1_init j Λ a11 G12 fun G13 => stQ jOk (jty j.1) G13 a1 (2 : Int32) (some a11) fun G14 => 1 ≤ mc - 1 - 1 - 1 - 1 ∧ 1 ≤ ms - (4 : Int32).toNatClampNeg - 1 - 1 - 1 ∧ mkO G14 (.inr (1, [.null])) fun a15 G16 => hX1_init j Λ a15 G16 fun G17 => stQ jOk (jty j.1) G17 a1 (3 : Int32) (some a15) fun G18 => ptV G18 a0 0 0 (.ref a1) fun G19 => 1 ≤ mc - 1 - 1 - 1 - 1 - 1 ∧ 11 ≤ ms - (4 : Int32).toNatClampNeg - 1 - 1 - 1 - 1 ∧ mkO G19 (.inr (2, [.null, .null, .null, .null, .int 0, .int 0, .int 0, .int 0, .int 0, .int 0, .int 0])) fun a20 G21 => ∃ m22 m23 : Nat, m22 ≤ mc - 1 - 1 - 1 - 1 - 1 - 1 ∧ m23 ≤ ms - (4 : Int32).toNatClampNeg - 1 - 1 - 1 - 1 - 11 ∧ hX2_init j Λ a20 m22 m23 G21 fun G24 => ptV G24 a0 0 1 (.ref a20) fun G25 => 1 ≤ mc - 1 - 1 - 1 - 1 - 1 - 1 - m22 ∧ (3 : Int32).toNatClampNeg ≤ ms - (4 : Int32).toNatClampNeg - 1 - 1 - 1 - 1 - 11 - m23 ∧ (¬ (3 : Int32) < 0 ∧ (3 : Int32).toNatClampNeg ≤ 65536 ∧ mkO G25 (.inl (j.1 6, (3 : Int32).toNatClampNeg, .inr (.inr (.inr (.inr (fun _ => none)))))) fun a26 G27 => ptV G27 a0 0 2 (.ref a26) fun G28 => 1 ≤ mc - 1 - 1 - 1 - 1 - 1 - 1 - m22 - 1 ∧ (4 : Int32).toNatClampNeg ≤ ms - (4 : Int32).toNatClampNeg - 1 - 1 - 1 - 1 - 11 - m23 - (3 : Int32).toNatClampNeg ∧ (¬ (4 : Int32) < 0 ∧ (4 : Int32).toNatClampNeg ≤ 65536 ∧ mkO G28 (.inl (j.1 7, (4 : Int32).toNatClampNeg, .inr (.inr (.inr (.inr (fun _ => none)))))) fun a29 G30 => ptV G30 a0 0 3 (.ref a29) fun G31 => isO G31 a0 0 (hX0_clashOf j Λ a0 (0 : Int32) G31 fun q33 G32 => ptV G32 a0 0 4 (va_rf q33) fun G34 => 1 ≤ mc - 1 - 1 - 1 - 1 - 1 - 1 - m22 - 1 - 1 ∧ (400 : Int32).toNatClampNeg ≤ ms - (4 : Int32).toNatClampNeg - 1 - 1 - 1 - 1 - 11 - m23 - (3 : Int32).toNatClampNeg - (4 : Int32).toNatClampNeg ∧ (¬ (400 : Int32) < 0 ∧ (400 : Int32).toNatClampNeg ≤ 65536 ∧ mkO G34 (.inl (j.1 2, (400 : Int32).toNatClampNeg, .inl (fun _ => 0))) fun a35 G36 => ptV G36 a0 0 5 (.ref a35) fun G37 => ptV G37 a0 0 8 (.int (-1)) fun G38 => 1 ≤ mc - 1 - 1 - 1 - 1 - 1 - 1 - m22 - 1 - 1 - 1 ∧ (5 : Int32).toNatClampNeg ≤ ms - (4 : Int32).toNatClampNeg - 1 - 1 - 1 - 1 - 11 - m23 - (3 : Int32).toNatClampNeg - (4 : Int32).toNatClampNeg - (400 : Int32).toNatClampNeg ∧ (¬ (5 : Int32) < 0 ∧ (5 : Int32).toNatClampNeg ≤ 65536 ∧ mkO G38 (.inl (j.1 8, (5 : Int32).toNatClampNeg, .inr (.inr (.inr (.inr (fun _ => none)))))) fun a39 G40 => ptV G40 a0 0 9 (.ref a39) fun G41 => 1 ≤ mc - 1 - 1 - 1 - 1 - 1 - 1 - m22 - 1 - 1 - 1 - 1 ∧ (5 : Int32).toNatClampNeg ≤ ms - (4 : Int32).toNatClampNeg - 1 - 1 - 1 - 1 - 11 - m23 - (3 : Int32).toNatClampNeg - (4 : Int32).toNatClampNeg - (400 : Int32).toNatClampNeg - (5 : Int32).toNatClampNeg ∧ (¬ (5 : Int32) < 0 ∧ (5 : Int32).toNatClampNeg ≤ 65536 ∧ mkO G41 (.inl (j.1 9, (5 : Int32).toNatClampNeg, .inr (.inr (.inr (.inr (fun _ => none)))))) fun a42 G43 => ptV G43 a0 0 10 (.ref a42) fun G44 => 1 ≤ mc - 1 - 1 - 1 - 1 - 1 - 1 - m22 - 1 - 1 - 1 - 1 - 1 ∧ (64 : Int32).toNatClampNeg ≤ ms - (4 : Int32).toNatClampNeg - 1 - 1 - 1 - 1 - 11 - m23 - (3 : Int32).toNatClampNeg - (4 : Int32).toNatClampNeg - (400 : Int32).toNatClampNeg - (5 : Int32).toNatClampNeg - (5 : Int32).toNatClampNeg ∧ (¬ (64 : Int32) < 0 ∧ (64 : Int32).toNatClampNeg ≤ 65536 ∧ mkO G44 (.inl (j.1 1, (64 : Int32).toNatClampNeg, .inl (fun _ => 0))) fun a45 G46 => ptV G46 a0 0 11 (.ref a45) fun G47 => 1 ≤ mc - 1 - 1 - 1 - 1 - 1 - 1 - m22 - 1 - 1 - 1 - 1 - 1 - 1 ∧ 5 ≤ ms - (4 : Int32).toNatClampNeg - 1 - 1 - 1 - 1 - 11 - m23 - (3 : Int32).toNatClampNeg - (4 : Int32).toNatClampNeg - (400 : Int32).toNatClampNeg - (5 : Int32).toNatClampNeg - (5 : Int32).toNatClampNeg - (64 : Int32).toNatClampNeg ∧ mkO G47 (.inr (3, [.null, .null, .null, .int 0, .null])) fun a48 G49 => ∃ m50 m51 : Nat, m50 ≤ mc - 1 - 1 - 1 - 1 - 1 - 1 - m22 - 1 - 1 - 1 - 1 - 1 - 1 - 1 ∧ m51 ≤ ms - (4 : Int32).toNatClampNeg - 1 - 1 - 1 - 1 - 11 - m23 - (3 : Int32).toNatClampNeg - (4 : Int32).toNatClampNeg - (400 : Int32).toNatClampNeg - (5 : Int32).toNatClampNeg - (5 : Int32).toNatClampNeg - (64 : Int32).toNatClampNeg - 5 ∧ hX3_init j Λ a48 a0 m50 m51 G49 fun G52 => ptV G52 a0 0 14 (.ref a48) fun G53 => 1 ≤ mc - 1 - 1 - 1 - 1 - 1 - 1 - m22 - 1 - 1 - 1 - 1 - 1 - 1 - 1 - m50 ∧ 5 ≤ ms - (4 : Int32).toNatClampNeg - 1 - 1 - 1 - 1 - 11 - m23 - (3 : Int32).toNatClampNeg - (4 : Int32).toNatClampNeg - (400 : Int32).toNatClampNeg - (5 : Int32).toNatClampNeg - (5 : Int32).toNatClampNeg - (64 : Int32).toNatClampNeg - 5 - m51 ∧ mkO G53 (.inr (3, [.null, .null, .null, .int 0, .null])) fun a54 G55 => ∃ m56 m57 : Nat, m56 ≤ mc - 1 - 1 - 1 - 1 - 1 - 1 - m22 - 1 - 1 - 1 - 1 - 1 - 1 - 1 - m50 - 1 ∧ m57 ≤ ms - (4 : Int32).toNatClampNeg - 1 - 1 - 1 - 1 - 11 - m23 - (3 : Int32).toNatClampNeg - (4 : Int32).toNatClampNeg - (400 : Int32).toNatClampNeg - (5 : Int32).toNatClampNeg - (5 : Int32).toNatClampNeg - (64 : Int32).toNatClampNeg - 5 - m51 - 5 ∧ hX3_init j Λ a54 a0 m56 m57 G55 fun G58 => ptV G58 a0 0 15 (.ref a54) fun G59 => ptV G59 a0 0 16 (.int (-1)) fun G60 => 1 ≤ mc - 1 - 1 - 1 - 1 - 1 - 1 - m22 - 1 - 1 - 1 - 1 - 1 - 1 - 1 - m50 - 1 - m56 ∧ 6 ≤ ms - (4 : Int32).toNatClampNeg - 1 - 1 - 1 - 1 - 11 - m23 - (3 : Int32).toNatClampNeg - (4 : Int32).toNatClampNeg - (400 : Int32).toNatClampNeg - (5 : Int32).toNatClampNeg - (5 : Int32).toNatClampNeg - (64 : Int32).toNatClampNeg - 5 - m51 - 5 - m57 ∧ mkO G60 (.inr (4, [.int 0, .int 0, .int 0, .int 0, .int 0, .null])) fun a61 G62 => hX4_init j Λ a61 a0 G62 fun G63 => ptV G63 a0 0 17 (.ref a61) fun G64 => 1 ≤ mc - 1 - 1 - 1 - 1 - 1 - 1 - m22 - 1 - 1 - 1 - 1 - 1 - 1 - 1 - m50 - 1 - m56 - 1 ∧ (5 : Int32).toNatClampNeg ≤ ms - (4 : Int32).toNatClampNeg - 1 - 1 - 1 - 1 - 11 - m23 - (3 : Int32).toNatClampNeg - (4 : Int32).toNatClampNeg - (400 : Int32).toNatClampNeg - (5 : Int32).toNatClampNeg - (5 : Int32).toNatClampNeg - (64 : Int32).toNatClampNeg - 5 - m51 - 5 - m57 - 6 ∧ (¬ (5 : Int32) < 0 ∧ (5 : Int32).toNatClampNeg ≤ 65536 ∧ mkO G64 (.inl (j.1 0, (5 : Int32).toNatClampNeg, .inl (fun _ => 0))) fun a65 G66 => ptV G66 a0 0 18 (.ref a65) fun G67 => 1 ≤ mc - 1 - 1 - 1 - 1 - 1 - 1 - m22 - 1 - 1 - 1 - 1 - 1 - 1 - 1 - m50 - 1 - m56 - 1 - 1 ∧ 3 ≤ ms - (4 : Int32).toNatClampNeg - 1 - 1 - 1 - 1 - 11 - m23 - (3 : Int32).toNatClampNeg - (4 : Int32).toNatClampNeg - (400 : Int32).toNatClampNeg - (5 : Int32).toNatClampNeg - (5 : Int32).toNatClampNeg - (64 : Int32).toNatClampNeg - 5 - m51 - 5 - m57 - 6 - (5 : Int32).toNatClampNeg ∧ mkO G67 (.inr (5, [.int 0, .int 0, .null])) fun a68 G69 => hX5_init j Λ a68 a0 G69 fun G70 => ptV G70 a0 0 19 (.ref a68) fun G71 => gtQ G71 a0 0 3 fun q72 => 1 ≤ mc - 1 - 1 - 1 - 1 - 1 - 1 - m22 - 1 - 1 - 1 - 1 - 1 - 1 - 1 - m50 - 1 - m56 - 1 - 1 - 1 ∧ 1 ≤ ms - (4 : Int32).toNatClampNeg - 1 - 1 - 1 - 1 - 11 - m23 - (3 : Int32).toNatClampNeg - (4 : Int32).toNatClampNeg - (400 : Int32).toNatClampNeg - (5 : Int32).toNatClampNeg - (5 : Int32).toNatClampNeg - (64 : Int32).toNatClampNeg - 5 - m51 - 5 - m57 - 6 - (5 : Int32).toNatClampNeg - 3 ∧ mkO G71 (.inr (6, [.null])) fun a73 G74 => hX6_init j Λ a73 (j.2 4) G74 fun G75 => nnq q72 fun a76 => stQ jOk (jty j.1) G75 a76 (0 : Int32) (some a73) fun G77 => gtQ G77 a0 0 3 fun q78 => 1 ≤ mc - 1 - 1 - 1 - 1 - 1 - 1 - m22 - 1 - 1 - 1 - 1 - 1 - 1 - 1 - m50 - 1 - m56 - 1 - 1 - 1 - 1 ∧ 1 ≤ ms - (4 : Int32).toNatClampNeg - 1 - 1 - 1 - 1 - 11 - m23 - (3 : Int32).toNatClampNeg - (4 : Int32).toNatClampNeg - (400 : Int32).toNatClampNeg - (5 : Int32).toNatClampNeg - (5 : Int32).toNatClampNeg - (64 : Int32).toNatClampNeg - 5 - m51 - 5 - m57 - 6 - (5 : Int32).toNatClampNeg - 3 - 1 ∧ mkO G77 (.inr (6, [.null])) fun a79 G80 => hX6_init j Λ a79 (j.2 5) G80 fun G81 => nnq q78 fun a82 => stQ jOk (jty j.1) G81 a82 (1 : Int32) (some a79) fun G83 => gtQ G83 a0 0 3 fun q84 => 1 ≤ mc - 1 - 1 - 1 - 1 - 1 - 1 - m22 - 1 - 1 - 1 - 1 - 1 - 1 - 1 - m50 - 1 - m56 - 1 - 1 - 1 - 1 - 1 ∧ 1 ≤ ms - (4 : Int32).toNatClampNeg - 1 - 1 - 1 - 1 - 11 - m23 - (3 : Int32).toNatClampNeg - (4 : Int32).toNatClampNeg - (400 : Int32).toNatClampNeg - (5 : Int32).toNatClampNeg - (5 : Int32).toNatClampNeg - (64 : Int32).toNatClampNeg - 5 - m51 - 5 - m57 - 6 - (5 : Int32).toNatClampNeg - 3 - 1 - 1 ∧ mkO G83 (.inr (6, [.null])) fun a85 G86 => 1 ≤ mc - 1 - 1 - 1 - 1 - 1 - 1 - m22 - 1 - 1 - 1 - 1 - 1 - 1 - 1 - m50 - 1 - m56 - 1 - 1 - 1 - 1 - 1 - 1 ∧ 1 ≤ ms - (4 : Int32).toNatClampNeg - 1 - 1 - 1 - 1 - 11 - m23 - (3 : Int32).toNatClampNeg - (4 : Int32).toNatClampNeg - (400 : Int32).toNatClampNeg - (5 : Int32).toNatClampNeg - (5 : Int32).toNatClampNeg - (64 : Int32).toNatClampNeg - 5 - m51 - 5 - m57 - 6 - (5 : Int32).toNatClampNeg - 3 - 1 - 1 - 1 ∧ mkO G86 (.inr (29, .ref a0 :: ([] : List Int32).map .int)) fun a87 G88 => hX6_init j Λ a85 a87 G88 fun G89 => nnq q84 fun a90 => stQ jOk (jty j.1) G89 a90 (2 : Int32) (some a85) fun G91 => gtQ G91 a0 0 3 fun q92 => 1 ≤ mc - 1 - 1 - 1 - 1 - 1 - 1 - m22 - 1 - 1 - 1 - 1 - 1 - 1 - 1 - m50 - 1 - m56 - 1 - 1 - 1 - 1 - 1 - 1 - 1 ∧ 1 ≤ ms - (4 : Int32).toNatClampNeg - 1 - 1 - 1 - 1 - 11 - m23 - (3 : Int32).toNatClampNeg - (4 : Int32).toNatClampNeg - (400 : Int32).toNatClampNeg - (5 : Int32).toNatClampNeg - (5 : Int32).toNatClampNeg - (64 : Int32).toNatClampNeg - 5 - m51 - 5 - m57 - 6 - (5 : Int32).toNatClampNeg - 3 - 1 - 1 - 1 - 1 ∧ mkO G91 (.inr (6, [.null])) fun a93 G94 => 1 ≤ mc - 1 - 1 - 1 - 1 - 1 - 1 - m22 - 1 - 1 - 1 - 1 - 1 - 1 - 1 - m50 - 1 - m56 - 1 - 1 - 1 - 1 - 1 - 1 - 1 - 1 ∧ 1 ≤ ms - (4 : Int32).toNatClampNeg - 1 - 1 - 1 - 1 - 11 - m23 - (3 : Int32).toNatClampNeg - (4 : Int32).toNatClampNeg - (400 : Int32).toNatClampNeg - (5 : Int32).toNatClampNeg - (5 : Int32).toNatClampNeg - (64 : Int32).toNatClampNeg - 5 - m51 - 5 - m57 - 6 - (5 : Int32).toNatClampNeg - 3 - 1 - 1 - 1 - 1 - 1 ∧ mkO G94 (.inr (30, .ref a0 :: ([] : List Int32).map .int)) fun a95 G96 => hX6_init j Λ a93 a95 G96 fun G97 => nnq q92 fun a98 => stQ jOk (jty j.1) G97 a98 (3 : Int32) (some a93) fun G99 => post G99)))))))))
abbrev rhX0_init (fr lo mc ms : Nat) : Room := { frames := fr + 5, cells := mc, slots := ms, locals := lo + 3221 }
theorem mhX0_init (l : Launch) (Z : (Nat → Prop) → State → Heap → Prop) (D : va_G) (j : JX) (Λ : JLam) (fr lo : Nat) (E : JE l Z D j Λ fr lo) (a0 : Nat) (mc ms : Nat) (G : HG) (post : HG → Prop) (hf : hX0_init j Λ a0 mc ms G post) : HMv l yX0_init (ws_ yX0_init cX0_init 1 none) (rhX0_init fr lo mc ms) D jC (jty j.1) Z G [.ref a0] post mc ms := by
  obtain ⟨MC, eMC⟩ : ∃ MC, MC = mc := ⟨_, rfl⟩
  obtain ⟨MS, eMS⟩ : ∃ MS, MS = ms := ⟨_, rfl⟩
  suffices goal : HMv l yX0_init (ws_ yX0_init cX0_init 1 none) (rhX0_init fr lo MC MS) D jC (jty j.1) Z G [.ref a0] post MC MS by rw [eMC, eMS] at goal; exact goal
  have hm0_ : 0 + mc ≤ MC ∧ 0 + ms ≤ MS := by omega
  clear eMC eMS
  refine h_openv E.1 (by decide) (by exact Nat.le_of_ble_eq_true rfl) (fun p e s m args below meth c ls A0 Q X hI hnd hnm hl hret => ?_)
  have X : XC p s m args meth c cX0_init 1 RX0 D jC (jty j.1) A0 Z := X
  have hx := X.1
  have hb := X.2.1
  have hown := X.2.2.2.1
  have hts := X.2.2.2.2.1
  have hl : lv_has ls 1 [(0, .ref a0)] := by exact hl
  unfold hX0_init at hf
  obtain ⟨H, eH⟩ : ∃ H, H = s.heap := ⟨_, rfl⟩
  obtain ⟨locs, eL⟩ : ∃ locs : List Loc, locs = [] := ⟨_, rfl⟩
  have hI : HI D jC G A0 s.heap H locs := by rw [eH, eL]; exact hI
  rw [← eL]
  obtain ⟨cells, eC⟩ : ∃ n : Nat, n = 0 := ⟨_, rfl⟩
  obtain ⟨slots, eS⟩ : ∃ n : Nat, n = 0 := ⟨_, rfl⟩
  have hm : cells + mc ≤ MC ∧ slots + ms ≤ MS := by rw [eC, eS]; exact hm0_
  suffices h : W p l e (rhX0_init fr lo MC MS) s m args below meth c H locs cells slots Q (F0 m 0 ls []) by rw [eH, eC, eS] at h; exact h
  clear eH eL eC eS
  refine lv_aload_n hx hb dX0_init_0 rfl (lv_at hl 0 rfl) ?_
  refine W.objInit hx hb hown (hts _ q425) (hts _ q247) (hts _ q248) rfl (by rw [X.2.2.1]; exact hl.1) rfl dX0_init_1 (by show 1 ≤ fr + 5; omega) (Nat.le_trans (m := 40) (Nat.le_of_ble_eq_true rfl) (by show 40 ≤ lo + 3221; omega)) ?_
  show W p l e _ s m args below meth c H locs _ _ Q (F0 m 4 ls [])
  refine lv_aload_n hx hb dX0_init_4 rfl (lv_at hl 0 rfl) ?_
  refine lv_iconst (v := 4) hx hb dX0_init_5 (by decide) ?_
  obtain ⟨hb1, hb2, hf⟩ := hf
  refine hr_newq X hI 5 q426 ((E.w X).2.1 _ q427) rfl hf (hmA hm.1 hb1) (hmA hm.2 hb2) dX0_init_6 (fun a1 G2 H hf hI => ?_)
  have hm := And.intro (hmB hm.1 hb1) (hmB hm.2 hb2)
  clear hb1 hb2
  refine lv_dup hx hb dX0_init_9 rfl ?_
  refine lv_iconst (v := 0) hx hb dX0_init_10 (by decide) ?_
  obtain ⟨hb1, hb2, hf⟩ := hf
  refine hr_new X hI (rfl : jC.1[1]? = some (RX1, TX1, 1)) in_X1 tyX1 tyX1_ok hf q426 q380 q168 (by decide) (hmA hm.1 hb1) (hmA hm.2 hb2) dX0_init_11 (fun a3 G4 H hf hI => ?_)
  have hm := And.intro (hmB hm.1 hb1) (hmB hm.2 hb2)
  clear hb1 hb2
  refine lv_dup hx hb dX0_init_14 rfl ?_
  refine h_kv X hI (h_runIN (As := []) X hI (mhX1_init l Z D j Λ fr lo E a3 G4 _ hf H.size) (cwInn 0 hts (E.nw X q428 rfl) q429 q168 q430 rfl rfl rfl (by decide +kernel) (by show fr + 1 + 1 ≤ fr + 5 ∧ 8 + (1 + 11) + (lo + 40) ≤ lo + 3221; omega)) rfl hl.1 (Nat.le_of_ble_eq_true rfl) dX0_init_15 ⟨hm0 hm.1, hm0 hm.2⟩ rfl) (fun G5 H locs hf hI => ?_)
  refine hr_qst (v := (some a3)) X hI (jOk_asg (E.w X)) hf dX0_init_18 (fun G6 H locs hf hI => ?_)
  refine lv_dup hx hb dX0_init_19 rfl ?_
  refine lv_iconst (v := 1) hx hb dX0_init_20 (by decide) ?_
  obtain ⟨hb1, hb2, hf⟩ := hf
  refine hr_new X hI (rfl : jC.1[1]? = some (RX1, TX1, 1)) in_X1 tyX1 tyX1_ok hf q426 q380 q168 (by decide) (hmA hm.1 hb1) (hmA hm.2 hb2) dX0_init_21 (fun a7 G8 H hf hI => ?_)
  have hm := And.intro (hmB hm.1 hb1) (hmB hm.2 hb2)
  clear hb1 hb2
  refine lv_dup hx hb dX0_init_24 rfl ?_
  refine h_kv X hI (h_runIN (As := []) X hI (mhX1_init l Z D j Λ fr lo E a7 G8 _ hf H.size) (cwInn 0 hts (E.nw X q428 rfl) q429 q168 q430 rfl rfl rfl (by decide +kernel) (by show fr + 1 + 1 ≤ fr + 5 ∧ 8 + (1 + 11) + (lo + 40) ≤ lo + 3221; omega)) rfl hl.1 (Nat.le_of_ble_eq_true rfl) dX0_init_25 ⟨hm0 hm.1, hm0 hm.2⟩ rfl) (fun G9 H locs hf hI => ?_)
  refine hr_qst (v := (some a7)) X hI (jOk_asg (E.w X)) hf dX0_init_28 (fun G10 H locs hf hI => ?_)
  refine lv_dup hx hb dX0_init_29 rfl ?_
  refine lv_iconst (v := 2) hx hb dX0_init_30 (by decide) ?_
  obtain ⟨hb1, hb2, hf⟩ := hf
  refine hr_new X hI (rfl : jC.1[1]? = some (RX1, TX1, 1)) in_X1 tyX1 tyX1_ok hf q426 q380 q168 (by decide) (hmA hm.1 hb1) (hmA hm.2 hb2) dX0_init_31 (fun a11 G12 H hf hI => ?_)
  have hm := And.intro (hmB hm.1 hb1) (hmB hm.2 hb2)
  clear hb1 hb2
  refine lv_dup hx hb dX0_init_34 rfl ?_
  refine h_kv X hI (h_runIN (As := []) X hI (mhX1_init l Z D j Λ fr lo E a11 G12 _ hf H.size) (cwInn 0 hts (E.nw X q428 rfl) q429 q168 q430 rfl rfl rfl (by decide +kernel) (by show fr + 1 + 1 ≤ fr + 5 ∧ 8 + (1 + 11) + (lo + 40) ≤ lo + 3221; omega)) rfl hl.1 (Nat.le_of_ble_eq_true rfl) dX0_init_35 ⟨hm0 hm.1, hm0 hm.2⟩ rfl) (fun G13 H locs hf hI => ?_)
  refine hr_qst (v := (some a11)) X hI (jOk_asg (E.w X)) hf dX0_init_38 (fun G14 H locs hf hI => ?_)
  refine lv_dup hx hb dX0_init_39 rfl ?_
  refine lv_iconst (v := 3) hx hb dX0_init_40 (by decide) ?_
  obtain ⟨hb1, hb2, hf⟩ := hf
  refine hr_new X hI (rfl : jC.1[1]? = some (RX1, TX1, 1)) in_X1 tyX1 tyX1_ok hf q426 q380 q168 (by decide) (hmA hm.1 hb1) (hmA hm.2 hb2) dX0_init_41 (fun a15 G16 H hf hI => ?_)
  have hm := And.intro (hmB hm.1 hb1) (hmB hm.2 hb2)
  clear hb1 hb2
  refine lv_dup hx hb dX0_init_44 rfl ?_
  refine h_kv X hI (h_runIN (As := []) X hI (mhX1_init l Z D j Λ fr lo E a15 G16 _ hf H.size) (cwInn 0 hts (E.nw X q428 rfl) q429 q168 q430 rfl rfl rfl (by decide +kernel) (by show fr + 1 + 1 ≤ fr + 5 ∧ 8 + (1 + 11) + (lo + 40) ≤ lo + 3221; omega)) rfl hl.1 (Nat.le_of_ble_eq_true rfl) dX0_init_45 ⟨hm0 hm.1, hm0 hm.2⟩ rfl) (fun G17 H locs hf hI => ?_)
  refine hr_qst (v := (some a15)) X hI (jOk_asg (E.w X)) hf dX0_init_48 (fun G18 H locs hf hI => ?_)
  refine hr_ptF X hI (rfl : jC.1[0]? = some (RX0, TX0, 20)) in_X0 0 (Nat.le_of_ble_eq_true rfl) tyX0 tyX0_ok nmX0 hf q650 (fun _ h => h) rfl hnm rfl rfl rfl dX0_init_49 (fun G19 H locs hf hI => ?_)
  refine lv_aload_n hx hb dX0_init_52 rfl (lv_at hl 0 rfl) ?_
  obtain ⟨hb1, hb2, hf⟩ := hf
  refine hr_new X hI (rfl : jC.1[2]? = some (RX2, TX2, 11)) in_X2 tyX2 tyX2_ok hf q437 q438 q169 (by decide) (hmA hm.1 hb1) (hmA hm.2 hb2) dX0_init_53 (fun a20 G21 H hf hI => ?_)
  have hm := And.intro (hmB hm.1 hb1) (hmB hm.2 hb2)
  clear hb1 hb2
  refine lv_dup hx hb dX0_init_56 rfl ?_
  obtain ⟨m22, m23, hb1, hb2, hf⟩ := hf
  refine h_kv X hI (h_runIN (As := []) X hI (mhX2_init l Z D j Λ fr lo E a20 m22 m23 G21 _ hf H.size) (cwInn 0 hts (E.nw X q439 rfl) q440 q169 q441 rfl rfl rfl (by decide +kernel) (by show fr + 4 + 1 ≤ fr + 5 ∧ 8 + (1 + 11) + (lo + 101) ≤ lo + 3221; omega)) rfl hl.1 (Nat.le_of_ble_eq_true rfl) dX0_init_57 ⟨hmA hm.1 hb1, hmA hm.2 hb2⟩ rfl) (fun G24 H locs hf hI => ?_)
  have hm := And.intro (hmB hm.1 hb1) (hmB hm.2 hb2)
  clear hb1 hb2
  refine hr_pt X hI (rfl : jC.1[0]? = some (RX0, TX0, 20)) in_X0 1 (Nat.le_of_ble_eq_true rfl) tyX0 tyX0_ok nmX0 hf q653 (fun _ h => h) rfl rfl rfl dX0_init_60 (fun G25 H locs hf hI => ?_)
  refine lv_aload_n hx hb dX0_init_63 rfl (lv_at hl 0 rfl) ?_
  refine lv_iconst (v := 3) hx hb dX0_init_64 (by decide) ?_
  obtain ⟨hb1, hb2, hf⟩ := hf
  refine hr_newq X hI 6 q437 ((E.w X).2.1 _ q532) rfl hf (hmA hm.1 hb1) (hmA hm.2 hb2) dX0_init_65 (fun a26 G27 H hf hI => ?_)
  have hm := And.intro (hmB hm.1 hb1) (hmB hm.2 hb2)
  clear hb1 hb2
  refine hr_ptF X hI (rfl : jC.1[0]? = some (RX0, TX0, 20)) in_X0 2 (Nat.le_of_ble_eq_true rfl) tyX0 tyX0_ok nmX0 hf q654 (fun _ h => h) rfl hnm rfl rfl rfl dX0_init_68 (fun G28 H locs hf hI => ?_)
  refine lv_aload_n hx hb dX0_init_71 rfl (lv_at hl 0 rfl) ?_
  refine lv_iconst (v := 4) hx hb dX0_init_72 (by decide) ?_
  obtain ⟨hb1, hb2, hf⟩ := hf
  refine hr_newq X hI 7 q533 ((E.w X).2.1 _ q534) rfl hf (hmA hm.1 hb1) (hmA hm.2 hb2) dX0_init_73 (fun a29 G30 H hf hI => ?_)
  have hm := And.intro (hmB hm.1 hb1) (hmB hm.2 hb2)
  clear hb1 hb2
  refine hr_ptF X hI (rfl : jC.1[0]? = some (RX0, TX0, 20)) in_X0 3 (Nat.le_of_ble_eq_true rfl) tyX0 tyX0_ok nmX0 hf q655 (fun _ h => h) rfl hnm rfl rfl rfl dX0_init_76 (fun G31 H locs hf hI => ?_)
  refine lv_aload_n hx hb dX0_init_79 rfl (lv_at hl 0 rfl) ?_
  refine lv_aload_n hx hb dX0_init_80 rfl (lv_at hl 0 rfl) ?_
  refine lv_iconst (v := 0) hx hb dX0_init_81 (by decide) ?_
  obtain ⟨_, _, hO, hf⟩ := hf
  refine h_kq X hI (h_runV (As := [.int 0]) X hI (h_recv X hI hO (show jC.1[0]? = some (RX0, TX0, 20) from rfl)) (mhX0_clashOf l Z D j Λ fr lo E a0 (0 : Int32) G31 _ hf H.size) (cwV 1 hts (lw_V q535 q537 qs5 q167 q538) rfl rfl rfl (by decide +kernel) (by show fr + 1 + 1 ≤ fr + 5 ∧ 8 + (2 + 11) + (lo + 3200) ≤ lo + 3221; omega)) rfl hl.1 (Nat.le_of_ble_eq_true rfl) dX0_init_82 ⟨hm0 hm.1, hm0 hm.2⟩ rfl) (fun q33 G32 H locs hf hI => ?_)
  clear hO
  refine hr_pt X hI (rfl : jC.1[0]? = some (RX0, TX0, 20)) in_X0 4 (Nat.le_of_ble_eq_true rfl) tyX0 tyX0_ok nmX0 hf q656 (fun _ h => h) rfl (nar_o _ _) (fit_o _ _) dX0_init_85 (fun G34 H locs hf hI => ?_)
  refine lv_aload_n hx hb dX0_init_88 rfl (lv_at hl 0 rfl) ?_
  refine lv_sipush (v := 400) hx hb dX0_init_89 (by decide) ?_
  obtain ⟨hb1, hb2, hf⟩ := hf
  refine hr_newab X hI 2 q317 rfl hf (hmA hm.1 hb1) (hmA hm.2 hb2) dX0_init_92 (fun a35 G36 H hf hI => ?_)
  have hm := And.intro (hmB hm.1 hb1) (hmB hm.2 hb2)
  clear hb1 hb2
  refine hr_ptF X hI (rfl : jC.1[0]? = some (RX0, TX0, 20)) in_X0 5 (Nat.le_of_ble_eq_true rfl) tyX0 tyX0_ok nmX0 hf q657 (fun _ h => h) rfl hnm rfl rfl rfl dX0_init_94 (fun G37 H locs hf hI => ?_)
  refine lv_aload_n hx hb dX0_init_97 rfl (lv_at hl 0 rfl) ?_
  refine lv_iconst (v := -1) hx hb dX0_init_98 (by decide) ?_
  refine hr_pt X hI (rfl : jC.1[0]? = some (RX0, TX0, 20)) in_X0 8 (Nat.le_of_ble_eq_true rfl) tyX0 tyX0_ok nmX0 hf q660 (fun _ h => h) rfl rfl rfl dX0_init_99 (fun G38 H locs hf hI => ?_)
  refine lv_aload_n hx hb dX0_init_102 rfl (lv_at hl 0 rfl) ?_
  refine lv_iconst (v := 5) hx hb dX0_init_103 (by decide) ?_
  obtain ⟨hb1, hb2, hf⟩ := hf
  refine hr_newq X hI 8 q550 ((E.w X).2.1 _ q551) rfl hf (hmA hm.1 hb1) (hmA hm.2 hb2) dX0_init_104 (fun a39 G40 H hf hI => ?_)
  have hm := And.intro (hmB hm.1 hb1) (hmB hm.2 hb2)
  clear hb1 hb2
  refine hr_ptF X hI (rfl : jC.1[0]? = some (RX0, TX0, 20)) in_X0 9 (Nat.le_of_ble_eq_true rfl) tyX0 tyX0_ok nmX0 hf q661 (fun _ h => h) rfl hnm rfl rfl rfl dX0_init_107 (fun G41 H locs hf hI => ?_)
  refine lv_aload_n hx hb dX0_init_110 rfl (lv_at hl 0 rfl) ?_
  refine lv_iconst (v := 5) hx hb dX0_init_111 (by decide) ?_
  obtain ⟨hb1, hb2, hf⟩ := hf
  refine hr_newq X hI 9 q552 ((E.w X).2.1 _ q553) rfl hf (hmA hm.1 hb1) (hmA hm.2 hb2) dX0_init_112 (fun a42 G43 H hf hI => ?_)
  have hm := And.intro (hmB hm.1 hb1) (hmB hm.2 hb2)
  clear hb1 hb2
  refine hr_ptF X hI (rfl : jC.1[0]? = some (RX0, TX0, 20)) in_X0 10 (Nat.le_of_ble_eq_true rfl) tyX0 tyX0_ok nmX0 hf q662 (fun _ h => h) rfl hnm rfl rfl rfl dX0_init_115 (fun G44 H locs hf hI => ?_)
  refine lv_aload_n hx hb dX0_init_118 rfl (lv_at hl 0 rfl) ?_
  refine lv_bipush (v := 64) hx hb dX0_init_119 (by decide) ?_
  obtain ⟨hb1, hb2, hf⟩ := hf
  refine hr_newaz X hI 1 q580 rfl hf (hmA hm.1 hb1) (hmA hm.2 hb2) dX0_init_121 (fun a45 G46 H hf hI => ?_)
  have hm := And.intro (hmB hm.1 hb1) (hmB hm.2 hb2)
  clear hb1 hb2
  refine hr_ptF X hI (rfl : jC.1[0]? = some (RX0, TX0, 20)) in_X0 11 (Nat.le_of_ble_eq_true rfl) tyX0 tyX0_ok nmX0 hf q664 (fun _ h => h) rfl hnm rfl rfl rfl dX0_init_123 (fun G47 H locs hf hI => ?_)
  refine lv_aload_n hx hb dX0_init_126 rfl (lv_at hl 0 rfl) ?_
  obtain ⟨hb1, hb2, hf⟩ := hf
  refine hr_new X hI (rfl : jC.1[3]? = some (RX3, TX3, 5)) in_X3 tyX3 tyX3_ok hf q554 q555 q174 (by decide) (hmA hm.1 hb1) (hmA hm.2 hb2) dX0_init_127 (fun a48 G49 H hf hI => ?_)
  have hm := And.intro (hmB hm.1 hb1) (hmB hm.2 hb2)
  clear hb1 hb2
  refine lv_dup hx hb dX0_init_130 rfl ?_
  refine lv_aload_n hx hb dX0_init_131 rfl (lv_at hl 0 rfl) ?_
  obtain ⟨m50, m51, hb1, hb2, hf⟩ := hf
  refine h_kv X hI (h_runIN (As := [.ref a0]) X hI (mhX3_init l Z D j Λ fr lo E a48 a0 m50 m51 G49 _ hf H.size) (cwInn 1 hts (E.nw X q556 rfl) q557 q174 q558 rfl rfl rfl (by decide +kernel) (by show fr + 1 + 1 ≤ fr + 5 ∧ 8 + (2 + 11) + (lo + 40) ≤ lo + 3221; omega)) rfl hl.1 (Nat.le_of_ble_eq_true rfl) dX0_init_132 ⟨hmA hm.1 hb1, hmA hm.2 hb2⟩ rfl) (fun G52 H locs hf hI => ?_)
  have hm := And.intro (hmB hm.1 hb1) (hmB hm.2 hb2)
  clear hb1 hb2
  refine hr_ptF X hI (rfl : jC.1[0]? = some (RX0, TX0, 20)) in_X0 14 (Nat.le_of_ble_eq_true rfl) tyX0 tyX0_ok nmX0 hf q669 (fun _ h => h) rfl hnm rfl rfl rfl dX0_init_135 (fun G53 H locs hf hI => ?_)
  refine lv_aload_n hx hb dX0_init_138 rfl (lv_at hl 0 rfl) ?_
  obtain ⟨hb1, hb2, hf⟩ := hf
  refine hr_new X hI (rfl : jC.1[3]? = some (RX3, TX3, 5)) in_X3 tyX3 tyX3_ok hf q554 q555 q174 (by decide) (hmA hm.1 hb1) (hmA hm.2 hb2) dX0_init_139 (fun a54 G55 H hf hI => ?_)
  have hm := And.intro (hmB hm.1 hb1) (hmB hm.2 hb2)
  clear hb1 hb2
  refine lv_dup hx hb dX0_init_142 rfl ?_
  refine lv_aload_n hx hb dX0_init_143 rfl (lv_at hl 0 rfl) ?_
  obtain ⟨m56, m57, hb1, hb2, hf⟩ := hf
  refine h_kv X hI (h_runIN (As := [.ref a0]) X hI (mhX3_init l Z D j Λ fr lo E a54 a0 m56 m57 G55 _ hf H.size) (cwInn 1 hts (E.nw X q556 rfl) q557 q174 q558 rfl rfl rfl (by decide +kernel) (by show fr + 1 + 1 ≤ fr + 5 ∧ 8 + (2 + 11) + (lo + 40) ≤ lo + 3221; omega)) rfl hl.1 (Nat.le_of_ble_eq_true rfl) dX0_init_144 ⟨hmA hm.1 hb1, hmA hm.2 hb2⟩ rfl) (fun G58 H locs hf hI => ?_)
  have hm := And.intro (hmB hm.1 hb1) (hmB hm.2 hb2)
  clear hb1 hb2
  refine hr_ptF X hI (rfl : jC.1[0]? = some (RX0, TX0, 20)) in_X0 15 (Nat.le_of_ble_eq_true rfl) tyX0 tyX0_ok nmX0 hf q670 (fun _ h => h) rfl hnm rfl rfl rfl dX0_init_147 (fun G59 H locs hf hI => ?_)
  refine lv_aload_n hx hb dX0_init_150 rfl (lv_at hl 0 rfl) ?_
  refine lv_iconst (v := -1) hx hb dX0_init_151 (by decide) ?_
  refine hr_pt X hI (rfl : jC.1[0]? = some (RX0, TX0, 20)) in_X0 16 (Nat.le_of_ble_eq_true rfl) tyX0 tyX0_ok nmX0 hf q671 (fun _ h => h) rfl rfl rfl dX0_init_152 (fun G60 H locs hf hI => ?_)
  refine lv_aload_n hx hb dX0_init_155 rfl (lv_at hl 0 rfl) ?_
  obtain ⟨hb1, hb2, hf⟩ := hf
  refine hr_new X hI (rfl : jC.1[4]? = some (RX4, TX4, 6)) in_X4 tyX4 tyX4_ok hf q581 q582 q175 (by decide) (hmA hm.1 hb1) (hmA hm.2 hb2) dX0_init_156 (fun a61 G62 H hf hI => ?_)
  have hm := And.intro (hmB hm.1 hb1) (hmB hm.2 hb2)
  clear hb1 hb2
  refine lv_dup hx hb dX0_init_159 rfl ?_
  refine lv_aload_n hx hb dX0_init_160 rfl (lv_at hl 0 rfl) ?_
  refine h_kv X hI (h_runIN (As := [.ref a0]) X hI (mhX4_init l Z D j Λ fr lo E a61 a0 G62 _ hf H.size) (cwInn 1 hts (E.nw X q583 rfl) q584 q175 q585 rfl rfl rfl (by decide +kernel) (by show fr + 1 + 1 ≤ fr + 5 ∧ 8 + (2 + 11) + (lo + 40) ≤ lo + 3221; omega)) rfl hl.1 (Nat.le_of_ble_eq_true rfl) dX0_init_161 ⟨hm0 hm.1, hm0 hm.2⟩ rfl) (fun G63 H locs hf hI => ?_)
  refine hr_ptF X hI (rfl : jC.1[0]? = some (RX0, TX0, 20)) in_X0 17 (Nat.le_of_ble_eq_true rfl) tyX0 tyX0_ok nmX0 hf q672 (fun _ h => h) rfl hnm rfl rfl rfl dX0_init_164 (fun G64 H locs hf hI => ?_)
  refine lv_aload_n hx hb dX0_init_167 rfl (lv_at hl 0 rfl) ?_
  refine lv_iconst (v := 5) hx hb dX0_init_168 (by decide) ?_
  obtain ⟨hb1, hb2, hf⟩ := hf
  refine hr_newai X hI 0 q323 rfl hf (hmA hm.1 hb1) (hmA hm.2 hb2) dX0_init_169 (fun a65 G66 H hf hI => ?_)
  have hm := And.intro (hmB hm.1 hb1) (hmB hm.2 hb2)
  clear hb1 hb2
  refine hr_ptF X hI (rfl : jC.1[0]? = some (RX0, TX0, 20)) in_X0 18 (Nat.le_of_ble_eq_true rfl) tyX0 tyX0_ok nmX0 hf q673 (fun _ h => h) rfl hnm rfl rfl rfl dX0_init_171 (fun G67 H locs hf hI => ?_)
  refine lv_aload_n hx hb dX0_init_174 rfl (lv_at hl 0 rfl) ?_
  obtain ⟨hb1, hb2, hf⟩ := hf
  refine hr_new X hI (rfl : jC.1[5]? = some (RX5, TX5, 3)) in_X5 tyX5 tyX5_ok hf q607 q608 q176 (by decide) (hmA hm.1 hb1) (hmA hm.2 hb2) dX0_init_175 (fun a68 G69 H hf hI => ?_)
  have hm := And.intro (hmB hm.1 hb1) (hmB hm.2 hb2)
  clear hb1 hb2
  refine lv_dup hx hb dX0_init_178 rfl ?_
  refine lv_aload_n hx hb dX0_init_179 rfl (lv_at hl 0 rfl) ?_
  refine h_kv X hI (h_runIN (As := [.ref a0]) X hI (mhX5_init l Z D j Λ fr lo E a68 a0 G69 _ hf H.size) (cwInn 1 hts (E.nw X q609 rfl) q610 q176 q611 rfl rfl rfl (by decide +kernel) (by show fr + 1 + 1 ≤ fr + 5 ∧ 8 + (2 + 11) + (lo + 40) ≤ lo + 3221; omega)) rfl hl.1 (Nat.le_of_ble_eq_true rfl) dX0_init_180 ⟨hm0 hm.1, hm0 hm.2⟩ rfl) (fun G70 H locs hf hI => ?_)
  refine hr_ptF X hI (rfl : jC.1[0]? = some (RX0, TX0, 20)) in_X0 19 (Nat.le_of_ble_eq_true rfl) tyX0 tyX0_ok nmX0 hf q674 (fun _ h => h) rfl hnm rfl rfl rfl dX0_init_183 (fun G71 H locs hf hI => ?_)
  refine lv_aload_n hx hb dX0_init_186 rfl (lv_at hl 0 rfl) ?_
  refine hr_gtQ X hI (rfl : jC.1[0]? = some (RX0, TX0, 20)) in_X0 3 (Nat.le_of_ble_eq_true rfl) hf q655 (fun _ h => h) dX0_init_187 (fun q72 hf => ?_)
  refine lv_iconst (v := 0) hx hb dX0_init_190 (by decide) ?_
  obtain ⟨hb1, hb2, hf⟩ := hf
  refine hr_new X hI (rfl : jC.1[6]? = some (RX6, TX6, 1)) in_X6 tyX6 tyX6_ok hf q533 q625 q177 (by decide) (hmA hm.1 hb1) (hmA hm.2 hb2) dX0_init_191 (fun a73 G74 H hf hI => ?_)
  have hm := And.intro (hmB hm.1 hb1) (hmB hm.2 hb2)
  clear hb1 hb2
  refine lv_dup hx hb dX0_init_194 rfl ?_
  refine E.2.2.1 4 yX0_init 195 70 rfl X hI hnd hl.1 (by cases q72 <;> exact Nat.le_of_ble_eq_true rfl) dX0_init_195 (by show 3200 ≤ lo + 3221; omega) ?_
  refine h_kv X hI (h_runI (As := [.ref (j.2 4)]) X hI (mhX6_init l Z D j Λ fr lo E a73 (j.2 4) G74 _ hf H.size) (cwIn 1 hts q626 q627 q177 q628 rfl rfl rfl (by decide +kernel) (by show fr + 1 + 1 ≤ fr + 5 ∧ 8 + (2 + 11) + (lo + 40) ≤ lo + 3221; omega)) rfl hl.1 (by cases q72 <;> exact Nat.le_of_ble_eq_true rfl) dX0_init_200 ⟨hm0 hm.1, hm0 hm.2⟩ rfl) (fun G75 H locs hf hI => ?_)
  obtain ⟨a76, ea76, hf⟩ := hf
  revert hl hf
  subst ea76
  intro hl hf
  have hl : lv_has ls 1 [(0, .ref a0)] := hl
  refine hr_qst (v := (some a73)) X hI (jOk_asg (E.w X)) hf dX0_init_203 (fun G77 H locs hf hI => ?_)
  refine lv_aload_n hx hb dX0_init_204 rfl (lv_at hl 0 rfl) ?_
  refine hr_gtQ X hI (rfl : jC.1[0]? = some (RX0, TX0, 20)) in_X0 3 (Nat.le_of_ble_eq_true rfl) hf q655 (fun _ h => h) dX0_init_205 (fun q78 hf => ?_)
  refine lv_iconst (v := 1) hx hb dX0_init_208 (by decide) ?_
  obtain ⟨hb1, hb2, hf⟩ := hf
  refine hr_new X hI (rfl : jC.1[6]? = some (RX6, TX6, 1)) in_X6 tyX6 tyX6_ok hf q533 q625 q177 (by decide) (hmA hm.1 hb1) (hmA hm.2 hb2) dX0_init_209 (fun a79 G80 H hf hI => ?_)
  have hm := And.intro (hmB hm.1 hb1) (hmB hm.2 hb2)
  clear hb1 hb2
  refine lv_dup hx hb dX0_init_212 rfl ?_
  refine E.2.2.1 5 yX0_init 213 183 rfl X hI hnd hl.1 (by cases q78 <;> exact Nat.le_of_ble_eq_true rfl) dX0_init_213 (by show 3200 ≤ lo + 3221; omega) ?_
  refine h_kv X hI (h_runI (As := [.ref (j.2 5)]) X hI (mhX6_init l Z D j Λ fr lo E a79 (j.2 5) G80 _ hf H.size) (cwIn 1 hts q626 q627 q177 q628 rfl rfl rfl (by decide +kernel) (by show fr + 1 + 1 ≤ fr + 5 ∧ 8 + (2 + 11) + (lo + 40) ≤ lo + 3221; omega)) rfl hl.1 (by cases q78 <;> exact Nat.le_of_ble_eq_true rfl) dX0_init_218 ⟨hm0 hm.1, hm0 hm.2⟩ rfl) (fun G81 H locs hf hI => ?_)
  obtain ⟨a82, ea82, hf⟩ := hf
  revert hl hf
  subst ea82
  intro hl hf
  have hl : lv_has ls 1 [(0, .ref a0)] := hl
  refine hr_qst (v := (some a79)) X hI (jOk_asg (E.w X)) hf dX0_init_221 (fun G83 H locs hf hI => ?_)
  refine lv_aload_n hx hb dX0_init_222 rfl (lv_at hl 0 rfl) ?_
  refine hr_gtQ X hI (rfl : jC.1[0]? = some (RX0, TX0, 20)) in_X0 3 (Nat.le_of_ble_eq_true rfl) hf q655 (fun _ h => h) dX0_init_223 (fun q84 hf => ?_)
  refine lv_iconst (v := 2) hx hb dX0_init_226 (by decide) ?_
  obtain ⟨hb1, hb2, hf⟩ := hf
  refine hr_new X hI (rfl : jC.1[6]? = some (RX6, TX6, 1)) in_X6 tyX6 tyX6_ok hf q533 q625 q177 (by decide) (hmA hm.1 hb1) (hmA hm.2 hb2) dX0_init_227 (fun a85 G86 H hf hI => ?_)
  have hm := And.intro (hmB hm.1 hb1) (hmB hm.2 hb2)
  clear hb1 hb2
  refine lv_dup hx hb dX0_init_230 rfl ?_
  refine lv_aload_n hx hb dX0_init_231 rfl (lv_at hl 0 rfl) ?_
  obtain ⟨hb1, hb2, hf⟩ := hf
  refine E.2.2.2.1 6 yX0_init 232 184 a0 [] rfl (rest := [.ref a85, .ref a85, .int 2, va_rf q84]) X hI hnd hl.1 (by cases q84 <;> exact Nat.le_of_ble_eq_true rfl) dX0_init_232 (by show 3200 ≤ lo + 3221; omega) (hmA hm.1 hb1) (hmA hm.2 hb2) hf (fun a87 G88 H hf hI => ?_)
  have hm := And.intro (hmB hm.1 hb1) (hmB hm.2 hb2)
  clear hb1 hb2
  refine h_kv X hI (h_runI (As := [.ref a87]) X hI (mhX6_init l Z D j Λ fr lo E a85 a87 G88 _ hf H.size) (cwIn 1 hts q626 q627 q177 q628 rfl rfl rfl (by decide +kernel) (by show fr + 1 + 1 ≤ fr + 5 ∧ 8 + (2 + 11) + (lo + 40) ≤ lo + 3221; omega)) rfl hl.1 (by cases q84 <;> exact Nat.le_of_ble_eq_true rfl) dX0_init_237 ⟨hm0 hm.1, hm0 hm.2⟩ rfl) (fun G89 H locs hf hI => ?_)
  obtain ⟨a90, ea90, hf⟩ := hf
  revert hl hf
  subst ea90
  intro hl hf
  have hl : lv_has ls 1 [(0, .ref a0)] := hl
  refine hr_qst (v := (some a85)) X hI (jOk_asg (E.w X)) hf dX0_init_240 (fun G91 H locs hf hI => ?_)
  refine lv_aload_n hx hb dX0_init_241 rfl (lv_at hl 0 rfl) ?_
  refine hr_gtQ X hI (rfl : jC.1[0]? = some (RX0, TX0, 20)) in_X0 3 (Nat.le_of_ble_eq_true rfl) hf q655 (fun _ h => h) dX0_init_242 (fun q92 hf => ?_)
  refine lv_iconst (v := 3) hx hb dX0_init_245 (by decide) ?_
  obtain ⟨hb1, hb2, hf⟩ := hf
  refine hr_new X hI (rfl : jC.1[6]? = some (RX6, TX6, 1)) in_X6 tyX6 tyX6_ok hf q533 q625 q177 (by decide) (hmA hm.1 hb1) (hmA hm.2 hb2) dX0_init_246 (fun a93 G94 H hf hI => ?_)
  have hm := And.intro (hmB hm.1 hb1) (hmB hm.2 hb2)
  clear hb1 hb2
  refine lv_dup hx hb dX0_init_249 rfl ?_
  refine lv_aload_n hx hb dX0_init_250 rfl (lv_at hl 0 rfl) ?_
  obtain ⟨hb1, hb2, hf⟩ := hf
  refine E.2.2.2.1 7 yX0_init 251 187 a0 [] rfl (rest := [.ref a93, .ref a93, .int 3, va_rf q92]) X hI hnd hl.1 (by cases q92 <;> exact Nat.le_of_ble_eq_true rfl) dX0_init_251 (by show 3200 ≤ lo + 3221; omega) (hmA hm.1 hb1) (hmA hm.2 hb2) hf (fun a95 G96 H hf hI => ?_)
  have hm := And.intro (hmB hm.1 hb1) (hmB hm.2 hb2)
  clear hb1 hb2
  refine h_kv X hI (h_runI (As := [.ref a95]) X hI (mhX6_init l Z D j Λ fr lo E a93 a95 G96 _ hf H.size) (cwIn 1 hts q626 q627 q177 q628 rfl rfl rfl (by decide +kernel) (by show fr + 1 + 1 ≤ fr + 5 ∧ 8 + (2 + 11) + (lo + 40) ≤ lo + 3221; omega)) rfl hl.1 (by cases q92 <;> exact Nat.le_of_ble_eq_true rfl) dX0_init_256 ⟨hm0 hm.1, hm0 hm.2⟩ rfl) (fun G97 H locs hf hI => ?_)
  obtain ⟨a98, ea98, hf⟩ := hf
  revert hl hf
  subst ea98
  intro hl hf
  have hl : lv_has ls 1 [(0, .ref a0)] := hl
  refine hr_qst (v := (some a93)) X hI (jOk_asg (E.w X)) hf dX0_init_259 (fun G99 H locs hf hI => ?_)
  exact hret hf hI dX0_init_260 (hmC hm.1) (hmC hm.2)
/-! MergeJudge.lays()V -/
def hX0_lays_b59 (j : JX) (Λ : JLam) (a0 : Nat) (post : HG → Prop) (K59 : Int32 → Nat → Nat → HG → Prop) (lx1 : Int32) (mc ms : Nat) (G : HG) : Prop :=
  gtQ G a0 0 1 fun q26 => nnq q26 fun a27 => gtQ G a27 2 1 fun q28 => nnq q28 fun a29 => isO G a29 15 (hJ2_size j Λ a29 G fun x31 G30 => (x31 ≤ lx1 → (gtQ G30 a0 0 1 fun q33 => nnq q33 fun a34 => gtI G30 a34 2 5 fun x35 => isO G30 a0 0 (hX0_clashOf j Λ a0 x35 G30 fun q37 G36 => ptV G36 a0 0 4 (va_rf q37) fun G38 => gtQ G38 a0 0 1 fun q39 => nnq q39 fun a40 => gtI G38 a40 2 9 fun x41 => ptV G38 a0 0 13 (.int x41) fun G42 => gtQ G42 a0 0 1 fun q43 => nnq q43 fun a44 => gtI G42 a44 2 8 fun x45 => isO G42 a0 0 (hX0_counts j Λ a0 x45 G42 fun G46 => post G46)))) ∧ (¬ x31 ≤ lx1 → (gtQ G30 a0 0 10 fun q47 => 1 ≤ mc ∧ 1 ≤ ms ∧ mkO G30 (.inr (12, [.null])) fun a48 G49 => gtQ G49 a0 0 1 fun q50 => nnq q50 fun a51 => gtQ G49 a51 2 1 fun q52 => nnq q52 fun a53 => isO G49 a53 15 (hJ2_get j Λ a53 lx1 G49 fun q55 G54 => csO G54 q55 "MergeJudge$Told" (nnq q55 fun a56 => isO G54 a0 0 (∃ m57 m58 : Nat, m57 ≤ mc - 1 ∧ m58 ≤ ms - 1 ∧ hX0_stepOf j Λ a0 a56 m57 m58 G54 fun q60 G59 => nnq q60 fun a61 => hX12_init j Λ a48 a61 G59 fun G62 => nnq q47 fun a63 => stQ jOk (jty j.1) G62 a63 lx1 (some a48) fun G64 => K59 (lx1 + 1) (mc - 1 - m57) (ms - 1 - m58) G64))))))
def hX0_lays_l59 (j : JX) (Λ : JLam) (a0 : Nat) (post : HG → Prop) : Nat → Int32 → Nat → Nat → HG → Prop
  | 0 => fun _ _ _ _ => False
  | n + 1 => fun lx1 mc ms G => hX0_lays_b59 j Λ a0 post (hX0_lays_l59 j Λ a0 post n) lx1 mc ms G
def hX0_lays_b2 (j : JX) (Λ : JLam) (a0 : Nat) (post : HG → Prop) (K2 : Int32 → Nat → Nat → HG → Prop) (lx1 : Int32) (mc ms : Nat) (G : HG) : Prop :=
  gtQ G a0 0 1 fun q1 => nnq q1 fun a2 => gtQ G a2 2 0 fun q3 => nnq q3 fun a4 => isO G a4 15 (hJ2_size j Λ a4 G fun x6 G5 => (x6 ≤ lx1 → (∃ n, hX0_lays_l59 j Λ a0 post n (0 : Int32) mc ms G5)) ∧ (¬ x6 ≤ lx1 → (gtQ G5 a0 0 9 fun q8 => 1 ≤ mc ∧ 1 ≤ ms ∧ mkO G5 (.inr (11, [.null])) fun a9 G10 => gtQ G10 a0 0 1 fun q11 => nnq q11 fun a12 => gtQ G10 a12 2 0 fun q13 => nnq q13 fun a14 => isO G10 a14 15 (hJ2_get j Λ a14 lx1 G10 fun q16 G15 => csO G15 q16 "MergeJudge$Told" (nnq q16 fun a17 => isO G15 a0 0 (∃ m18 m19 : Nat, m18 ≤ mc - 1 ∧ m19 ≤ ms - 1 ∧ hX0_ruleOf j Λ a0 a17 m18 m19 G15 fun q21 G20 => nnq q21 fun a22 => hX11_init j Λ a9 a22 G20 fun G23 => nnq q8 fun a24 => stQ jOk (jty j.1) G23 a24 lx1 (some a9) fun G25 => K2 (lx1 + 1) (mc - 1 - m18) (ms - 1 - m19) G25))))))
def hX0_lays_l2 (j : JX) (Λ : JLam) (a0 : Nat) (post : HG → Prop) : Nat → Int32 → Nat → Nat → HG → Prop
  | 0 => fun _ _ _ _ => False
  | n + 1 => fun lx1 mc ms G => hX0_lays_b2 j Λ a0 post (hX0_lays_l2 j Λ a0 post n) lx1 mc ms G
def hX0_lays (j : JX) (Λ : JLam) (a0 : Nat) (mc ms : Nat) (G : HG) (post : HG → Prop) : Prop :=
  ∃ n, hX0_lays_l2 j Λ a0 post n (0 : Int32) mc ms G
abbrev rhX0_lays (fr lo mc ms : Nat) : Room := { frames := fr + 4, cells := mc, slots := ms, locals := lo + 3225 }
theorem mhX0_lays (l : Launch) (Z : (Nat → Prop) → State → Heap → Prop) (D : va_G) (j : JX) (Λ : JLam) (fr lo : Nat) (E : JE l Z D j Λ fr lo) (a0 : Nat) (mc ms : Nat) (G : HG) (post : HG → Prop) (hf : hX0_lays j Λ a0 mc ms G post) : HMv l yX0_lays (ws_ yX0_lays cX0_lays 2 none) (rhX0_lays fr lo mc ms) D jC (jty j.1) Z G [.ref a0] post mc ms := by
  obtain ⟨MC, eMC⟩ : ∃ MC, MC = mc := ⟨_, rfl⟩
  obtain ⟨MS, eMS⟩ : ∃ MS, MS = ms := ⟨_, rfl⟩
  suffices goal : HMv l yX0_lays (ws_ yX0_lays cX0_lays 2 none) (rhX0_lays fr lo MC MS) D jC (jty j.1) Z G [.ref a0] post MC MS by rw [eMC, eMS] at goal; exact goal
  have hm0_ : 0 + mc ≤ MC ∧ 0 + ms ≤ MS := by omega
  clear eMC eMS
  refine h_openv E.1 (by decide) (by exact Nat.le_of_ble_eq_true rfl) (fun p e s m args below meth c ls A0 Q X hI hnd hnm hl hret => ?_)
  have X : XC p s m args meth c cX0_lays 2 RX0 D jC (jty j.1) A0 Z := X
  have hx := X.1
  have hb := X.2.1
  have hown := X.2.2.2.1
  have hts := X.2.2.2.2.1
  have L59 : ∀ (n : Nat) (lx1 : Int32) (mc ms : Nat) (G : HG), hX0_lays_l59 j Λ a0 post n lx1 mc ms G → ∀ (cells slots : Nat), cells + mc ≤ MC ∧ slots + ms ≤ MS → ∀ (H : Heap) (locs : List Loc), HI D jC G A0 s.heap H locs → ∀ (ls : Array Slot), lv_has ls 2 [(0, .ref a0), (1, .int lx1)] → W p l e (rhX0_lays fr lo MC MS) s m args below meth c H locs cells slots Q (F0 m 59 ls []) := by
    intro n59
    induction n59 with
    | zero => intro lx1 mc ms G hf; exact hf.elim
    | succ n59 ih59 =>
      intro lx1 mc ms G hf cells slots hm H locs hI ls hl
      have hf : hX0_lays_b59 j Λ a0 post (hX0_lays_l59 j Λ a0 post n59) lx1 mc ms G := hf
      unfold hX0_lays_b59 at hf
      refine lv_iload_n hx hb dX0_lays_59 rfl (lv_at hl 1 rfl) ?_
      refine lv_aload_n hx hb dX0_lays_60 rfl (lv_at hl 0 rfl) ?_
      refine hr_gtQ X hI (rfl : jC.1[0]? = some (RX0, TX0, 20)) in_X0 1 (Nat.le_of_ble_eq_true rfl) hf q653 (fun _ h => h) dX0_lays_61 (fun q26 hf => ?_)
      obtain ⟨a27, ea27, hf⟩ := hf
      revert hl hf
      subst ea27
      intro hl hf
      have hl : lv_has ls 2 [(0, .ref a0), (1, .int lx1)] := hl
      refine hr_gtQN X hI (rfl : jC.1[2]? = some (RX2, TX2, 11)) in_X2 1 (Nat.le_of_ble_eq_true rfl) hf (E.nw X q483 rfl) (fun _ h => h) dX0_lays_64 (fun q28 hf => ?_)
      obtain ⟨a29, ea29, hf⟩ := hf
      revert hl hf
      subst ea29
      intro hl hf
      have hl : lv_has ls 2 [(0, .ref a0), (1, .int lx1)] := hl
      obtain ⟨_, _, hO, hf⟩ := hf
      refine h_Fki X hI (h_runF (As := []) X hI (X.2.2.2.2.2.1.1 15 _ (show jC.1[15]? = some (RJ2, TJ2, 3) from rfl)).2 (h_recv X hI hO (show jC.1[15]? = some (RJ2, TJ2, 3) from rfl)) (mhJ2_size l Z D j Λ fr lo E a29 G _ hf H.size) (cwF 0 hts q1848 q1771 q1773 q172 q1775 ((E.w X).2.2.1 _ (List.mem_of_getElem? (show jFw[0]? = _ from rfl))) rfl rfl (by decide +kernel) (by show fr + 1 + 1 ≤ fr + 4 ∧ 8 + (1 + 11) + (lo + 40) ≤ lo + 3225; omega)) rfl hl.1 (Nat.le_of_ble_eq_true rfl) dX0_lays_67 ⟨hm0 hm.1, hm0 hm.2⟩ rfl) (fun x31 G30 H locs hf hI => ?_)
      clear hO
      refine lv_icmp_ge (tgt := 114) hx hb dX0_lays_72 (by decide) (fun c32 => ?_) (fun c32 => ?_)
      · have hf := hf.1 c32
        refine lv_aload_n hx hb dX0_lays_114 rfl (lv_at hl 0 rfl) ?_
        refine lv_aload_n hx hb dX0_lays_115 rfl (lv_at hl 0 rfl) ?_
        refine lv_aload_n hx hb dX0_lays_116 rfl (lv_at hl 0 rfl) ?_
        refine hr_gtQ X hI (rfl : jC.1[0]? = some (RX0, TX0, 20)) in_X0 1 (Nat.le_of_ble_eq_true rfl) hf q653 (fun _ h => h) dX0_lays_117 (fun q33 hf => ?_)
        obtain ⟨a34, ea34, hf⟩ := hf
        revert hl hf
        subst ea34
        intro hl hf
        have hl : lv_has ls 2 [(0, .ref a0), (1, .int lx1)] := hl
        refine hr_gtIN X hI (rfl : jC.1[2]? = some (RX2, TX2, 11)) in_X2 5 (Nat.le_of_ble_eq_true rfl) hf (E.nw X q494 rfl) (fun _ h => h) dX0_lays_120 (fun x35 hf => ?_)
        obtain ⟨_, _, hO, hf⟩ := hf
        refine h_kq X hI (h_runV (As := [.int x35]) X hI (h_recv X hI hO (show jC.1[0]? = some (RX0, TX0, 20) from rfl)) (mhX0_clashOf l Z D j Λ fr lo E a0 x35 G30 _ hf H.size) (cwV 1 hts (lw_V q535 q537 qs5 q167 q538) rfl rfl rfl (by decide +kernel) (by show fr + 1 + 1 ≤ fr + 4 ∧ 8 + (2 + 11) + (lo + 3200) ≤ lo + 3225; omega)) rfl hl.1 (Nat.le_of_ble_eq_true rfl) dX0_lays_123 ⟨hm0 hm.1, hm0 hm.2⟩ rfl) (fun q37 G36 H locs hf hI => ?_)
        clear hO
        refine hr_pt X hI (rfl : jC.1[0]? = some (RX0, TX0, 20)) in_X0 4 (Nat.le_of_ble_eq_true rfl) tyX0 tyX0_ok nmX0 hf q656 (fun _ h => h) rfl (nar_o _ _) (fit_o _ _) dX0_lays_126 (fun G38 H locs hf hI => ?_)
        refine lv_aload_n hx hb dX0_lays_129 rfl (lv_at hl 0 rfl) ?_
        refine lv_aload_n hx hb dX0_lays_130 rfl (lv_at hl 0 rfl) ?_
        refine hr_gtQ X hI (rfl : jC.1[0]? = some (RX0, TX0, 20)) in_X0 1 (Nat.le_of_ble_eq_true rfl) hf q653 (fun _ h => h) dX0_lays_131 (fun q39 hf => ?_)
        obtain ⟨a40, ea40, hf⟩ := hf
        revert hl hf
        subst ea40
        intro hl hf
        have hl : lv_has ls 2 [(0, .ref a0), (1, .int lx1)] := hl
        refine hr_gtIN X hI (rfl : jC.1[2]? = some (RX2, TX2, 11)) in_X2 9 (Nat.le_of_ble_eq_true rfl) hf (E.nw X q505 rfl) (fun _ h => h) dX0_lays_134 (fun x41 hf => ?_)
        refine hr_pt X hI (rfl : jC.1[0]? = some (RX0, TX0, 20)) in_X0 13 (Nat.le_of_ble_eq_true rfl) tyX0 tyX0_ok nmX0 hf q667 (fun _ h => h) rfl rfl rfl dX0_lays_137 (fun G42 H locs hf hI => ?_)
        refine lv_aload_n hx hb dX0_lays_140 rfl (lv_at hl 0 rfl) ?_
        refine lv_aload_n hx hb dX0_lays_141 rfl (lv_at hl 0 rfl) ?_
        refine hr_gtQ X hI (rfl : jC.1[0]? = some (RX0, TX0, 20)) in_X0 1 (Nat.le_of_ble_eq_true rfl) hf q653 (fun _ h => h) dX0_lays_142 (fun q43 hf => ?_)
        obtain ⟨a44, ea44, hf⟩ := hf
        revert hl hf
        subst ea44
        intro hl hf
        have hl : lv_has ls 2 [(0, .ref a0), (1, .int lx1)] := hl
        refine hr_gtIN X hI (rfl : jC.1[2]? = some (RX2, TX2, 11)) in_X2 8 (Nat.le_of_ble_eq_true rfl) hf (E.nw X q502 rfl) (fun _ h => h) dX0_lays_145 (fun x45 hf => ?_)
        obtain ⟨_, _, hO, hf⟩ := hf
        refine h_kv X hI (h_runV (As := [.int x45]) X hI (h_recv X hI hO (show jC.1[0]? = some (RX0, TX0, 20) from rfl)) (mhX0_counts l Z D j Λ fr lo E a0 x45 G42 _ hf H.size) (cwV 1 hts (lw_V q1941 q1943 qs40 q167 q1944) rfl rfl rfl (by decide +kernel) (by show fr + 3 + 1 ≤ fr + 4 ∧ 8 + (3 + 11) + (lo + 83) ≤ lo + 3225; omega)) rfl hl.1 (Nat.le_of_ble_eq_true rfl) dX0_lays_148 ⟨hm0 hm.1, hm0 hm.2⟩ rfl) (fun G46 H locs hf hI => ?_)
        clear hO
        exact hret hf hI dX0_lays_151 (hmC hm.1) (hmC hm.2)
      · have hf := hf.2 c32
        refine lv_aload_n hx hb dX0_lays_75 rfl (lv_at hl 0 rfl) ?_
        refine hr_gtQ X hI (rfl : jC.1[0]? = some (RX0, TX0, 20)) in_X0 10 (Nat.le_of_ble_eq_true rfl) hf q662 (fun _ h => h) dX0_lays_76 (fun q47 hf => ?_)
        refine lv_iload_n hx hb dX0_lays_79 rfl (lv_at hl 1 rfl) ?_
        obtain ⟨hb1, hb2, hf⟩ := hf
        refine hr_new X hI (rfl : jC.1[12]? = some (RX12, TX12, 1)) in_X12 tyX12 tyX12_ok hf q552 q1911 q211 (by decide) (hmA hm.1 hb1) (hmA hm.2 hb2) dX0_lays_80 (fun a48 G49 H hf hI => ?_)
        have hm := And.intro (hmB hm.1 hb1) (hmB hm.2 hb2)
        clear hb1 hb2
        refine lv_dup hx hb dX0_lays_83 rfl ?_
        refine lv_aload_n hx hb dX0_lays_84 rfl (lv_at hl 0 rfl) ?_
        refine lv_aload_n hx hb dX0_lays_85 rfl (lv_at hl 0 rfl) ?_
        refine hr_gtQ X hI (rfl : jC.1[0]? = some (RX0, TX0, 20)) in_X0 1 (Nat.le_of_ble_eq_true rfl) hf q653 (fun _ h => h) dX0_lays_86 (fun q50 hf => ?_)
        obtain ⟨a51, ea51, hf⟩ := hf
        revert hl hf
        subst ea51
        intro hl hf
        have hl : lv_has ls 2 [(0, .ref a0), (1, .int lx1)] := hl
        refine hr_gtQN X hI (rfl : jC.1[2]? = some (RX2, TX2, 11)) in_X2 1 (Nat.le_of_ble_eq_true rfl) hf (E.nw X q483 rfl) (fun _ h => h) dX0_lays_89 (fun q52 hf => ?_)
        refine lv_iload_n hx hb dX0_lays_92 rfl (lv_at hl 1 rfl) ?_
        obtain ⟨a53, ea53, hf⟩ := hf
        revert hl hf
        subst ea53
        intro hl hf
        have hl : lv_has ls 2 [(0, .ref a0), (1, .int lx1)] := hl
        obtain ⟨_, _, hO, hf⟩ := hf
        refine h_Fkq X hI (h_runF (As := [.int lx1]) X hI (X.2.2.2.2.2.1.1 15 _ (show jC.1[15]? = some (RJ2, TJ2, 3) from rfl)).2 (h_recv X hI hO (show jC.1[15]? = some (RJ2, TJ2, 3) from rfl)) (mhJ2_get l Z D j Λ fr lo E a53 lx1 G49 _ hf H.size) (cwF 1 hts q1851 q1854 q1856 q172 q1858 ((E.w X).2.2.1 _ (List.mem_of_getElem? (show jFw[2]? = _ from rfl))) rfl rfl (by decide +kernel) (by show fr + 3 + 1 ≤ fr + 4 ∧ 8 + (2 + 11) + (lo + 83) ≤ lo + 3225; omega)) rfl hl.1 (by cases q47 <;> exact Nat.le_of_ble_eq_true rfl) dX0_lays_93 ⟨hm0 hm.1, hm0 hm.2⟩ rfl) (fun q55 G54 H locs hf hI => ?_)
        clear hO
        refine hr_cast (v := q55) E X hI hf q1867 dX0_lays_98 (fun hf => ?_)
        obtain ⟨a56, ea56, hf⟩ := hf
        revert hl hf
        subst ea56
        intro hl hf
        have hl : lv_has ls 2 [(0, .ref a0), (1, .int lx1)] := hl
        obtain ⟨_, _, hO, hf⟩ := hf
        obtain ⟨m57, m58, hb1, hb2, hf⟩ := hf
        refine h_kq X hI (h_runV (As := [.ref a56]) X hI (h_recv X hI hO (show jC.1[0]? = some (RX0, TX0, 20) from rfl)) (mhX0_stepOf l Z D j Λ fr lo E a0 a56 m57 m58 G54 _ hf H.size) (cwV 1 hts (lw_V q1912 q1914 qs34 q167 q1915) rfl rfl rfl (by decide +kernel) (by show fr + 2 + 1 ≤ fr + 4 ∧ 8 + (5 + 11) + (lo + 3200) ≤ lo + 3225; omega)) rfl hl.1 (by cases q47 <;> exact Nat.le_of_ble_eq_true rfl) dX0_lays_101 ⟨hmA hm.1 hb1, hmA hm.2 hb2⟩ rfl) (fun q60 G59 H locs hf hI => ?_)
        have hm := And.intro (hmB hm.1 hb1) (hmB hm.2 hb2)
        clear hb1 hb2
        clear hO
        obtain ⟨a61, ea61, hf⟩ := hf
        revert hl hf
        subst ea61
        intro hl hf
        have hl : lv_has ls 2 [(0, .ref a0), (1, .int lx1)] := hl
        refine h_kv X hI (h_runI (As := [.ref a61]) X hI (mhX12_init l Z D j Λ fr lo E a48 a61 G59 _ hf H.size) (cwIn 1 hts q1932 q1933 q211 q1934 rfl rfl rfl (by decide +kernel) (by show fr + 1 + 1 ≤ fr + 4 ∧ 8 + (2 + 11) + (lo + 40) ≤ lo + 3225; omega)) rfl hl.1 (by cases q47 <;> exact Nat.le_of_ble_eq_true rfl) dX0_lays_104 ⟨hm0 hm.1, hm0 hm.2⟩ rfl) (fun G62 H locs hf hI => ?_)
        obtain ⟨a63, ea63, hf⟩ := hf
        revert hl hf
        subst ea63
        intro hl hf
        have hl : lv_has ls 2 [(0, .ref a0), (1, .int lx1)] := hl
        refine hr_qst (v := (some a48)) X hI (jOk_asg (E.w X)) hf dX0_lays_107 (fun G64 H locs hf hI => ?_)
        refine lv_iinc (v := lx1 + 1) (lv' := [(1, .int (lx1 + 1)), (0, .ref a0)]) hx hb dX0_lays_108 hl (k := 1) rfl rfl (by decide) rfl (fun ls hl => ?_)
        refine lv_goto (tgt := 59) hx hb dX0_lays_111 (by decide) ?_
        exact ih59 (lx1 + 1) (mc - 1 - m57) (ms - 1 - m58) G64 hf _ _ hm H locs hI ls (lv_sub hl [1, 0] rfl)
  have L2 : ∀ (n : Nat) (lx1 : Int32) (mc ms : Nat) (G : HG), hX0_lays_l2 j Λ a0 post n lx1 mc ms G → ∀ (cells slots : Nat), cells + mc ≤ MC ∧ slots + ms ≤ MS → ∀ (H : Heap) (locs : List Loc), HI D jC G A0 s.heap H locs → ∀ (ls : Array Slot), lv_has ls 2 [(0, .ref a0), (1, .int lx1)] → W p l e (rhX0_lays fr lo MC MS) s m args below meth c H locs cells slots Q (F0 m 2 ls []) := by
    intro n2
    induction n2 with
    | zero => intro lx1 mc ms G hf; exact hf.elim
    | succ n2 ih2 =>
      intro lx1 mc ms G hf cells slots hm H locs hI ls hl
      have hf : hX0_lays_b2 j Λ a0 post (hX0_lays_l2 j Λ a0 post n2) lx1 mc ms G := hf
      unfold hX0_lays_b2 at hf
      refine lv_iload_n hx hb dX0_lays_2 rfl (lv_at hl 1 rfl) ?_
      refine lv_aload_n hx hb dX0_lays_3 rfl (lv_at hl 0 rfl) ?_
      refine hr_gtQ X hI (rfl : jC.1[0]? = some (RX0, TX0, 20)) in_X0 1 (Nat.le_of_ble_eq_true rfl) hf q653 (fun _ h => h) dX0_lays_4 (fun q1 hf => ?_)
      obtain ⟨a2, ea2, hf⟩ := hf
      revert hl hf
      subst ea2
      intro hl hf
      have hl : lv_has ls 2 [(0, .ref a0), (1, .int lx1)] := hl
      refine hr_gtQN X hI (rfl : jC.1[2]? = some (RX2, TX2, 11)) in_X2 0 (Nat.le_of_ble_eq_true rfl) hf (E.nw X q478 rfl) (fun _ h => h) dX0_lays_7 (fun q3 hf => ?_)
      obtain ⟨a4, ea4, hf⟩ := hf
      revert hl hf
      subst ea4
      intro hl hf
      have hl : lv_has ls 2 [(0, .ref a0), (1, .int lx1)] := hl
      obtain ⟨_, _, hO, hf⟩ := hf
      refine h_Fki X hI (h_runF (As := []) X hI (X.2.2.2.2.2.1.1 15 _ (show jC.1[15]? = some (RJ2, TJ2, 3) from rfl)).2 (h_recv X hI hO (show jC.1[15]? = some (RJ2, TJ2, 3) from rfl)) (mhJ2_size l Z D j Λ fr lo E a4 G _ hf H.size) (cwF 0 hts q1848 q1771 q1773 q172 q1775 ((E.w X).2.2.1 _ (List.mem_of_getElem? (show jFw[0]? = _ from rfl))) rfl rfl (by decide +kernel) (by show fr + 1 + 1 ≤ fr + 4 ∧ 8 + (1 + 11) + (lo + 40) ≤ lo + 3225; omega)) rfl hl.1 (Nat.le_of_ble_eq_true rfl) dX0_lays_10 ⟨hm0 hm.1, hm0 hm.2⟩ rfl) (fun x6 G5 H locs hf hI => ?_)
      clear hO
      refine lv_icmp_ge (tgt := 57) hx hb dX0_lays_15 (by decide) (fun c7 => ?_) (fun c7 => ?_)
      · have hf := hf.1 c7
        refine lv_iconst (v := 0) hx hb dX0_lays_57 (by decide) ?_
        refine lv_istore_n (lv' := [(1, .int 0), (0, .ref a0)]) hx hb dX0_lays_58 rfl hl (by decide) rfl (fun ls hl => ?_)
        obtain ⟨n, hf⟩ := hf
        exact L59 n (0 : Int32) mc ms G5 hf _ _ hm H locs hI ls (lv_sub hl [1, 0] rfl)
      · have hf := hf.2 c7
        refine lv_aload_n hx hb dX0_lays_18 rfl (lv_at hl 0 rfl) ?_
        refine hr_gtQ X hI (rfl : jC.1[0]? = some (RX0, TX0, 20)) in_X0 9 (Nat.le_of_ble_eq_true rfl) hf q661 (fun _ h => h) dX0_lays_19 (fun q8 hf => ?_)
        refine lv_iload_n hx hb dX0_lays_22 rfl (lv_at hl 1 rfl) ?_
        obtain ⟨hb1, hb2, hf⟩ := hf
        refine hr_new X hI (rfl : jC.1[11]? = some (RX11, TX11, 1)) in_X11 tyX11 tyX11_ok hf q550 q1849 q209 (by decide) (hmA hm.1 hb1) (hmA hm.2 hb2) dX0_lays_23 (fun a9 G10 H hf hI => ?_)
        have hm := And.intro (hmB hm.1 hb1) (hmB hm.2 hb2)
        clear hb1 hb2
        refine lv_dup hx hb dX0_lays_26 rfl ?_
        refine lv_aload_n hx hb dX0_lays_27 rfl (lv_at hl 0 rfl) ?_
        refine lv_aload_n hx hb dX0_lays_28 rfl (lv_at hl 0 rfl) ?_
        refine hr_gtQ X hI (rfl : jC.1[0]? = some (RX0, TX0, 20)) in_X0 1 (Nat.le_of_ble_eq_true rfl) hf q653 (fun _ h => h) dX0_lays_29 (fun q11 hf => ?_)
        obtain ⟨a12, ea12, hf⟩ := hf
        revert hl hf
        subst ea12
        intro hl hf
        have hl : lv_has ls 2 [(0, .ref a0), (1, .int lx1)] := hl
        refine hr_gtQN X hI (rfl : jC.1[2]? = some (RX2, TX2, 11)) in_X2 0 (Nat.le_of_ble_eq_true rfl) hf (E.nw X q478 rfl) (fun _ h => h) dX0_lays_32 (fun q13 hf => ?_)
        refine lv_iload_n hx hb dX0_lays_35 rfl (lv_at hl 1 rfl) ?_
        obtain ⟨a14, ea14, hf⟩ := hf
        revert hl hf
        subst ea14
        intro hl hf
        have hl : lv_has ls 2 [(0, .ref a0), (1, .int lx1)] := hl
        obtain ⟨_, _, hO, hf⟩ := hf
        refine h_Fkq X hI (h_runF (As := [.int lx1]) X hI (X.2.2.2.2.2.1.1 15 _ (show jC.1[15]? = some (RJ2, TJ2, 3) from rfl)).2 (h_recv X hI hO (show jC.1[15]? = some (RJ2, TJ2, 3) from rfl)) (mhJ2_get l Z D j Λ fr lo E a14 lx1 G10 _ hf H.size) (cwF 1 hts q1851 q1854 q1856 q172 q1858 ((E.w X).2.2.1 _ (List.mem_of_getElem? (show jFw[2]? = _ from rfl))) rfl rfl (by decide +kernel) (by show fr + 3 + 1 ≤ fr + 4 ∧ 8 + (2 + 11) + (lo + 83) ≤ lo + 3225; omega)) rfl hl.1 (by cases q8 <;> exact Nat.le_of_ble_eq_true rfl) dX0_lays_36 ⟨hm0 hm.1, hm0 hm.2⟩ rfl) (fun q16 G15 H locs hf hI => ?_)
        clear hO
        refine hr_cast (v := q16) E X hI hf q1867 dX0_lays_41 (fun hf => ?_)
        obtain ⟨a17, ea17, hf⟩ := hf
        revert hl hf
        subst ea17
        intro hl hf
        have hl : lv_has ls 2 [(0, .ref a0), (1, .int lx1)] := hl
        obtain ⟨_, _, hO, hf⟩ := hf
        obtain ⟨m18, m19, hb1, hb2, hf⟩ := hf
        refine h_kq X hI (h_runV (As := [.ref a17]) X hI (h_recv X hI hO (show jC.1[0]? = some (RX0, TX0, 20) from rfl)) (mhX0_ruleOf l Z D j Λ fr lo E a0 a17 m18 m19 G15 _ hf H.size) (cwV 1 hts (lw_V q1868 q1870 qs25 q167 q1871) rfl rfl rfl (by decide +kernel) (by show fr + 2 + 1 ≤ fr + 4 ∧ 8 + (6 + 11) + (lo + 3200) ≤ lo + 3225; omega)) rfl hl.1 (by cases q8 <;> exact Nat.le_of_ble_eq_true rfl) dX0_lays_44 ⟨hmA hm.1 hb1, hmA hm.2 hb2⟩ rfl) (fun q21 G20 H locs hf hI => ?_)
        have hm := And.intro (hmB hm.1 hb1) (hmB hm.2 hb2)
        clear hb1 hb2
        clear hO
        obtain ⟨a22, ea22, hf⟩ := hf
        revert hl hf
        subst ea22
        intro hl hf
        have hl : lv_has ls 2 [(0, .ref a0), (1, .int lx1)] := hl
        refine h_kv X hI (h_runI (As := [.ref a22]) X hI (mhX11_init l Z D j Λ fr lo E a9 a22 G20 _ hf H.size) (cwIn 1 hts q1902 q1903 q209 q1904 rfl rfl rfl (by decide +kernel) (by show fr + 1 + 1 ≤ fr + 4 ∧ 8 + (2 + 11) + (lo + 40) ≤ lo + 3225; omega)) rfl hl.1 (by cases q8 <;> exact Nat.le_of_ble_eq_true rfl) dX0_lays_47 ⟨hm0 hm.1, hm0 hm.2⟩ rfl) (fun G23 H locs hf hI => ?_)
        obtain ⟨a24, ea24, hf⟩ := hf
        revert hl hf
        subst ea24
        intro hl hf
        have hl : lv_has ls 2 [(0, .ref a0), (1, .int lx1)] := hl
        refine hr_qst (v := (some a9)) X hI (jOk_asg (E.w X)) hf dX0_lays_50 (fun G25 H locs hf hI => ?_)
        refine lv_iinc (v := lx1 + 1) (lv' := [(1, .int (lx1 + 1)), (0, .ref a0)]) hx hb dX0_lays_51 hl (k := 1) rfl rfl (by decide) rfl (fun ls hl => ?_)
        refine lv_goto (tgt := 2) hx hb dX0_lays_54 (by decide) ?_
        exact ih2 (lx1 + 1) (mc - 1 - m18) (ms - 1 - m19) G25 hf _ _ hm H locs hI ls (lv_sub hl [1, 0] rfl)
  have hl : lv_has ls 2 [(0, .ref a0)] := by exact hl
  unfold hX0_lays at hf
  obtain ⟨H, eH⟩ : ∃ H, H = s.heap := ⟨_, rfl⟩
  obtain ⟨locs, eL⟩ : ∃ locs : List Loc, locs = [] := ⟨_, rfl⟩
  have hI : HI D jC G A0 s.heap H locs := by rw [eH, eL]; exact hI
  rw [← eL]
  obtain ⟨cells, eC⟩ : ∃ n : Nat, n = 0 := ⟨_, rfl⟩
  obtain ⟨slots, eS⟩ : ∃ n : Nat, n = 0 := ⟨_, rfl⟩
  have hm : cells + mc ≤ MC ∧ slots + ms ≤ MS := by rw [eC, eS]; exact hm0_
  suffices h : W p l e (rhX0_lays fr lo MC MS) s m args below meth c H locs cells slots Q (F0 m 0 ls []) by rw [eH, eC, eS] at h; exact h
  clear eH eL eC eS
  refine lv_iconst (v := 0) hx hb dX0_lays_0 (by decide) ?_
  refine lv_istore_n (lv' := [(1, .int 0), (0, .ref a0)]) hx hb dX0_lays_1 rfl hl (by decide) rfl (fun ls hl => ?_)
  obtain ⟨n, hf⟩ := hf
  exact L2 n (0 : Int32) mc ms G hf _ _ hm H locs hI ls (lv_sub hl [1, 0] rfl)
/-! MergeJudge.rule(II)I -/
def hX0_rule (j : JX) (Λ : JLam) (a0 : Nat) (p1 : Int32) (p2 : Int32) (G : HG) (post : Int32 → HG → Prop) : Prop :=
  isO G a0 0 (hX0_isRule j Λ a0 p1 G fun x2 G1 => (x2 = 0 → (post ((-2) : Int32) G1)) ∧ (¬ x2 = 0 → (hX0_in j Λ p2.toInt64 (0 : Int64) (4 : Int64) G1 fun x5 G4 => (x5 = 0 → (post ((-2) : Int32) G4)) ∧ (¬ x5 = 0 → (gtQ G4 a0 0 1 fun q7 => nnq q7 fun a8 => gtQ G4 a8 2 0 fun q9 => nnq q9 fun a10 => isO G4 a10 15 (hJ2_get j Λ a10 p1 G4 fun q12 G11 => csO G11 q12 "MergeJudge$Told" (nnq q12 fun a13 => hX0_numberOf j Λ a13 p2 G11 fun x15 G14 => post x15 G14)))))))
abbrev rhX0_rule (fr lo : Nat) : Room := { frames := fr + 4, cells := 0, slots := 0, locals := lo + 104 }
theorem mhX0_rule (l : Launch) (Z : (Nat → Prop) → State → Heap → Prop) (D : va_G) (j : JX) (Λ : JLam) (fr lo : Nat) (E : JE l Z D j Λ fr lo) (a0 : Nat) (p1 : Int32) (p2 : Int32) (G : HG) (post : Int32 → HG → Prop) (hf : hX0_rule j Λ a0 p1 p2 G post) : HMi l yX0_rule (ws_ yX0_rule cX0_rule 3 (some .int)) (rhX0_rule fr lo) D jC (jty j.1) Z G [.ref a0, .int p1, .int p2] post 0 0 := by
  refine h_openi E.1 (by decide) (by exact Nat.le_of_ble_eq_true rfl) (fun p e s m args below meth c ls A0 Q X hI hnd hnm hl hret => ?_)
  have X : XC p s m args meth c cX0_rule 3 RX0 D jC (jty j.1) A0 Z := X
  have hx := X.1
  have hb := X.2.1
  have hown := X.2.2.2.1
  have hts := X.2.2.2.2.1
  have hl : lv_has ls 3 [(0, .ref a0), (1, .int p1), (2, .int p2)] := by exact hl
  unfold hX0_rule at hf
  obtain ⟨H, eH⟩ : ∃ H, H = s.heap := ⟨_, rfl⟩
  obtain ⟨locs, eL⟩ : ∃ locs : List Loc, locs = [] := ⟨_, rfl⟩
  have hI : HI D jC G A0 s.heap H locs := by rw [eH, eL]; exact hI
  rw [← eL]
  suffices h : W p l e (rhX0_rule fr lo) s m args below meth c H locs 0 0 Q (F0 m 0 ls []) by rw [eH] at h; exact h
  clear eH eL
  refine lv_aload_n hx hb dX0_rule_0 rfl (lv_at hl 0 rfl) ?_
  refine lv_iload_n hx hb dX0_rule_1 rfl (lv_at hl 1 rfl) ?_
  obtain ⟨_, _, hO, hf⟩ := hf
  refine h_ki X hI (h_runV (As := [.int p1]) X hI (h_recv X hI hO (show jC.1[0]? = some (RX0, TX0, 20) from rfl)) (mhX0_isRule l Z D j Λ fr lo E a0 p1 G _ hf H.size) (cwV 1 hts (lw_V q2068 q2070 qs53 q167 q2071) rfl rfl rfl (by decide +kernel) (by show fr + 2 + 1 ≤ fr + 4 ∧ 8 + (2 + 11) + (lo + 65) ≤ lo + 104; omega)) rfl hl.1 (Nat.le_of_ble_eq_true rfl) dX0_rule_2 ⟨Nat.le_refl _, Nat.le_refl _⟩ rfl) (fun x2 G1 H locs hf hI => ?_)
  clear hO
  refine lv_if_eq (tgt := 43) hx hb dX0_rule_5 (by decide) (fun c3 => ?_) (fun c3 => ?_)
  · have hf := hf.1 c3
    refine lv_bipush (v := -2) hx hb dX0_rule_43 (by decide) ?_
    exact hret hf hI dX0_rule_45 (Nat.le_refl _) (Nat.le_refl _)
  · have hf := hf.2 c3
    refine lv_iload_n hx hb dX0_rule_8 rfl (lv_at hl 2 rfl) ?_
    refine lv_i2l hx hb dX0_rule_9 rfl ?_
    refine lv_lconst (v := 0) hx hb dX0_rule_10 (by decide) ?_
    refine lv_ldc2 (v := 4) hx hb hown (hts _ q2108) dX0_rule_11 ?_
    refine h_ki X hI (h_runS (As := [.long p2.toInt64, .long 0, .long 4]) X hI (mhX0_in l Z D j Λ fr lo E p2.toInt64 (0 : Int64) (4 : Int64) G1 _ hf H.size) (va_cwS 3 hts (lw_S q226 q227 q167 q228) rfl rfl rfl (by decide +kernel) (by show fr + 1 + 1 ≤ fr + 4 ∧ 8 + (6 + 11) + (lo + 40) ≤ lo + 104; omega)) rfl hl.1 (Nat.le_of_ble_eq_true rfl) dX0_rule_14 ⟨Nat.le_refl _, Nat.le_refl _⟩ rfl) (fun x5 G4 H locs hf hI => ?_)
    refine lv_if_eq (tgt := 43) hx hb dX0_rule_17 (by decide) (fun c6 => ?_) (fun c6 => ?_)
    · have hf := hf.1 c6
      refine lv_bipush (v := -2) hx hb dX0_rule_43 (by decide) ?_
      exact hret hf hI dX0_rule_45 (Nat.le_refl _) (Nat.le_refl _)
    · have hf := hf.2 c6
      refine lv_aload_n hx hb dX0_rule_20 rfl (lv_at hl 0 rfl) ?_
      refine hr_gtQ X hI (rfl : jC.1[0]? = some (RX0, TX0, 20)) in_X0 1 (Nat.le_of_ble_eq_true rfl) hf q653 (fun _ h => h) dX0_rule_21 (fun q7 hf => ?_)
      obtain ⟨a8, ea8, hf⟩ := hf
      revert hl hf
      subst ea8
      intro hl hf
      have hl : lv_has ls 3 [(0, .ref a0), (1, .int p1), (2, .int p2)] := hl
      refine hr_gtQN X hI (rfl : jC.1[2]? = some (RX2, TX2, 11)) in_X2 0 (Nat.le_of_ble_eq_true rfl) hf (E.nw X q478 rfl) (fun _ h => h) dX0_rule_24 (fun q9 hf => ?_)
      refine lv_iload_n hx hb dX0_rule_27 rfl (lv_at hl 1 rfl) ?_
      obtain ⟨a10, ea10, hf⟩ := hf
      revert hl hf
      subst ea10
      intro hl hf
      have hl : lv_has ls 3 [(0, .ref a0), (1, .int p1), (2, .int p2)] := hl
      obtain ⟨_, _, hO, hf⟩ := hf
      refine h_Fkq X hI (h_runF (As := [.int p1]) X hI (X.2.2.2.2.2.1.1 15 _ (show jC.1[15]? = some (RJ2, TJ2, 3) from rfl)).2 (h_recv X hI hO (show jC.1[15]? = some (RJ2, TJ2, 3) from rfl)) (mhJ2_get l Z D j Λ fr lo E a10 p1 G4 _ hf H.size) (cwF 1 hts q1851 q1854 q1856 q172 q1858 ((E.w X).2.2.1 _ (List.mem_of_getElem? (show jFw[2]? = _ from rfl))) rfl rfl (by decide +kernel) (by show fr + 3 + 1 ≤ fr + 4 ∧ 8 + (2 + 11) + (lo + 83) ≤ lo + 104; omega)) rfl hl.1 (Nat.le_of_ble_eq_true rfl) dX0_rule_28 ⟨Nat.le_refl _, Nat.le_refl _⟩ rfl) (fun q12 G11 H locs hf hI => ?_)
      clear hO
      refine hr_cast (v := q12) E X hI hf q1867 dX0_rule_33 (fun hf => ?_)
      refine lv_iload_n hx hb dX0_rule_36 rfl (lv_at hl 2 rfl) ?_
      obtain ⟨a13, ea13, hf⟩ := hf
      revert hl hf
      subst ea13
      intro hl hf
      have hl : lv_has ls 3 [(0, .ref a0), (1, .int p1), (2, .int p2)] := hl
      refine h_ki X hI (h_runS (As := [.ref a13, .int p2]) X hI (mhX0_numberOf l Z D j Λ fr lo E a13 p2 G11 _ hf H.size) (va_cwS 2 hts (lw_S q2109 q2110 q167 q2111) rfl rfl rfl (by decide +kernel) (by show fr + 2 + 1 ≤ fr + 4 ∧ 8 + (2 + 11) + (lo + 61) ≤ lo + 104; omega)) rfl hl.1 (Nat.le_of_ble_eq_true rfl) dX0_rule_37 ⟨Nat.le_refl _, Nat.le_refl _⟩ rfl) (fun x15 G14 H locs hf hI => ?_)
      refine lv_goto (tgt := 45) hx hb dX0_rule_40 (by decide) ?_
      exact hret hf hI dX0_rule_45 (Nat.le_refl _) (Nat.le_refl _)
/-! MergeJudge.op(II)I -/
def hX0_op (j : JX) (Λ : JLam) (a0 : Nat) (p1 : Int32) (p2 : Int32) (G : HG) (post : Int32 → HG → Prop) : Prop :=
  isO G a0 0 (hX0_isOp j Λ a0 p1 G fun x2 G1 => (x2 = 0 → (post ((-2) : Int32) G1)) ∧ (¬ x2 = 0 → (hX0_in j Λ p2.toInt64 (0 : Int64) (3 : Int64) G1 fun x5 G4 => (x5 = 0 → (post ((-2) : Int32) G4)) ∧ (¬ x5 = 0 → (gtQ G4 a0 0 1 fun q7 => nnq q7 fun a8 => gtQ G4 a8 2 1 fun q9 => nnq q9 fun a10 => isO G4 a10 15 (hJ2_get j Λ a10 p1 G4 fun q12 G11 => csO G11 q12 "MergeJudge$Told" (nnq q12 fun a13 => hX0_numberOf j Λ a13 p2 G11 fun x15 G14 => post x15 G14)))))))
abbrev rhX0_op (fr lo : Nat) : Room := { frames := fr + 4, cells := 0, slots := 0, locals := lo + 104 }
theorem mhX0_op (l : Launch) (Z : (Nat → Prop) → State → Heap → Prop) (D : va_G) (j : JX) (Λ : JLam) (fr lo : Nat) (E : JE l Z D j Λ fr lo) (a0 : Nat) (p1 : Int32) (p2 : Int32) (G : HG) (post : Int32 → HG → Prop) (hf : hX0_op j Λ a0 p1 p2 G post) : HMi l yX0_op (ws_ yX0_op cX0_op 3 (some .int)) (rhX0_op fr lo) D jC (jty j.1) Z G [.ref a0, .int p1, .int p2] post 0 0 := by
  refine h_openi E.1 (by decide) (by exact Nat.le_of_ble_eq_true rfl) (fun p e s m args below meth c ls A0 Q X hI hnd hnm hl hret => ?_)
  have X : XC p s m args meth c cX0_op 3 RX0 D jC (jty j.1) A0 Z := X
  have hx := X.1
  have hb := X.2.1
  have hown := X.2.2.2.1
  have hts := X.2.2.2.2.1
  have hl : lv_has ls 3 [(0, .ref a0), (1, .int p1), (2, .int p2)] := by exact hl
  unfold hX0_op at hf
  obtain ⟨H, eH⟩ : ∃ H, H = s.heap := ⟨_, rfl⟩
  obtain ⟨locs, eL⟩ : ∃ locs : List Loc, locs = [] := ⟨_, rfl⟩
  have hI : HI D jC G A0 s.heap H locs := by rw [eH, eL]; exact hI
  rw [← eL]
  suffices h : W p l e (rhX0_op fr lo) s m args below meth c H locs 0 0 Q (F0 m 0 ls []) by rw [eH] at h; exact h
  clear eH eL
  refine lv_aload_n hx hb dX0_op_0 rfl (lv_at hl 0 rfl) ?_
  refine lv_iload_n hx hb dX0_op_1 rfl (lv_at hl 1 rfl) ?_
  obtain ⟨_, _, hO, hf⟩ := hf
  refine h_ki X hI (h_runV (As := [.int p1]) X hI (h_recv X hI hO (show jC.1[0]? = some (RX0, TX0, 20) from rfl)) (mhX0_isOp l Z D j Λ fr lo E a0 p1 G _ hf H.size) (cwV 1 hts (lw_V q2047 q2049 qs51 q167 q2050) rfl rfl rfl (by decide +kernel) (by show fr + 2 + 1 ≤ fr + 4 ∧ 8 + (2 + 11) + (lo + 65) ≤ lo + 104; omega)) rfl hl.1 (Nat.le_of_ble_eq_true rfl) dX0_op_2 ⟨Nat.le_refl _, Nat.le_refl _⟩ rfl) (fun x2 G1 H locs hf hI => ?_)
  clear hO
  refine lv_if_eq (tgt := 43) hx hb dX0_op_5 (by decide) (fun c3 => ?_) (fun c3 => ?_)
  · have hf := hf.1 c3
    refine lv_bipush (v := -2) hx hb dX0_op_43 (by decide) ?_
    exact hret hf hI dX0_op_45 (Nat.le_refl _) (Nat.le_refl _)
  · have hf := hf.2 c3
    refine lv_iload_n hx hb dX0_op_8 rfl (lv_at hl 2 rfl) ?_
    refine lv_i2l hx hb dX0_op_9 rfl ?_
    refine lv_lconst (v := 0) hx hb dX0_op_10 (by decide) ?_
    refine lv_ldc2 (v := 3) hx hb hown (hts _ q225) dX0_op_11 ?_
    refine h_ki X hI (h_runS (As := [.long p2.toInt64, .long 0, .long 3]) X hI (mhX0_in l Z D j Λ fr lo E p2.toInt64 (0 : Int64) (3 : Int64) G1 _ hf H.size) (va_cwS 3 hts (lw_S q226 q227 q167 q228) rfl rfl rfl (by decide +kernel) (by show fr + 1 + 1 ≤ fr + 4 ∧ 8 + (6 + 11) + (lo + 40) ≤ lo + 104; omega)) rfl hl.1 (Nat.le_of_ble_eq_true rfl) dX0_op_14 ⟨Nat.le_refl _, Nat.le_refl _⟩ rfl) (fun x5 G4 H locs hf hI => ?_)
    refine lv_if_eq (tgt := 43) hx hb dX0_op_17 (by decide) (fun c6 => ?_) (fun c6 => ?_)
    · have hf := hf.1 c6
      refine lv_bipush (v := -2) hx hb dX0_op_43 (by decide) ?_
      exact hret hf hI dX0_op_45 (Nat.le_refl _) (Nat.le_refl _)
    · have hf := hf.2 c6
      refine lv_aload_n hx hb dX0_op_20 rfl (lv_at hl 0 rfl) ?_
      refine hr_gtQ X hI (rfl : jC.1[0]? = some (RX0, TX0, 20)) in_X0 1 (Nat.le_of_ble_eq_true rfl) hf q653 (fun _ h => h) dX0_op_21 (fun q7 hf => ?_)
      obtain ⟨a8, ea8, hf⟩ := hf
      revert hl hf
      subst ea8
      intro hl hf
      have hl : lv_has ls 3 [(0, .ref a0), (1, .int p1), (2, .int p2)] := hl
      refine hr_gtQN X hI (rfl : jC.1[2]? = some (RX2, TX2, 11)) in_X2 1 (Nat.le_of_ble_eq_true rfl) hf (E.nw X q483 rfl) (fun _ h => h) dX0_op_24 (fun q9 hf => ?_)
      refine lv_iload_n hx hb dX0_op_27 rfl (lv_at hl 1 rfl) ?_
      obtain ⟨a10, ea10, hf⟩ := hf
      revert hl hf
      subst ea10
      intro hl hf
      have hl : lv_has ls 3 [(0, .ref a0), (1, .int p1), (2, .int p2)] := hl
      obtain ⟨_, _, hO, hf⟩ := hf
      refine h_Fkq X hI (h_runF (As := [.int p1]) X hI (X.2.2.2.2.2.1.1 15 _ (show jC.1[15]? = some (RJ2, TJ2, 3) from rfl)).2 (h_recv X hI hO (show jC.1[15]? = some (RJ2, TJ2, 3) from rfl)) (mhJ2_get l Z D j Λ fr lo E a10 p1 G4 _ hf H.size) (cwF 1 hts q1851 q1854 q1856 q172 q1858 ((E.w X).2.2.1 _ (List.mem_of_getElem? (show jFw[2]? = _ from rfl))) rfl rfl (by decide +kernel) (by show fr + 3 + 1 ≤ fr + 4 ∧ 8 + (2 + 11) + (lo + 83) ≤ lo + 104; omega)) rfl hl.1 (Nat.le_of_ble_eq_true rfl) dX0_op_28 ⟨Nat.le_refl _, Nat.le_refl _⟩ rfl) (fun q12 G11 H locs hf hI => ?_)
      clear hO
      refine hr_cast (v := q12) E X hI hf q1867 dX0_op_33 (fun hf => ?_)
      refine lv_iload_n hx hb dX0_op_36 rfl (lv_at hl 2 rfl) ?_
      obtain ⟨a13, ea13, hf⟩ := hf
      revert hl hf
      subst ea13
      intro hl hf
      have hl : lv_has ls 3 [(0, .ref a0), (1, .int p1), (2, .int p2)] := hl
      refine h_ki X hI (h_runS (As := [.ref a13, .int p2]) X hI (mhX0_numberOf l Z D j Λ fr lo E a13 p2 G11 _ hf H.size) (va_cwS 2 hts (lw_S q2109 q2110 q167 q2111) rfl rfl rfl (by decide +kernel) (by show fr + 2 + 1 ≤ fr + 4 ∧ 8 + (2 + 11) + (lo + 61) ≤ lo + 104; omega)) rfl hl.1 (Nat.le_of_ble_eq_true rfl) dX0_op_37 ⟨Nat.le_refl _, Nat.le_refl _⟩ rfl) (fun x15 G14 H locs hf hI => ?_)
      refine lv_goto (tgt := 45) hx hb dX0_op_40 (by decide) ?_
      exact hret hf hI dX0_op_45 (Nat.le_refl _) (Nat.le_refl _)
/-! MergeJudge.pairs(I)I -/
def hX0_pairs (j : JX) (Λ : JLam) (a0 : Nat) (p1 : Int32) (mc ms : Nat) (G : HG) (post : Int32 → HG → Prop) : Prop :=
  isO G a0 0 (hX0_isDeep j Λ a0 p1 G fun x2 G1 => (x2 = 0 → (post ((-2) : Int32) G1)) ∧ (¬ x2 = 0 → (1 ≤ mc ∧ 1 ≤ ms ∧ mkO G1 (.inr (22, [.null])) fun a4 G5 => ∃ m6 m7 : Nat, m6 ≤ mc - 1 ∧ m7 ≤ ms - 1 ∧ hJ30_init j Λ a4 m6 m7 G5 fun G8 => 1 ≤ mc - 1 - m6 ∧ 1 ≤ ms - 1 - m7 ∧ mkO G8 (.inr (44, .ref a4 :: ([] : List Int32).map .int)) fun a9 G10 => isO G10 a0 0 (∃ m11 m12 : Nat, m11 ≤ mc - 1 - m6 - 1 ∧ m12 ≤ ms - 1 - m7 - 1 ∧ hX0_through j Λ a0 p1 a9 m11 m12 G10 fun x14 G13 => isO G13 a4 22 (hJ30_size j Λ a4 G13 fun x16 G15 => post x16 G15)))))
abbrev rhX0_pairs (fr lo mc ms : Nat) : Room := { frames := fr + 6, cells := mc, slots := ms, locals := lo + 3200 }
theorem mhX0_pairs (l : Launch) (Z : (Nat → Prop) → State → Heap → Prop) (D : va_G) (j : JX) (Λ : JLam) (fr lo : Nat) (E : JE l Z D j Λ fr lo) (a0 : Nat) (p1 : Int32) (mc ms : Nat) (G : HG) (post : Int32 → HG → Prop) (hf : hX0_pairs j Λ a0 p1 mc ms G post) : HMi l yX0_pairs (ws_ yX0_pairs cX0_pairs 3 (some .int)) (rhX0_pairs fr lo mc ms) D jC (jty j.1) Z G [.ref a0, .int p1] post mc ms := by
  obtain ⟨MC, eMC⟩ : ∃ MC, MC = mc := ⟨_, rfl⟩
  obtain ⟨MS, eMS⟩ : ∃ MS, MS = ms := ⟨_, rfl⟩
  suffices goal : HMi l yX0_pairs (ws_ yX0_pairs cX0_pairs 3 (some .int)) (rhX0_pairs fr lo MC MS) D jC (jty j.1) Z G [.ref a0, .int p1] post MC MS by rw [eMC, eMS] at goal; exact goal
  have hm0_ : 0 + mc ≤ MC ∧ 0 + ms ≤ MS := by omega
  clear eMC eMS
  refine h_openi E.1 (by decide) (by exact Nat.le_of_ble_eq_true rfl) (fun p e s m args below meth c ls A0 Q X hI hnd hnm hl hret => ?_)
  have X : XC p s m args meth c cX0_pairs 3 RX0 D jC (jty j.1) A0 Z := X
  have hx := X.1
  have hb := X.2.1
  have hown := X.2.2.2.1
  have hts := X.2.2.2.2.1
  have hl : lv_has ls 3 [(0, .ref a0), (1, .int p1)] := by exact hl
  unfold hX0_pairs at hf
  obtain ⟨H, eH⟩ : ∃ H, H = s.heap := ⟨_, rfl⟩
  obtain ⟨locs, eL⟩ : ∃ locs : List Loc, locs = [] := ⟨_, rfl⟩
  have hI : HI D jC G A0 s.heap H locs := by rw [eH, eL]; exact hI
  rw [← eL]
  obtain ⟨cells, eC⟩ : ∃ n : Nat, n = 0 := ⟨_, rfl⟩
  obtain ⟨slots, eS⟩ : ∃ n : Nat, n = 0 := ⟨_, rfl⟩
  have hm : cells + mc ≤ MC ∧ slots + ms ≤ MS := by rw [eC, eS]; exact hm0_
  suffices h : W p l e (rhX0_pairs fr lo MC MS) s m args below meth c H locs cells slots Q (F0 m 0 ls []) by rw [eH, eC, eS] at h; exact h
  clear eH eL eC eS
  refine lv_aload_n hx hb dX0_pairs_0 rfl (lv_at hl 0 rfl) ?_
  refine lv_iload_n hx hb dX0_pairs_1 rfl (lv_at hl 1 rfl) ?_
  obtain ⟨_, _, hO, hf⟩ := hf
  refine h_ki X hI (h_runV (As := [.int p1]) X hI (h_recv X hI hO (show jC.1[0]? = some (RX0, TX0, 20) from rfl)) (mhX0_isDeep l Z D j Λ fr lo E a0 p1 G _ hf H.size) (cwV 1 hts (lw_V q1976 q1978 qs44 q167 q1979) rfl rfl rfl (by decide +kernel) (by show fr + 2 + 1 ≤ fr + 6 ∧ 8 + (2 + 11) + (lo + 65) ≤ lo + 3200; omega)) rfl hl.1 (Nat.le_of_ble_eq_true rfl) dX0_pairs_2 ⟨hm0 hm.1, hm0 hm.2⟩ rfl) (fun x2 G1 H locs hf hI => ?_)
  clear hO
  refine lv_if_ne (tgt := 11) hx hb dX0_pairs_5 (by decide) (fun c3 => ?_) (fun c3 => ?_)
  · have hf := hf.2 c3
    obtain ⟨hb1, hb2, hf⟩ := hf
    refine hr_new X hI (rfl : jC.1[22]? = some (RJ30, TJ30, 1)) in_J30 tyJ30 tyJ30_ok hf q2216 q2217 q213 (by decide) (hmA hm.1 hb1) (hmA hm.2 hb2) dX0_pairs_11 (fun a4 G5 H hf hI => ?_)
    have hm := And.intro (hmB hm.1 hb1) (hmB hm.2 hb2)
    clear hb1 hb2
    refine lv_dup hx hb dX0_pairs_14 rfl ?_
    obtain ⟨m6, m7, hb1, hb2, hf⟩ := hf
    refine h_kv X hI (h_runI (As := []) X hI (mhJ30_init l Z D j Λ fr lo E a4 m6 m7 G5 _ hf H.size) (cwIn 0 hts q2218 q2219 q213 q2220 rfl rfl rfl (by decide +kernel) (by show fr + 3 + 1 ≤ fr + 6 ∧ 8 + (1 + 11) + (lo + 80) ≤ lo + 3200; omega)) rfl hl.1 (Nat.le_of_ble_eq_true rfl) dX0_pairs_15 ⟨hmA hm.1 hb1, hmA hm.2 hb2⟩ rfl) (fun G8 H locs hf hI => ?_)
    have hm := And.intro (hmB hm.1 hb1) (hmB hm.2 hb2)
    clear hb1 hb2
    refine lv_astore_n (lv' := [(2, .ref a4), (0, .ref a0), (1, .int p1)]) hx hb dX0_pairs_18 rfl hl (by decide) rfl (fun ls hl => ?_)
    refine lv_aload_n hx hb dX0_pairs_19 rfl (lv_at hl 1 rfl) ?_
    refine lv_iload_n hx hb dX0_pairs_20 rfl (lv_at hl 2 rfl) ?_
    refine lv_aload_n hx hb dX0_pairs_21 rfl (lv_at hl 0 rfl) ?_
    obtain ⟨hb1, hb2, hf⟩ := hf
    refine E.2.2.2.1 21 yX0_pairs 22 398 a4 [] rfl (rest := [.int p1, .ref a0]) X hI hnd hl.1 (Nat.le_of_ble_eq_true rfl) dX0_pairs_22 (by show 3200 ≤ lo + 3200; omega) (hmA hm.1 hb1) (hmA hm.2 hb2) hf (fun a9 G10 H hf hI => ?_)
    have hm := And.intro (hmB hm.1 hb1) (hmB hm.2 hb2)
    clear hb1 hb2
    obtain ⟨_, _, hO, hf⟩ := hf
    obtain ⟨m11, m12, hb1, hb2, hf⟩ := hf
    refine h_ki X hI (h_runV (As := [.int p1, .ref a9]) X hI (h_recv X hI hO (show jC.1[0]? = some (RX0, TX0, 20) from rfl)) (mhX0_through l Z D j Λ fr lo E a0 p1 a9 m11 m12 G10 _ hf H.size) (cwV 2 hts (lw_V q2208 q2210 qs62 q167 q2211) rfl rfl rfl (by decide +kernel) (by show fr + 5 + 1 ≤ fr + 6 ∧ 8 + (5 + 11) + (lo + 137) ≤ lo + 3200; omega)) rfl hl.1 (Nat.le_of_ble_eq_true rfl) dX0_pairs_27 ⟨hmA hm.1 hb1, hmA hm.2 hb2⟩ rfl) (fun x14 G13 H locs hf hI => ?_)
    have hm := And.intro (hmB hm.1 hb1) (hmB hm.2 hb2)
    clear hb1 hb2
    clear hO
    refine lv_pop hx hb dX0_pairs_30 rfl ?_
    refine lv_aload_n hx hb dX0_pairs_31 rfl (lv_at hl 0 rfl) ?_
    obtain ⟨_, _, hO, hf⟩ := hf
    refine h_ki X hI (h_runV (As := []) X hI (h_recv X hI hO (show jC.1[22]? = some (RJ30, TJ30, 1) from rfl)) (mhJ30_size l Z D j Λ fr lo E a4 G13 _ hf H.size) (cwV 0 hts (lw_V q2255 q2256 q2257 q213 q2258) rfl rfl rfl (by decide +kernel) (by show fr + 2 + 1 ≤ fr + 6 ∧ 8 + (1 + 11) + (lo + 60) ≤ lo + 3200; omega)) rfl hl.1 (Nat.le_of_ble_eq_true rfl) dX0_pairs_32 ⟨hm0 hm.1, hm0 hm.2⟩ rfl) (fun x16 G15 H locs hf hI => ?_)
    clear hO
    exact hret hf hI dX0_pairs_35 (hmC hm.1) (hmC hm.2)
  · have hf := hf.1 c3
    refine lv_bipush (v := -2) hx hb dX0_pairs_8 (by decide) ?_
    exact hret hf hI dX0_pairs_10 (hmC hm.1) (hmC hm.2)
/-! MergeJudge.lambda$pairs$16(Ljava/util/HashSet;IIII)V -/
def hX0_lambda_pairs_16 (j : JX) (Λ : JLam) (p0 : Nat) (p1 : Int32) (p2 : Int32) (p3 : Int32) (p4 : Int32) (mc ms : Nat) (G : HG) (post : HG → Prop) : Prop :=
  1 ≤ mc ∧ 2 ≤ ms ∧ mkO G (.inr (13, [.int 0, .int 0])) fun a1 G2 => hX13_init j Λ a1 p3 p2 G2 fun G3 => isO G3 p0 22 (∃ m4 m5 : Nat, m4 ≤ mc - 1 ∧ m5 ≤ ms - 2 ∧ hJ30_add j Λ p0 (some a1) m4 m5 G3 fun x7 G6 => post G6)
abbrev rhX0_lambda_pairs_16 (fr lo mc ms : Nat) : Room := { frames := fr + 10, cells := mc, slots := ms, locals := lo + 290 }
theorem mhX0_lambda_pairs_16 (l : Launch) (Z : (Nat → Prop) → State → Heap → Prop) (D : va_G) (j : JX) (Λ : JLam) (fr lo : Nat) (E : JE l Z D j Λ fr lo) (p0 : Nat) (p1 : Int32) (p2 : Int32) (p3 : Int32) (p4 : Int32) (mc ms : Nat) (G : HG) (post : HG → Prop) (hf : hX0_lambda_pairs_16 j Λ p0 p1 p2 p3 p4 mc ms G post) : HMv l yX0_lambda_pairs_16 (ws_ yX0_lambda_pairs_16 cX0_lambda_pairs_16 5 none) (rhX0_lambda_pairs_16 fr lo mc ms) D jC (jty j.1) Z G [.ref p0, .int p1, .int p2, .int p3, .int p4] post mc ms := by
  obtain ⟨MC, eMC⟩ : ∃ MC, MC = mc := ⟨_, rfl⟩
  obtain ⟨MS, eMS⟩ : ∃ MS, MS = ms := ⟨_, rfl⟩
  suffices goal : HMv l yX0_lambda_pairs_16 (ws_ yX0_lambda_pairs_16 cX0_lambda_pairs_16 5 none) (rhX0_lambda_pairs_16 fr lo MC MS) D jC (jty j.1) Z G [.ref p0, .int p1, .int p2, .int p3, .int p4] post MC MS by rw [eMC, eMS] at goal; exact goal
  have hm0_ : 0 + mc ≤ MC ∧ 0 + ms ≤ MS := by omega
  clear eMC eMS
  refine h_openv E.1 (by decide) (by exact Nat.le_of_ble_eq_true rfl) (fun p e s m args below meth c ls A0 Q X hI hnd hnm hl hret => ?_)
  have X : XC p s m args meth c cX0_lambda_pairs_16 5 RX0 D jC (jty j.1) A0 Z := X
  have hx := X.1
  have hb := X.2.1
  have hown := X.2.2.2.1
  have hts := X.2.2.2.2.1
  have hl : lv_has ls 5 [(0, .ref p0), (1, .int p1), (2, .int p2), (3, .int p3), (4, .int p4)] := by exact hl
  unfold hX0_lambda_pairs_16 at hf
  obtain ⟨H, eH⟩ : ∃ H, H = s.heap := ⟨_, rfl⟩
  obtain ⟨locs, eL⟩ : ∃ locs : List Loc, locs = [] := ⟨_, rfl⟩
  have hI : HI D jC G A0 s.heap H locs := by rw [eH, eL]; exact hI
  rw [← eL]
  obtain ⟨cells, eC⟩ : ∃ n : Nat, n = 0 := ⟨_, rfl⟩
  obtain ⟨slots, eS⟩ : ∃ n : Nat, n = 0 := ⟨_, rfl⟩
  have hm : cells + mc ≤ MC ∧ slots + ms ≤ MS := by rw [eC, eS]; exact hm0_
  suffices h : W p l e (rhX0_lambda_pairs_16 fr lo MC MS) s m args below meth c H locs cells slots Q (F0 m 0 ls []) by rw [eH, eC, eS] at h; exact h
  clear eH eL eC eS
  refine lv_aload_n hx hb dX0_lambda_pairs_16_0 rfl (lv_at hl 0 rfl) ?_
  obtain ⟨hb1, hb2, hf⟩ := hf
  refine hr_new X hI (rfl : jC.1[13]? = some (RX13, TX13, 2)) in_X13 tyX13 tyX13_ok hf q2233 q2234 q214 (by decide) (hmA hm.1 hb1) (hmA hm.2 hb2) dX0_lambda_pairs_16_1 (fun a1 G2 H hf hI => ?_)
  have hm := And.intro (hmB hm.1 hb1) (hmB hm.2 hb2)
  clear hb1 hb2
  refine lv_dup hx hb dX0_lambda_pairs_16_4 rfl ?_
  refine lv_iload_n hx hb dX0_lambda_pairs_16_5 rfl (lv_at hl 3 rfl) ?_
  refine lv_iload_n hx hb dX0_lambda_pairs_16_6 rfl (lv_at hl 2 rfl) ?_
  refine h_kv X hI (h_runI (As := [.int p3, .int p2]) X hI (mhX13_init l Z D j Λ fr lo E a1 p3 p2 G2 _ hf H.size) (cwIn 2 hts q2235 q2236 q214 q2237 rfl rfl rfl (by decide +kernel) (by show fr + 1 + 1 ≤ fr + 10 ∧ 8 + (3 + 11) + (lo + 40) ≤ lo + 290; omega)) rfl hl.1 (Nat.le_of_ble_eq_true rfl) dX0_lambda_pairs_16_7 ⟨hm0 hm.1, hm0 hm.2⟩ rfl) (fun G3 H locs hf hI => ?_)
  obtain ⟨_, _, hO, hf⟩ := hf
  obtain ⟨m4, m5, hb1, hb2, hf⟩ := hf
  refine h_ki X hI (h_runV (As := [va_rf (some a1)]) X hI (h_recv X hI hO (show jC.1[22]? = some (RJ30, TJ30, 1) from rfl)) (mhJ30_add l Z D j Λ fr lo E p0 (some a1) m4 m5 G3 _ hf H.size) (cwV 1 hts (lw_V q2248 q2249 q2250 q213 q2251) rfl rfl rfl (by decide +kernel) (by show fr + 9 + 1 ≤ fr + 10 ∧ 8 + (2 + 11) + (lo + 269) ≤ lo + 290; omega)) rfl hl.1 (Nat.le_of_ble_eq_true rfl) dX0_lambda_pairs_16_10 ⟨hmA hm.1 hb1, hmA hm.2 hb2⟩ rfl) (fun x7 G6 H locs hf hI => ?_)
  have hm := And.intro (hmB hm.1 hb1) (hmB hm.2 hb2)
  clear hb1 hb2
  clear hO
  refine lv_pop hx hb dX0_lambda_pairs_16_13 rfl ?_
  exact hret hf hI dX0_lambda_pairs_16_14 (hmC hm.1) (hmC hm.2)
/-! MergeJudge.known(I)I -/
def hX0_known (j : JX) (Λ : JLam) (a0 : Nat) (p1 : Int32) (G : HG) (post : Int32 → HG → Prop) : Prop :=
  isO G a0 0 (hX0_isRule j Λ a0 p1 G fun x2 G1 => (x2 = 0 → (post ((-2) : Int32) G1)) ∧ (¬ x2 = 0 → (gtQ G1 a0 0 1 fun q4 => nnq q4 fun a5 => gtQ G1 a5 2 0 fun q6 => nnq q6 fun a7 => isO G1 a7 15 (hJ2_get j Λ a7 p1 G1 fun q9 G8 => csO G8 q9 "MergeJudge$Told" (nnq q9 fun a10 => isO G8 a0 0 (hX0_isKnown j Λ a0 a10 G8 fun x12 G11 => (x12 = 0 → (post (0 : Int32) G11)) ∧ (¬ x12 = 0 → (post (1 : Int32) G11))))))))
abbrev rhX0_known (fr lo : Nat) : Room := { frames := fr + 4, cells := 0, slots := 0, locals := lo + 104 }
theorem mhX0_known (l : Launch) (Z : (Nat → Prop) → State → Heap → Prop) (D : va_G) (j : JX) (Λ : JLam) (fr lo : Nat) (E : JE l Z D j Λ fr lo) (a0 : Nat) (p1 : Int32) (G : HG) (post : Int32 → HG → Prop) (hf : hX0_known j Λ a0 p1 G post) : HMi l yX0_known (ws_ yX0_known cX0_known 2 (some .int)) (rhX0_known fr lo) D jC (jty j.1) Z G [.ref a0, .int p1] post 0 0 := by
  refine h_openi E.1 (by decide) (by exact Nat.le_of_ble_eq_true rfl) (fun p e s m args below meth c ls A0 Q X hI hnd hnm hl hret => ?_)
  have X : XC p s m args meth c cX0_known 2 RX0 D jC (jty j.1) A0 Z := X
  have hx := X.1
  have hb := X.2.1
  have hown := X.2.2.2.1
  have hts := X.2.2.2.2.1
  have hl : lv_has ls 2 [(0, .ref a0), (1, .int p1)] := by exact hl
  unfold hX0_known at hf
  obtain ⟨H, eH⟩ : ∃ H, H = s.heap := ⟨_, rfl⟩
  obtain ⟨locs, eL⟩ : ∃ locs : List Loc, locs = [] := ⟨_, rfl⟩
  have hI : HI D jC G A0 s.heap H locs := by rw [eH, eL]; exact hI
  rw [← eL]
  suffices h : W p l e (rhX0_known fr lo) s m args below meth c H locs 0 0 Q (F0 m 0 ls []) by rw [eH] at h; exact h
  clear eH eL
  refine lv_aload_n hx hb dX0_known_0 rfl (lv_at hl 0 rfl) ?_
  refine lv_iload_n hx hb dX0_known_1 rfl (lv_at hl 1 rfl) ?_
  obtain ⟨_, _, hO, hf⟩ := hf
  refine h_ki X hI (h_runV (As := [.int p1]) X hI (h_recv X hI hO (show jC.1[0]? = some (RX0, TX0, 20) from rfl)) (mhX0_isRule l Z D j Λ fr lo E a0 p1 G _ hf H.size) (cwV 1 hts (lw_V q2068 q2070 qs53 q167 q2071) rfl rfl rfl (by decide +kernel) (by show fr + 2 + 1 ≤ fr + 4 ∧ 8 + (2 + 11) + (lo + 65) ≤ lo + 104; omega)) rfl hl.1 (Nat.le_of_ble_eq_true rfl) dX0_known_2 ⟨Nat.le_refl _, Nat.le_refl _⟩ rfl) (fun x2 G1 H locs hf hI => ?_)
  clear hO
  refine lv_if_eq (tgt := 39) hx hb dX0_known_5 (by decide) (fun c3 => ?_) (fun c3 => ?_)
  · have hf := hf.1 c3
    refine lv_bipush (v := -2) hx hb dX0_known_39 (by decide) ?_
    exact hret hf hI dX0_known_41 (Nat.le_refl _) (Nat.le_refl _)
  · have hf := hf.2 c3
    refine lv_aload_n hx hb dX0_known_8 rfl (lv_at hl 0 rfl) ?_
    refine lv_aload_n hx hb dX0_known_9 rfl (lv_at hl 0 rfl) ?_
    refine hr_gtQ X hI (rfl : jC.1[0]? = some (RX0, TX0, 20)) in_X0 1 (Nat.le_of_ble_eq_true rfl) hf q653 (fun _ h => h) dX0_known_10 (fun q4 hf => ?_)
    obtain ⟨a5, ea5, hf⟩ := hf
    revert hl hf
    subst ea5
    intro hl hf
    have hl : lv_has ls 2 [(0, .ref a0), (1, .int p1)] := hl
    refine hr_gtQN X hI (rfl : jC.1[2]? = some (RX2, TX2, 11)) in_X2 0 (Nat.le_of_ble_eq_true rfl) hf (E.nw X q478 rfl) (fun _ h => h) dX0_known_13 (fun q6 hf => ?_)
    refine lv_iload_n hx hb dX0_known_16 rfl (lv_at hl 1 rfl) ?_
    obtain ⟨a7, ea7, hf⟩ := hf
    revert hl hf
    subst ea7
    intro hl hf
    have hl : lv_has ls 2 [(0, .ref a0), (1, .int p1)] := hl
    obtain ⟨_, _, hO, hf⟩ := hf
    refine h_Fkq X hI (h_runF (As := [.int p1]) X hI (X.2.2.2.2.2.1.1 15 _ (show jC.1[15]? = some (RJ2, TJ2, 3) from rfl)).2 (h_recv X hI hO (show jC.1[15]? = some (RJ2, TJ2, 3) from rfl)) (mhJ2_get l Z D j Λ fr lo E a7 p1 G1 _ hf H.size) (cwF 1 hts q1851 q1854 q1856 q172 q1858 ((E.w X).2.2.1 _ (List.mem_of_getElem? (show jFw[2]? = _ from rfl))) rfl rfl (by decide +kernel) (by show fr + 3 + 1 ≤ fr + 4 ∧ 8 + (2 + 11) + (lo + 83) ≤ lo + 104; omega)) rfl hl.1 (Nat.le_of_ble_eq_true rfl) dX0_known_17 ⟨Nat.le_refl _, Nat.le_refl _⟩ rfl) (fun q9 G8 H locs hf hI => ?_)
    clear hO
    refine hr_cast (v := q9) E X hI hf q1867 dX0_known_22 (fun hf => ?_)
    obtain ⟨a10, ea10, hf⟩ := hf
    revert hl hf
    subst ea10
    intro hl hf
    have hl : lv_has ls 2 [(0, .ref a0), (1, .int p1)] := hl
    obtain ⟨_, _, hO, hf⟩ := hf
    refine h_ki X hI (h_runV (As := [.ref a10]) X hI (h_recv X hI hO (show jC.1[0]? = some (RX0, TX0, 20) from rfl)) (mhX0_isKnown l Z D j Λ fr lo E a0 a10 G8 _ hf H.size) (cwV 1 hts (lw_V q2319 q2321 qs68 q167 q2322) rfl rfl rfl (by decide +kernel) (by show fr + 2 + 1 ≤ fr + 4 ∧ 8 + (2 + 11) + (lo + 61) ≤ lo + 104; omega)) rfl hl.1 (Nat.le_of_ble_eq_true rfl) dX0_known_25 ⟨Nat.le_refl _, Nat.le_refl _⟩ rfl) (fun x12 G11 H locs hf hI => ?_)
    clear hO
    refine lv_if_eq (tgt := 35) hx hb dX0_known_28 (by decide) (fun c13 => ?_) (fun c13 => ?_)
    · have hf := hf.1 c13
      refine lv_iconst (v := 0) hx hb dX0_known_35 (by decide) ?_
      refine lv_goto (tgt := 41) hx hb dX0_known_36 (by decide) ?_
      exact hret hf hI dX0_known_41 (Nat.le_refl _) (Nat.le_refl _)
    · have hf := hf.2 c13
      refine lv_iconst (v := 1) hx hb dX0_known_31 (by decide) ?_
      refine lv_goto (tgt := 41) hx hb dX0_known_32 (by decide) ?_
      exact hret hf hI dX0_known_41 (Nat.le_refl _) (Nat.le_refl _)
