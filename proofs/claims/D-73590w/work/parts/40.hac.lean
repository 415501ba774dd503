/-! THE COMPONENT as transformers over its heap, and the walks (printed by gen/genh.py) -/
/-! MergeJudge.opens(I)I -/
def hX0_opens_b50 (j : JX) (Λ : JLam) (a0 : Nat) (p1 : Int32) (post : Int32 → HG → Prop) (K16 : Int32 → Int32 → HG → Prop) (lx3 : Int32) (z0 : Int32) (z1 : Int32) (G : HG) : Prop :=
  K16 (z0 ||| z1) (lx3 + 1) G
def hX0_opens_b16 (j : JX) (Λ : JLam) (a0 : Nat) (p1 : Int32) (post : Int32 → HG → Prop) (K16 : Int32 → Int32 → HG → Prop) (lx2 : Int32) (lx3 : Int32) (G : HG) : Prop :=
  gtQ G a0 0 1 fun q4 => nnq q4 fun a5 => gtQ G a5 2 1 fun q6 => nnq q6 fun a7 => isO G a7 15 (hJ2_size j Λ a7 G fun x9 G8 => (x9 ≤ lx3 → (post lx2 G8)) ∧ (¬ x9 ≤ lx3 → (isO G8 a0 0 (hX0_stepIn j Λ a0 lx3 p1 G8 fun x12 G11 => (x12 = ((-1) : Int32) → (hX0_opens_b50 j Λ a0 p1 post K16 lx3 lx2 (0 : Int32) G11)) ∧ (¬ x12 = ((-1) : Int32) → (hX0_opens_b50 j Λ a0 p1 post K16 lx3 lx2 ((1 : Int32) <<< (lx3 &&& 31)) G11))))))
def hX0_opens_l16 (j : JX) (Λ : JLam) (a0 : Nat) (p1 : Int32) (post : Int32 → HG → Prop) : Nat → Int32 → Int32 → HG → Prop
  | 0 => fun _ _ _ => False
  | n + 1 => fun lx2 lx3 G => hX0_opens_b16 j Λ a0 p1 post (hX0_opens_l16 j Λ a0 p1 post n) lx2 lx3 G
def hX0_opens (j : JX) (Λ : JLam) (a0 : Nat) (p1 : Int32) (G : HG) (post : Int32 → HG → Prop) : Prop :=
  isO G a0 0 (hX0_isState j Λ a0 p1.toInt64 G fun x2 G1 => (x2 = 0 → (post ((-2) : Int32) G1)) ∧ (¬ x2 = 0 → (∃ n, hX0_opens_l16 j Λ a0 p1 post n (0 : Int32) (0 : Int32) G1)))
abbrev rhX0_opens (fr lo : Nat) : Room := { frames := fr + 3, cells := 0, slots := 0, locals := lo + 87 }
theorem mhX0_opens (l : Launch) (Z : (Nat → Prop) → State → Heap → Prop) (D : va_G) (j : JX) (Λ : JLam) (fr lo : Nat) (E : JE l Z D j Λ fr lo) (a0 : Nat) (p1 : Int32) (G : HG) (post : Int32 → HG → Prop) (hf : hX0_opens j Λ a0 p1 G post) : HMi l yX0_opens (ws_ yX0_opens cX0_opens 4 (some .int)) (rhX0_opens fr lo) D jC (jty j.1) Z G [.ref a0, .int p1] post 0 0 := by
  refine h_openi E.1 (by decide) (by exact Nat.le_of_ble_eq_true rfl) (fun p e s m args below meth c ls A0 Q X hI hnd hnm hl hret => ?_)
  have X : XC p s m args meth c cX0_opens 4 RX0 D jC (jty j.1) A0 Z := X
  have hx := X.1
  have hb := X.2.1
  have hown := X.2.2.2.1
  have hts := X.2.2.2.2.1
  have L16 : ∀ (n : Nat) (lx2 : Int32) (lx3 : Int32) (G : HG), hX0_opens_l16 j Λ a0 p1 post n lx2 lx3 G → ∀ (H : Heap) (locs : List Loc), HI D jC G A0 s.heap H locs → ∀ (ls : Array Slot), lv_has ls 4 [(0, .ref a0), (1, .int p1), (2, .int lx2), (3, .int lx3)] → W p l e (rhX0_opens fr lo) s m args below meth c H locs 0 0 Q (F0 m 16 ls []) := by
    intro n16
    induction n16 with
    | zero => intro lx2 lx3 G hf; exact hf.elim
    | succ n16 ih16 =>
      have J50 : ∀ (lx3 : Int32) (z0 : Int32) (z1 : Int32) (G : HG), hX0_opens_b50 j Λ a0 p1 post (hX0_opens_l16 j Λ a0 p1 post n16) lx3 z0 z1 G → ∀ (H : Heap) (locs : List Loc), HI D jC G A0 s.heap H locs → ∀ (ls : Array Slot), lv_has ls 4 [(0, .ref a0), (1, .int p1), (3, .int lx3)] → W p l e (rhX0_opens fr lo) s m args below meth c H locs 0 0 Q (F0 m 50 ls [.int z1, .int z0]) := by
        intro lx3 z0 z1 G hf H locs hI ls hl
        unfold hX0_opens_b50 at hf
        refine lv_ior hx hb dX0_opens_50 ?_
        refine lv_istore_n (lv' := [(2, .int (z0 ||| z1)), (0, .ref a0), (1, .int p1), (3, .int lx3)]) hx hb dX0_opens_51 rfl hl (by decide) rfl (fun ls hl => ?_)
        refine lv_iinc (v := lx3 + 1) (lv' := [(3, .int (lx3 + 1)), (2, .int (z0 ||| z1)), (0, .ref a0), (1, .int p1)]) hx hb dX0_opens_52 hl (k := 3) rfl rfl (by decide) rfl (fun ls hl => ?_)
        refine lv_goto (tgt := 16) hx hb dX0_opens_55 (by decide) ?_
        exact ih16 (z0 ||| z1) (lx3 + 1) G hf H locs hI ls (lv_sub hl [2, 3, 1, 0] rfl)
      intro lx2 lx3 G hf H locs hI ls hl
      have hf : hX0_opens_b16 j Λ a0 p1 post (hX0_opens_l16 j Λ a0 p1 post n16) lx2 lx3 G := hf
      unfold hX0_opens_b16 at hf
      refine lv_iload_n hx hb dX0_opens_16 rfl (lv_at hl 3 rfl) ?_
      refine lv_aload_n hx hb dX0_opens_17 rfl (lv_at hl 0 rfl) ?_
      refine hr_gtQ X hI (rfl : jC.1[0]? = some (RX0, TX0, 20)) in_X0 1 (Nat.le_of_ble_eq_true rfl) hf q653 (fun _ h => h) dX0_opens_18 (fun q4 hf => ?_)
      obtain ⟨a5, ea5, hf⟩ := hf
      revert hl hf
      subst ea5
      intro hl hf
      have hl : lv_has ls 4 [(0, .ref a0), (1, .int p1), (2, .int lx2), (3, .int lx3)] := hl
      refine hr_gtQN X hI (rfl : jC.1[2]? = some (RX2, TX2, 11)) in_X2 1 (Nat.le_of_ble_eq_true rfl) hf (E.nw X q483 rfl) (fun _ h => h) dX0_opens_21 (fun q6 hf => ?_)
      obtain ⟨a7, ea7, hf⟩ := hf
      revert hl hf
      subst ea7
      intro hl hf
      have hl : lv_has ls 4 [(0, .ref a0), (1, .int p1), (2, .int lx2), (3, .int lx3)] := hl
      obtain ⟨_, _, hO, hf⟩ := hf
      refine h_Fki X hI (h_runF (As := []) X hI (X.2.2.2.2.2.1.1 15 _ (show jC.1[15]? = some (RJ2, TJ2, 3) from rfl)).2 (h_recv X hI hO (show jC.1[15]? = some (RJ2, TJ2, 3) from rfl)) (mhJ2_size l Z D j Λ fr lo E a7 G _ hf H.size) (cwF 0 hts q1848 q1771 q1773 q172 q1775 ((E.w X).2.2.1 _ (List.mem_of_getElem? (show jFw[0]? = _ from rfl))) rfl rfl (by decide +kernel) (by show fr + 1 + 1 ≤ fr + 3 ∧ 8 + (1 + 11) + (lo + 40) ≤ lo + 87; omega)) rfl hl.1 (Nat.le_of_ble_eq_true rfl) dX0_opens_24 ⟨Nat.le_refl _, Nat.le_refl _⟩ rfl) (fun x9 G8 H locs hf hI => ?_)
      clear hO
      refine lv_icmp_ge (tgt := 58) hx hb dX0_opens_29 (by decide) (fun c10 => ?_) (fun c10 => ?_)
      · have hf := hf.1 c10
        refine lv_iload_n hx hb dX0_opens_58 rfl (lv_at hl 2 rfl) ?_
        exact hret hf hI dX0_opens_59 (Nat.le_refl _) (Nat.le_refl _)
      · have hf := hf.2 c10
        refine lv_iload_n hx hb dX0_opens_32 rfl (lv_at hl 2 rfl) ?_
        refine lv_aload_n hx hb dX0_opens_33 rfl (lv_at hl 0 rfl) ?_
        refine lv_iload_n hx hb dX0_opens_34 rfl (lv_at hl 3 rfl) ?_
        refine lv_iload_n hx hb dX0_opens_35 rfl (lv_at hl 1 rfl) ?_
        obtain ⟨_, _, hO, hf⟩ := hf
        refine h_ki X hI (h_runV (As := [.int lx3, .int p1]) X hI (h_recv X hI hO (show jC.1[0]? = some (RX0, TX0, 20) from rfl)) (mhX0_stepIn l Z D j Λ fr lo E a0 lx3 p1 G8 _ hf H.size) (cwV 2 hts (lw_V q2037 q2011 qs49 q167 q2012) rfl rfl rfl (by decide +kernel) (by show fr + 1 + 1 ≤ fr + 3 ∧ 8 + (4 + 11) + (lo + 40) ≤ lo + 87; omega)) rfl hl.1 (Nat.le_of_ble_eq_true rfl) dX0_opens_36 ⟨Nat.le_refl _, Nat.le_refl _⟩ rfl) (fun x12 G11 H locs hf hI => ?_)
        clear hO
        refine lv_iconst (v := -1) hx hb dX0_opens_39 (by decide) ?_
        refine lv_icmp_eq (tgt := 49) hx hb dX0_opens_40 (by decide) (fun c13 => ?_) (fun c13 => ?_)
        · have hf := hf.1 c13
          refine lv_iconst (v := 0) hx hb dX0_opens_49 (by decide) ?_
          exact J50 lx3 lx2 (0 : Int32) G11 hf H locs hI ls (lv_sub hl [0, 1, 3] rfl)
        · have hf := hf.2 c13
          refine lv_iconst (v := 1) hx hb dX0_opens_43 (by decide) ?_
          refine lv_iload_n hx hb dX0_opens_44 rfl (lv_at hl 3 rfl) ?_
          refine lv_ishl hx hb dX0_opens_45 ?_
          refine lv_goto (tgt := 50) hx hb dX0_opens_46 (by decide) ?_
          exact J50 lx3 lx2 ((1 : Int32) <<< (lx3 &&& 31)) G11 hf H locs hI ls (lv_sub hl [0, 1, 3] rfl)
  have hl : lv_has ls 4 [(0, .ref a0), (1, .int p1)] := by exact hl
  unfold hX0_opens at hf
  obtain ⟨H, eH⟩ : ∃ H, H = s.heap := ⟨_, rfl⟩
  obtain ⟨locs, eL⟩ : ∃ locs : List Loc, locs = [] := ⟨_, rfl⟩
  have hI : HI D jC G A0 s.heap H locs := by rw [eH, eL]; exact hI
  rw [← eL]
  suffices h : W p l e (rhX0_opens fr lo) s m args below meth c H locs 0 0 Q (F0 m 0 ls []) by rw [eH] at h; exact h
  clear eH eL
  refine lv_aload_n hx hb dX0_opens_0 rfl (lv_at hl 0 rfl) ?_
  refine lv_iload_n hx hb dX0_opens_1 rfl (lv_at hl 1 rfl) ?_
  refine lv_i2l hx hb dX0_opens_2 rfl ?_
  obtain ⟨_, _, hO, hf⟩ := hf
  refine h_ki X hI (h_runV (As := [.long p1.toInt64]) X hI (h_recv X hI hO (show jC.1[0]? = some (RX0, TX0, 20) from rfl)) (mhX0_isState l Z D j Λ fr lo E a0 p1.toInt64 G _ hf H.size) (cwV 1 hts (lw_V q1968 q1970 qs43 q167 q1971) rfl rfl rfl (by decide +kernel) (by show fr + 2 + 1 ≤ fr + 3 ∧ 8 + (3 + 11) + (lo + 65) ≤ lo + 87; omega)) rfl hl.1 (Nat.le_of_ble_eq_true rfl) dX0_opens_3 ⟨Nat.le_refl _, Nat.le_refl _⟩ rfl) (fun x2 G1 H locs hf hI => ?_)
  clear hO
  refine lv_if_ne (tgt := 12) hx hb dX0_opens_6 (by decide) (fun c3 => ?_) (fun c3 => ?_)
  · have hf := hf.2 c3
    refine lv_iconst (v := 0) hx hb dX0_opens_12 (by decide) ?_
    refine lv_istore_n (lv' := [(2, .int 0), (0, .ref a0), (1, .int p1)]) hx hb dX0_opens_13 rfl hl (by decide) rfl (fun ls hl => ?_)
    refine lv_iconst (v := 0) hx hb dX0_opens_14 (by decide) ?_
    refine lv_istore_n (lv' := [(3, .int 0), (2, .int 0), (0, .ref a0), (1, .int p1)]) hx hb dX0_opens_15 rfl hl (by decide) rfl (fun ls hl => ?_)
    obtain ⟨n, hf⟩ := hf
    exact L16 n (0 : Int32) (0 : Int32) G1 hf H locs hI ls (lv_sub hl [2, 3, 1, 0] rfl)
  · have hf := hf.1 c3
    refine lv_bipush (v := -2) hx hb dX0_opens_9 (by decide) ?_
    exact hret hf hI dX0_opens_11 (Nat.le_refl _) (Nat.le_refl _)
/-! MergeJudge.dead()I -/
def hX0_dead_b48 (j : JX) (Λ : JLam) (a0 : Nat) (post : Int32 → HG → Prop) (K17 : Int32 → Int32 → HG → Prop) (lx2 : Int32) (z0 : Int32) (z1 : Int32) (G : HG) : Prop :=
  K17 (z0 + z1) (lx2 + 1) G
def hX0_dead_b47 (j : JX) (Λ : JLam) (a0 : Nat) (post : Int32 → HG → Prop) (K17 : Int32 → Int32 → HG → Prop) (lx2 : Int32) (z0 : Int32) (G : HG) : Prop :=
  hX0_dead_b48 j Λ a0 post K17 lx2 z0 (0 : Int32) G
def hX0_dead_b17 (j : JX) (Λ : JLam) (a0 : Nat) (post : Int32 → HG → Prop) (K17 : Int32 → Int32 → HG → Prop) (lx1 : Int32) (lx2 : Int32) (G : HG) : Prop :=
  isO G a0 0 (hX0_states0 j Λ a0 G fun x7 G6 => (x7 ≤ lx2 → (post lx1 G6)) ∧ (¬ x7 ≤ lx2 → (gtQ G6 a0 0 11 fun q9 => nnq q9 fun a10 => ldI G6 a10 (j.1 1) lx2 fun x11 => (x11 = 0 → (hX0_dead_b47 j Λ a0 post K17 lx2 lx1 G6)) ∧ (¬ x11 = 0 → (isO G6 a0 0 (hX0_opens j Λ a0 lx2 G6 fun x14 G13 => (x14 = 0 → (hX0_dead_b48 j Λ a0 post K17 lx2 lx1 (1 : Int32) G13)) ∧ (¬ x14 = 0 → (hX0_dead_b47 j Λ a0 post K17 lx2 lx1 G13))))))))
def hX0_dead_l17 (j : JX) (Λ : JLam) (a0 : Nat) (post : Int32 → HG → Prop) : Nat → Int32 → Int32 → HG → Prop
  | 0 => fun _ _ _ => False
  | n + 1 => fun lx1 lx2 G => hX0_dead_b17 j Λ a0 post (hX0_dead_l17 j Λ a0 post n) lx1 lx2 G
def hX0_dead (j : JX) (Λ : JLam) (a0 : Nat) (G : HG) (post : Int32 → HG → Prop) : Prop :=
  gtQ G a0 0 1 fun q1 => nnq q1 fun a2 => isO G a2 2 (hX2_is j Λ a2 G fun x4 G3 => (x4 = 0 → (post ((-2) : Int32) G3)) ∧ (¬ x4 = 0 → (∃ n, hX0_dead_l17 j Λ a0 post n (0 : Int32) (0 : Int32) G3)))
abbrev rhX0_dead (fr lo : Nat) : Room := { frames := fr + 4, cells := 0, slots := 0, locals := lo + 110 }
theorem mhX0_dead (l : Launch) (Z : (Nat → Prop) → State → Heap → Prop) (D : va_G) (j : JX) (Λ : JLam) (fr lo : Nat) (E : JE l Z D j Λ fr lo) (a0 : Nat) (G : HG) (post : Int32 → HG → Prop) (hf : hX0_dead j Λ a0 G post) : HMi l yX0_dead (ws_ yX0_dead cX0_dead 3 (some .int)) (rhX0_dead fr lo) D jC (jty j.1) Z G [.ref a0] post 0 0 := by
  refine h_openi E.1 (by decide) (by exact Nat.le_of_ble_eq_true rfl) (fun p e s m args below meth c ls A0 Q X hI hnd hnm hl hret => ?_)
  have X : XC p s m args meth c cX0_dead 3 RX0 D jC (jty j.1) A0 Z := X
  have hx := X.1
  have hb := X.2.1
  have hown := X.2.2.2.1
  have hts := X.2.2.2.2.1
  have L17 : ∀ (n : Nat) (lx1 : Int32) (lx2 : Int32) (G : HG), hX0_dead_l17 j Λ a0 post n lx1 lx2 G → ∀ (H : Heap) (locs : List Loc), HI D jC G A0 s.heap H locs → ∀ (ls : Array Slot), lv_has ls 3 [(0, .ref a0), (1, .int lx1), (2, .int lx2)] → W p l e (rhX0_dead fr lo) s m args below meth c H locs 0 0 Q (F0 m 17 ls []) := by
    intro n17
    induction n17 with
    | zero => intro lx1 lx2 G hf; exact hf.elim
    | succ n17 ih17 =>
      have J48 : ∀ (lx2 : Int32) (z0 : Int32) (z1 : Int32) (G : HG), hX0_dead_b48 j Λ a0 post (hX0_dead_l17 j Λ a0 post n17) lx2 z0 z1 G → ∀ (H : Heap) (locs : List Loc), HI D jC G A0 s.heap H locs → ∀ (ls : Array Slot), lv_has ls 3 [(0, .ref a0), (2, .int lx2)] → W p l e (rhX0_dead fr lo) s m args below meth c H locs 0 0 Q (F0 m 48 ls [.int z1, .int z0]) := by
        intro lx2 z0 z1 G hf H locs hI ls hl
        unfold hX0_dead_b48 at hf
        refine lv_iadd hx hb dX0_dead_48 ?_
        refine lv_istore_n (lv' := [(1, .int (z0 + z1)), (0, .ref a0), (2, .int lx2)]) hx hb dX0_dead_49 rfl hl (by decide) rfl (fun ls hl => ?_)
        refine lv_iinc (v := lx2 + 1) (lv' := [(2, .int (lx2 + 1)), (1, .int (z0 + z1)), (0, .ref a0)]) hx hb dX0_dead_50 hl (k := 2) rfl rfl (by decide) rfl (fun ls hl => ?_)
        refine lv_goto (tgt := 17) hx hb dX0_dead_53 (by decide) ?_
        exact ih17 (z0 + z1) (lx2 + 1) G hf H locs hI ls (lv_sub hl [2, 1, 0] rfl)
      have J47 : ∀ (lx2 : Int32) (z0 : Int32) (G : HG), hX0_dead_b47 j Λ a0 post (hX0_dead_l17 j Λ a0 post n17) lx2 z0 G → ∀ (H : Heap) (locs : List Loc), HI D jC G A0 s.heap H locs → ∀ (ls : Array Slot), lv_has ls 3 [(0, .ref a0), (2, .int lx2)] → W p l e (rhX0_dead fr lo) s m args below meth c H locs 0 0 Q (F0 m 47 ls [.int z0]) := by
        intro lx2 z0 G hf H locs hI ls hl
        unfold hX0_dead_b47 at hf
        refine lv_iconst (v := 0) hx hb dX0_dead_47 (by decide) ?_
        exact J48 lx2 z0 (0 : Int32) G hf H locs hI ls (lv_sub hl [0, 1] rfl)
      intro lx1 lx2 G hf H locs hI ls hl
      have hf : hX0_dead_b17 j Λ a0 post (hX0_dead_l17 j Λ a0 post n17) lx1 lx2 G := hf
      unfold hX0_dead_b17 at hf
      refine lv_iload_n hx hb dX0_dead_17 rfl (lv_at hl 2 rfl) ?_
      refine lv_aload_n hx hb dX0_dead_18 rfl (lv_at hl 0 rfl) ?_
      obtain ⟨_, _, hO, hf⟩ := hf
      refine h_ki X hI (h_runV (As := []) X hI (h_recv X hI hO (show jC.1[0]? = some (RX0, TX0, 20) from rfl)) (mhX0_states0 l Z D j Λ fr lo E a0 G _ hf H.size) (cwV 0 hts (lw_V q1945 q1947 qs41 q167 q1948) rfl rfl rfl (by decide +kernel) (by show fr + 1 + 1 ≤ fr + 4 ∧ 8 + (3 + 11) + (lo + 40) ≤ lo + 110; omega)) rfl hl.1 (Nat.le_of_ble_eq_true rfl) dX0_dead_19 ⟨Nat.le_refl _, Nat.le_refl _⟩ rfl) (fun x7 G6 H locs hf hI => ?_)
      clear hO
      refine lv_icmp_ge (tgt := 56) hx hb dX0_dead_22 (by decide) (fun c8 => ?_) (fun c8 => ?_)
      · have hf := hf.1 c8
        refine lv_iload_n hx hb dX0_dead_56 rfl (lv_at hl 1 rfl) ?_
        exact hret hf hI dX0_dead_57 (Nat.le_refl _) (Nat.le_refl _)
      · have hf := hf.2 c8
        refine lv_iload_n hx hb dX0_dead_25 rfl (lv_at hl 1 rfl) ?_
        refine lv_aload_n hx hb dX0_dead_26 rfl (lv_at hl 0 rfl) ?_
        refine hr_gtQ X hI (rfl : jC.1[0]? = some (RX0, TX0, 20)) in_X0 11 (Nat.le_of_ble_eq_true rfl) hf q664 (fun _ h => h) dX0_dead_27 (fun q9 hf => ?_)
        refine lv_iload_n hx hb dX0_dead_30 rfl (lv_at hl 2 rfl) ?_
        obtain ⟨a10, ea10, hf⟩ := hf
        revert hl hf
        subst ea10
        intro hl hf
        have hl : lv_has ls 3 [(0, .ref a0), (1, .int lx1), (2, .int lx2)] := hl
        refine hr_zld X hI 1 rfl hf dX0_dead_31 (fun x11 hf => ?_)
        refine lv_if_eq (tgt := 47) hx hb dX0_dead_32 (by decide) (fun c12 => ?_) (fun c12 => ?_)
        · have hf := hf.1 c12
          exact J47 lx2 lx1 G6 hf H locs hI ls (lv_sub hl [0, 2] rfl)
        · have hf := hf.2 c12
          refine lv_aload_n hx hb dX0_dead_35 rfl (lv_at hl 0 rfl) ?_
          refine lv_iload_n hx hb dX0_dead_36 rfl (lv_at hl 2 rfl) ?_
          obtain ⟨_, _, hO, hf⟩ := hf
          refine h_ki X hI (h_runV (As := [.int lx2]) X hI (h_recv X hI hO (show jC.1[0]? = some (RX0, TX0, 20) from rfl)) (mhX0_opens l Z D j Λ fr lo E a0 lx2 G6 _ hf H.size) (cwV 1 hts (lw_V q2042 q2034 q2035 q167 q2036) rfl rfl rfl (by decide +kernel) (by show fr + 3 + 1 ≤ fr + 4 ∧ 8 + (4 + 11) + (lo + 87) ≤ lo + 110; omega)) rfl hl.1 (Nat.le_of_ble_eq_true rfl) dX0_dead_37 ⟨Nat.le_refl _, Nat.le_refl _⟩ rfl) (fun x14 G13 H locs hf hI => ?_)
          clear hO
          refine lv_if_ne (tgt := 47) hx hb dX0_dead_40 (by decide) (fun c15 => ?_) (fun c15 => ?_)
          · have hf := hf.2 c15
            exact J47 lx2 lx1 G13 hf H locs hI ls (lv_sub hl [0, 2] rfl)
          · have hf := hf.1 c15
            refine lv_iconst (v := 1) hx hb dX0_dead_43 (by decide) ?_
            refine lv_goto (tgt := 48) hx hb dX0_dead_44 (by decide) ?_
            exact J48 lx2 lx1 (1 : Int32) G13 hf H locs hI ls (lv_sub hl [0, 2] rfl)
  have hl : lv_has ls 3 [(0, .ref a0)] := by exact hl
  unfold hX0_dead at hf
  obtain ⟨H, eH⟩ : ∃ H, H = s.heap := ⟨_, rfl⟩
  obtain ⟨locs, eL⟩ : ∃ locs : List Loc, locs = [] := ⟨_, rfl⟩
  have hI : HI D jC G A0 s.heap H locs := by rw [eH, eL]; exact hI
  rw [← eL]
  suffices h : W p l e (rhX0_dead fr lo) s m args below meth c H locs 0 0 Q (F0 m 0 ls []) by rw [eH] at h; exact h
  clear eH eL
  refine lv_aload_n hx hb dX0_dead_0 rfl (lv_at hl 0 rfl) ?_
  refine hr_gtQ X hI (rfl : jC.1[0]? = some (RX0, TX0, 20)) in_X0 1 (Nat.le_of_ble_eq_true rfl) hf q653 (fun _ h => h) dX0_dead_1 (fun q1 hf => ?_)
  obtain ⟨a2, ea2, hf⟩ := hf
  revert hl hf
  subst ea2
  intro hl hf
  have hl : lv_has ls 3 [(0, .ref a0)] := hl
  obtain ⟨_, _, hO, hf⟩ := hf
  refine h_ki X hI (h_runV (As := []) X hI (h_recv X hI hO (show jC.1[2]? = some (RX2, TX2, 11) from rfl)) (mhX2_is l Z D j Λ fr lo E a2 G _ hf H.size) (cwV 0 hts (lw_V q1839 q1840 q1841 q169 q1842) rfl rfl rfl (by decide +kernel) (by show fr + 1 + 1 ≤ fr + 4 ∧ 8 + (1 + 11) + (lo + 40) ≤ lo + 110; omega)) rfl hl.1 (Nat.le_of_ble_eq_true rfl) dX0_dead_4 ⟨Nat.le_refl _, Nat.le_refl _⟩ rfl) (fun x4 G3 H locs hf hI => ?_)
  clear hO
  refine lv_if_ne (tgt := 13) hx hb dX0_dead_7 (by decide) (fun c5 => ?_) (fun c5 => ?_)
  · have hf := hf.2 c5
    refine lv_iconst (v := 0) hx hb dX0_dead_13 (by decide) ?_
    refine lv_istore_n (lv' := [(1, .int 0), (0, .ref a0)]) hx hb dX0_dead_14 rfl hl (by decide) rfl (fun ls hl => ?_)
    refine lv_iconst (v := 0) hx hb dX0_dead_15 (by decide) ?_
    refine lv_istore_n (lv' := [(2, .int 0), (1, .int 0), (0, .ref a0)]) hx hb dX0_dead_16 rfl hl (by decide) rfl (fun ls hl => ?_)
    obtain ⟨n, hf⟩ := hf
    exact L17 n (0 : Int32) (0 : Int32) G3 hf H locs hI ls (lv_sub hl [2, 1, 0] rfl)
  · have hf := hf.1 c5
    refine lv_bipush (v := -2) hx hb dX0_dead_10 (by decide) ?_
    exact hret hf hI dX0_dead_12 (Nat.le_refl _) (Nat.le_refl _)
/-! MergeJudge.isOp(I)Z -/
def hX0_isOp (j : JX) (Λ : JLam) (a0 : Nat) (p1 : Int32) (G : HG) (post : Int32 → HG → Prop) : Prop :=
  gtQ G a0 0 1 fun q1 => nnq q1 fun a2 => gtQ G a2 2 1 fun q3 => nnq q3 fun a4 => isO G a4 15 (hJ2_size j Λ a4 G fun x6 G5 => hX0_in j Λ p1.toInt64 (0 : Int64) ((x6 - 1).toInt64) G5 fun x8 G7 => zB x8 ∧ post x8 G7)
abbrev rhX0_isOp (fr lo : Nat) : Room := { frames := fr + 2, cells := 0, slots := 0, locals := lo + 65 }
theorem mhX0_isOp (l : Launch) (Z : (Nat → Prop) → State → Heap → Prop) (D : va_G) (j : JX) (Λ : JLam) (fr lo : Nat) (E : JE l Z D j Λ fr lo) (a0 : Nat) (p1 : Int32) (G : HG) (post : Int32 → HG → Prop) (hf : hX0_isOp j Λ a0 p1 G post) : HMi l yX0_isOp (ws_ yX0_isOp cX0_isOp 2 (some .boolean)) (rhX0_isOp fr lo) D jC (jty j.1) Z G [.ref a0, .int p1] post 0 0 := by
  refine h_openz E.1 (by decide) (by exact Nat.le_of_ble_eq_true rfl) (fun p e s m args below meth c ls A0 Q X hI hnd hnm hl hret => ?_)
  have X : XC p s m args meth c cX0_isOp 2 RX0 D jC (jty j.1) A0 Z := X
  have hx := X.1
  have hb := X.2.1
  have hown := X.2.2.2.1
  have hts := X.2.2.2.2.1
  have hl : lv_has ls 2 [(0, .ref a0), (1, .int p1)] := by exact hl
  unfold hX0_isOp at hf
  obtain ⟨H, eH⟩ : ∃ H, H = s.heap := ⟨_, rfl⟩
  obtain ⟨locs, eL⟩ : ∃ locs : List Loc, locs = [] := ⟨_, rfl⟩
  have hI : HI D jC G A0 s.heap H locs := by rw [eH, eL]; exact hI
  rw [← eL]
  suffices h : W p l e (rhX0_isOp fr lo) s m args below meth c H locs 0 0 Q (F0 m 0 ls []) by rw [eH] at h; exact h
  clear eH eL
  refine lv_iload_n hx hb dX0_isOp_0 rfl (lv_at hl 1 rfl) ?_
  refine lv_i2l hx hb dX0_isOp_1 rfl ?_
  refine lv_lconst (v := 0) hx hb dX0_isOp_2 (by decide) ?_
  refine lv_aload_n hx hb dX0_isOp_3 rfl (lv_at hl 0 rfl) ?_
  refine hr_gtQ X hI (rfl : jC.1[0]? = some (RX0, TX0, 20)) in_X0 1 (Nat.le_of_ble_eq_true rfl) hf q653 (fun _ h => h) dX0_isOp_4 (fun q1 hf => ?_)
  obtain ⟨a2, ea2, hf⟩ := hf
  revert hl hf
  subst ea2
  intro hl hf
  have hl : lv_has ls 2 [(0, .ref a0), (1, .int p1)] := hl
  refine hr_gtQN X hI (rfl : jC.1[2]? = some (RX2, TX2, 11)) in_X2 1 (Nat.le_of_ble_eq_true rfl) hf (E.nw X q483 rfl) (fun _ h => h) dX0_isOp_7 (fun q3 hf => ?_)
  obtain ⟨a4, ea4, hf⟩ := hf
  revert hl hf
  subst ea4
  intro hl hf
  have hl : lv_has ls 2 [(0, .ref a0), (1, .int p1)] := hl
  obtain ⟨_, _, hO, hf⟩ := hf
  refine h_Fki X hI (h_runF (As := []) X hI (X.2.2.2.2.2.1.1 15 _ (show jC.1[15]? = some (RJ2, TJ2, 3) from rfl)).2 (h_recv X hI hO (show jC.1[15]? = some (RJ2, TJ2, 3) from rfl)) (mhJ2_size l Z D j Λ fr lo E a4 G _ hf H.size) (cwF 0 hts q1848 q1771 q1773 q172 q1775 ((E.w X).2.2.1 _ (List.mem_of_getElem? (show jFw[0]? = _ from rfl))) rfl rfl (by decide +kernel) (by show fr + 1 + 1 ≤ fr + 2 ∧ 8 + (1 + 11) + (lo + 40) ≤ lo + 65; omega)) rfl hl.1 (Nat.le_of_ble_eq_true rfl) dX0_isOp_10 ⟨Nat.le_refl _, Nat.le_refl _⟩ rfl) (fun x6 G5 H locs hf hI => ?_)
  clear hO
  refine lv_iconst (v := 1) hx hb dX0_isOp_15 (by decide) ?_
  refine lv_isub hx hb dX0_isOp_16 ?_
  refine lv_i2l hx hb dX0_isOp_17 rfl ?_
  refine h_ki X hI (h_runS (As := [.long p1.toInt64, .long 0, .long ((x6 - 1).toInt64)]) X hI (mhX0_in l Z D j Λ fr lo E p1.toInt64 (0 : Int64) ((x6 - 1).toInt64) G5 _ hf H.size) (va_cwS 3 hts (lw_S q226 q227 q167 q228) rfl rfl rfl (by decide +kernel) (by show fr + 1 + 1 ≤ fr + 2 ∧ 8 + (6 + 11) + (lo + 40) ≤ lo + 65; omega)) rfl hl.1 (Nat.le_of_ble_eq_true rfl) dX0_isOp_18 ⟨Nat.le_refl _, Nat.le_refl _⟩ rfl) (fun x8 G7 H locs hf hI => ?_)
  obtain ⟨hz, hf⟩ := hf
  exact hret (zB_n hz) hf hI dX0_isOp_21 (Nat.le_refl _) (Nat.le_refl _)
/-! MergeJudge.clashes(II)I -/
def hX0_clashes_b104 (j : JX) (Λ : JLam) (a0 : Nat) (p1 : Int32) (p2 : Int32) (post : Int32 → HG → Prop) (K24 : Int32 → Int32 → HG → Prop) (lx3 : Int32) (lx4 : Int32) (G : HG) : Prop :=
  K24 lx3 (lx4 + 1) G
def hX0_clashes_b102 (j : JX) (Λ : JLam) (a0 : Nat) (p1 : Int32) (p2 : Int32) (post : Int32 → HG → Prop) (K24 : Int32 → Int32 → HG → Prop) (lx4 : Int32) (z0 : Int32) (z1 : Int32) (G : HG) : Prop :=
  hX0_clashes_b104 j Λ a0 p1 p2 post K24 (z0 + z1) lx4 G
def hX0_clashes_b24 (j : JX) (Λ : JLam) (a0 : Nat) (p1 : Int32) (p2 : Int32) (post : Int32 → HG → Prop) (K24 : Int32 → Int32 → HG → Prop) (lx3 : Int32) (lx4 : Int32) (G : HG) : Prop :=
  isO G a0 0 (hX0_states0 j Λ a0 G fun x8 G7 => (x8 ≤ lx4 → (post lx3 G7)) ∧ (¬ x8 ≤ lx4 → (gtQ G7 a0 0 11 fun q10 => nnq q10 fun a11 => ldI G7 a11 (j.1 1) lx4 fun x12 => (x12 = 0 → (hX0_clashes_b104 j Λ a0 p1 p2 post K24 lx3 lx4 G7)) ∧ (¬ x12 = 0 → (isO G7 a0 0 (hX0_stepIn j Λ a0 p1 lx4 G7 fun x15 G14 => (x15 = ((-1) : Int32) → (hX0_clashes_b104 j Λ a0 p1 p2 post K24 lx3 lx4 G14)) ∧ (¬ x15 = ((-1) : Int32) → (isO G14 a0 0 (hX0_stepIn j Λ a0 p2 lx4 G14 fun x18 G17 => (x18 = ((-1) : Int32) → (hX0_clashes_b104 j Λ a0 p1 p2 post K24 lx3 lx4 G17)) ∧ (¬ x18 = ((-1) : Int32) → (gtQ G17 a0 0 11 fun q20 => isO G17 a0 0 (hX0_stepIn j Λ a0 p1 lx4 G17 fun x22 G21 => isO G21 a0 0 (hX0_stepIn j Λ a0 p2 lx4 G21 fun x24 G23 => isO G23 a0 0 (hX0_mergeOf j Λ a0 lx4 x22 x24 G23 fun x26 G25 => nnq q20 fun a27 => ldI G25 a27 (j.1 1) x26 fun x28 => (x28 = 0 → (hX0_clashes_b102 j Λ a0 p1 p2 post K24 lx4 lx3 (1 : Int32) G25)) ∧ (¬ x28 = 0 → (hX0_clashes_b102 j Λ a0 p1 p2 post K24 lx4 lx3 (0 : Int32) G25))))))))))))))))
def hX0_clashes_l24 (j : JX) (Λ : JLam) (a0 : Nat) (p1 : Int32) (p2 : Int32) (post : Int32 → HG → Prop) : Nat → Int32 → Int32 → HG → Prop
  | 0 => fun _ _ _ => False
  | n + 1 => fun lx3 lx4 G => hX0_clashes_b24 j Λ a0 p1 p2 post (hX0_clashes_l24 j Λ a0 p1 p2 post n) lx3 lx4 G
def hX0_clashes (j : JX) (Λ : JLam) (a0 : Nat) (p1 : Int32) (p2 : Int32) (G : HG) (post : Int32 → HG → Prop) : Prop :=
  isO G a0 0 (hX0_isOp j Λ a0 p1 G fun x2 G1 => (x2 = 0 → (post ((-2) : Int32) G1)) ∧ (¬ x2 = 0 → (isO G1 a0 0 (hX0_isOp j Λ a0 p2 G1 fun x5 G4 => (x5 = 0 → (post ((-2) : Int32) G4)) ∧ (¬ x5 = 0 → (∃ n, hX0_clashes_l24 j Λ a0 p1 p2 post n (0 : Int32) (0 : Int32) G4))))))
abbrev rhX0_clashes (fr lo : Nat) : Room := { frames := fr + 4, cells := 0, slots := 0, locals := lo + 110 }
theorem mhX0_clashes (l : Launch) (Z : (Nat → Prop) → State → Heap → Prop) (D : va_G) (j : JX) (Λ : JLam) (fr lo : Nat) (E : JE l Z D j Λ fr lo) (a0 : Nat) (p1 : Int32) (p2 : Int32) (G : HG) (post : Int32 → HG → Prop) (hf : hX0_clashes j Λ a0 p1 p2 G post) : HMi l yX0_clashes (ws_ yX0_clashes cX0_clashes 5 (some .int)) (rhX0_clashes fr lo) D jC (jty j.1) Z G [.ref a0, .int p1, .int p2] post 0 0 := by
  refine h_openi E.1 (by decide) (by exact Nat.le_of_ble_eq_true rfl) (fun p e s m args below meth c ls A0 Q X hI hnd hnm hl hret => ?_)
  have X : XC p s m args meth c cX0_clashes 5 RX0 D jC (jty j.1) A0 Z := X
  have hx := X.1
  have hb := X.2.1
  have hown := X.2.2.2.1
  have hts := X.2.2.2.2.1
  have L24 : ∀ (n : Nat) (lx3 : Int32) (lx4 : Int32) (G : HG), hX0_clashes_l24 j Λ a0 p1 p2 post n lx3 lx4 G → ∀ (H : Heap) (locs : List Loc), HI D jC G A0 s.heap H locs → ∀ (ls : Array Slot), lv_has ls 5 [(0, .ref a0), (1, .int p1), (2, .int p2), (3, .int lx3), (4, .int lx4)] → W p l e (rhX0_clashes fr lo) s m args below meth c H locs 0 0 Q (F0 m 24 ls []) := by
    intro n24
    induction n24 with
    | zero => intro lx3 lx4 G hf; exact hf.elim
    | succ n24 ih24 =>
      have J104 : ∀ (lx3 : Int32) (lx4 : Int32) (G : HG), hX0_clashes_b104 j Λ a0 p1 p2 post (hX0_clashes_l24 j Λ a0 p1 p2 post n24) lx3 lx4 G → ∀ (H : Heap) (locs : List Loc), HI D jC G A0 s.heap H locs → ∀ (ls : Array Slot), lv_has ls 5 [(0, .ref a0), (1, .int p1), (2, .int p2), (3, .int lx3), (4, .int lx4)] → W p l e (rhX0_clashes fr lo) s m args below meth c H locs 0 0 Q (F0 m 104 ls []) := by
        intro lx3 lx4 G hf H locs hI ls hl
        unfold hX0_clashes_b104 at hf
        refine lv_iinc (v := lx4 + 1) (lv' := [(4, .int (lx4 + 1)), (0, .ref a0), (1, .int p1), (2, .int p2), (3, .int lx3)]) hx hb dX0_clashes_104 hl (k := 4) rfl rfl (by decide) rfl (fun ls hl => ?_)
        refine lv_goto (tgt := 24) hx hb dX0_clashes_107 (by decide) ?_
        exact ih24 lx3 (lx4 + 1) G hf H locs hI ls (lv_sub hl [1, 2, 3, 4, 0] rfl)
      have J102 : ∀ (lx4 : Int32) (z0 : Int32) (z1 : Int32) (G : HG), hX0_clashes_b102 j Λ a0 p1 p2 post (hX0_clashes_l24 j Λ a0 p1 p2 post n24) lx4 z0 z1 G → ∀ (H : Heap) (locs : List Loc), HI D jC G A0 s.heap H locs → ∀ (ls : Array Slot), lv_has ls 5 [(0, .ref a0), (1, .int p1), (2, .int p2), (4, .int lx4)] → W p l e (rhX0_clashes fr lo) s m args below meth c H locs 0 0 Q (F0 m 102 ls [.int z1, .int z0]) := by
        intro lx4 z0 z1 G hf H locs hI ls hl
        unfold hX0_clashes_b102 at hf
        refine lv_iadd hx hb dX0_clashes_102 ?_
        refine lv_istore_n (lv' := [(3, .int (z0 + z1)), (0, .ref a0), (1, .int p1), (2, .int p2), (4, .int lx4)]) hx hb dX0_clashes_103 rfl hl (by decide) rfl (fun ls hl => ?_)
        exact J104 (z0 + z1) lx4 G hf H locs hI ls (lv_sub hl [1, 2, 3, 0, 4] rfl)
      intro lx3 lx4 G hf H locs hI ls hl
      have hf : hX0_clashes_b24 j Λ a0 p1 p2 post (hX0_clashes_l24 j Λ a0 p1 p2 post n24) lx3 lx4 G := hf
      unfold hX0_clashes_b24 at hf
      refine lv_iload hx hb dX0_clashes_24 (lv_at hl 4 rfl) ?_
      refine lv_aload_n hx hb dX0_clashes_26 rfl (lv_at hl 0 rfl) ?_
      obtain ⟨_, _, hO, hf⟩ := hf
      refine h_ki X hI (h_runV (As := []) X hI (h_recv X hI hO (show jC.1[0]? = some (RX0, TX0, 20) from rfl)) (mhX0_states0 l Z D j Λ fr lo E a0 G _ hf H.size) (cwV 0 hts (lw_V q1945 q1947 qs41 q167 q1948) rfl rfl rfl (by decide +kernel) (by show fr + 1 + 1 ≤ fr + 4 ∧ 8 + (3 + 11) + (lo + 40) ≤ lo + 110; omega)) rfl hl.1 (Nat.le_of_ble_eq_true rfl) dX0_clashes_27 ⟨Nat.le_refl _, Nat.le_refl _⟩ rfl) (fun x8 G7 H locs hf hI => ?_)
      clear hO
      refine lv_icmp_ge (tgt := 110) hx hb dX0_clashes_30 (by decide) (fun c9 => ?_) (fun c9 => ?_)
      · have hf := hf.1 c9
        refine lv_iload_n hx hb dX0_clashes_110 rfl (lv_at hl 3 rfl) ?_
        exact hret hf hI dX0_clashes_111 (Nat.le_refl _) (Nat.le_refl _)
      · have hf := hf.2 c9
        refine lv_aload_n hx hb dX0_clashes_33 rfl (lv_at hl 0 rfl) ?_
        refine hr_gtQ X hI (rfl : jC.1[0]? = some (RX0, TX0, 20)) in_X0 11 (Nat.le_of_ble_eq_true rfl) hf q664 (fun _ h => h) dX0_clashes_34 (fun q10 hf => ?_)
        refine lv_iload hx hb dX0_clashes_37 (lv_at hl 4 rfl) ?_
        obtain ⟨a11, ea11, hf⟩ := hf
        revert hl hf
        subst ea11
        intro hl hf
        have hl : lv_has ls 5 [(0, .ref a0), (1, .int p1), (2, .int p2), (3, .int lx3), (4, .int lx4)] := hl
        refine hr_zld X hI 1 rfl hf dX0_clashes_39 (fun x12 hf => ?_)
        refine lv_if_eq (tgt := 104) hx hb dX0_clashes_40 (by decide) (fun c13 => ?_) (fun c13 => ?_)
        · have hf := hf.1 c13
          exact J104 lx3 lx4 G7 hf H locs hI ls (lv_sub hl [0, 1, 2, 3, 4] rfl)
        · have hf := hf.2 c13
          refine lv_aload_n hx hb dX0_clashes_43 rfl (lv_at hl 0 rfl) ?_
          refine lv_iload_n hx hb dX0_clashes_44 rfl (lv_at hl 1 rfl) ?_
          refine lv_iload hx hb dX0_clashes_45 (lv_at hl 4 rfl) ?_
          obtain ⟨_, _, hO, hf⟩ := hf
          refine h_ki X hI (h_runV (As := [.int p1, .int lx4]) X hI (h_recv X hI hO (show jC.1[0]? = some (RX0, TX0, 20) from rfl)) (mhX0_stepIn l Z D j Λ fr lo E a0 p1 lx4 G7 _ hf H.size) (cwV 2 hts (lw_V q2037 q2011 qs49 q167 q2012) rfl rfl rfl (by decide +kernel) (by show fr + 1 + 1 ≤ fr + 4 ∧ 8 + (4 + 11) + (lo + 40) ≤ lo + 110; omega)) rfl hl.1 (Nat.le_of_ble_eq_true rfl) dX0_clashes_47 ⟨Nat.le_refl _, Nat.le_refl _⟩ rfl) (fun x15 G14 H locs hf hI => ?_)
          clear hO
          refine lv_iconst (v := -1) hx hb dX0_clashes_50 (by decide) ?_
          refine lv_icmp_eq (tgt := 104) hx hb dX0_clashes_51 (by decide) (fun c16 => ?_) (fun c16 => ?_)
          · have hf := hf.1 c16
            exact J104 lx3 lx4 G14 hf H locs hI ls (lv_sub hl [0, 1, 2, 3, 4] rfl)
          · have hf := hf.2 c16
            refine lv_aload_n hx hb dX0_clashes_54 rfl (lv_at hl 0 rfl) ?_
            refine lv_iload_n hx hb dX0_clashes_55 rfl (lv_at hl 2 rfl) ?_
            refine lv_iload hx hb dX0_clashes_56 (lv_at hl 4 rfl) ?_
            obtain ⟨_, _, hO, hf⟩ := hf
            refine h_ki X hI (h_runV (As := [.int p2, .int lx4]) X hI (h_recv X hI hO (show jC.1[0]? = some (RX0, TX0, 20) from rfl)) (mhX0_stepIn l Z D j Λ fr lo E a0 p2 lx4 G14 _ hf H.size) (cwV 2 hts (lw_V q2037 q2011 qs49 q167 q2012) rfl rfl rfl (by decide +kernel) (by show fr + 1 + 1 ≤ fr + 4 ∧ 8 + (4 + 11) + (lo + 40) ≤ lo + 110; omega)) rfl hl.1 (Nat.le_of_ble_eq_true rfl) dX0_clashes_58 ⟨Nat.le_refl _, Nat.le_refl _⟩ rfl) (fun x18 G17 H locs hf hI => ?_)
            clear hO
            refine lv_iconst (v := -1) hx hb dX0_clashes_61 (by decide) ?_
            refine lv_icmp_ne (tgt := 68) hx hb dX0_clashes_62 (by decide) (fun c19 => ?_) (fun c19 => ?_)
            · have hf := hf.2 c19
              refine lv_iload_n hx hb dX0_clashes_68 rfl (lv_at hl 3 rfl) ?_
              refine lv_aload_n hx hb dX0_clashes_69 rfl (lv_at hl 0 rfl) ?_
              refine hr_gtQ X hI (rfl : jC.1[0]? = some (RX0, TX0, 20)) in_X0 11 (Nat.le_of_ble_eq_true rfl) hf q664 (fun _ h => h) dX0_clashes_70 (fun q20 hf => ?_)
              refine lv_aload_n hx hb dX0_clashes_73 rfl (lv_at hl 0 rfl) ?_
              refine lv_iload hx hb dX0_clashes_74 (lv_at hl 4 rfl) ?_
              refine lv_aload_n hx hb dX0_clashes_76 rfl (lv_at hl 0 rfl) ?_
              refine lv_iload_n hx hb dX0_clashes_77 rfl (lv_at hl 1 rfl) ?_
              refine lv_iload hx hb dX0_clashes_78 (lv_at hl 4 rfl) ?_
              obtain ⟨_, _, hO, hf⟩ := hf
              refine h_ki X hI (h_runV (As := [.int p1, .int lx4]) X hI (h_recv X hI hO (show jC.1[0]? = some (RX0, TX0, 20) from rfl)) (mhX0_stepIn l Z D j Λ fr lo E a0 p1 lx4 G17 _ hf H.size) (cwV 2 hts (lw_V q2037 q2011 qs49 q167 q2012) rfl rfl rfl (by decide +kernel) (by show fr + 1 + 1 ≤ fr + 4 ∧ 8 + (4 + 11) + (lo + 40) ≤ lo + 110; omega)) rfl hl.1 (by cases q20 <;> exact Nat.le_of_ble_eq_true rfl) dX0_clashes_80 ⟨Nat.le_refl _, Nat.le_refl _⟩ rfl) (fun x22 G21 H locs hf hI => ?_)
              clear hO
              refine lv_aload_n hx hb dX0_clashes_83 rfl (lv_at hl 0 rfl) ?_
              refine lv_iload_n hx hb dX0_clashes_84 rfl (lv_at hl 2 rfl) ?_
              refine lv_iload hx hb dX0_clashes_85 (lv_at hl 4 rfl) ?_
              obtain ⟨_, _, hO, hf⟩ := hf
              refine h_ki X hI (h_runV (As := [.int p2, .int lx4]) X hI (h_recv X hI hO (show jC.1[0]? = some (RX0, TX0, 20) from rfl)) (mhX0_stepIn l Z D j Λ fr lo E a0 p2 lx4 G21 _ hf H.size) (cwV 2 hts (lw_V q2037 q2011 qs49 q167 q2012) rfl rfl rfl (by decide +kernel) (by show fr + 1 + 1 ≤ fr + 4 ∧ 8 + (4 + 11) + (lo + 40) ≤ lo + 110; omega)) rfl hl.1 (by cases q20 <;> exact Nat.le_of_ble_eq_true rfl) dX0_clashes_87 ⟨Nat.le_refl _, Nat.le_refl _⟩ rfl) (fun x24 G23 H locs hf hI => ?_)
              clear hO
              obtain ⟨_, _, hO, hf⟩ := hf
              refine h_ki X hI (h_runV (As := [.int lx4, .int x22, .int x24]) X hI (h_recv X hI hO (show jC.1[0]? = some (RX0, TX0, 20) from rfl)) (mhX0_mergeOf l Z D j Λ fr lo E a0 lx4 x22 x24 G23 _ hf H.size) (cwV 3 hts (lw_V q2017 q2019 qs50 q167 q2020) rfl rfl rfl (by decide +kernel) (by show fr + 3 + 1 ≤ fr + 4 ∧ 8 + (6 + 11) + (lo + 85) ≤ lo + 110; omega)) rfl hl.1 (by cases q20 <;> exact Nat.le_of_ble_eq_true rfl) dX0_clashes_90 ⟨Nat.le_refl _, Nat.le_refl _⟩ rfl) (fun x26 G25 H locs hf hI => ?_)
              clear hO
              obtain ⟨a27, ea27, hf⟩ := hf
              revert hl hf
              subst ea27
              intro hl hf
              have hl : lv_has ls 5 [(0, .ref a0), (1, .int p1), (2, .int p2), (3, .int lx3), (4, .int lx4)] := hl
              refine hr_zld X hI 1 rfl hf dX0_clashes_93 (fun x28 hf => ?_)
              refine lv_if_eq (tgt := 101) hx hb dX0_clashes_94 (by decide) (fun c29 => ?_) (fun c29 => ?_)
              · have hf := hf.1 c29
                refine lv_iconst (v := 1) hx hb dX0_clashes_101 (by decide) ?_
                exact J102 lx4 lx3 (1 : Int32) G25 hf H locs hI ls (lv_sub hl [0, 1, 2, 4] rfl)
              · have hf := hf.2 c29
                refine lv_iconst (v := 0) hx hb dX0_clashes_97 (by decide) ?_
                refine lv_goto (tgt := 102) hx hb dX0_clashes_98 (by decide) ?_
                exact J102 lx4 lx3 (0 : Int32) G25 hf H locs hI ls (lv_sub hl [0, 1, 2, 4] rfl)
            · have hf := hf.1 c19
              refine lv_goto (tgt := 104) hx hb dX0_clashes_65 (by decide) ?_
              exact J104 lx3 lx4 G17 hf H locs hI ls (lv_sub hl [0, 1, 2, 3, 4] rfl)
  have hl : lv_has ls 5 [(0, .ref a0), (1, .int p1), (2, .int p2)] := by exact hl
  unfold hX0_clashes at hf
  obtain ⟨H, eH⟩ : ∃ H, H = s.heap := ⟨_, rfl⟩
  obtain ⟨locs, eL⟩ : ∃ locs : List Loc, locs = [] := ⟨_, rfl⟩
  have hI : HI D jC G A0 s.heap H locs := by rw [eH, eL]; exact hI
  rw [← eL]
  suffices h : W p l e (rhX0_clashes fr lo) s m args below meth c H locs 0 0 Q (F0 m 0 ls []) by rw [eH] at h; exact h
  clear eH eL
  refine lv_aload_n hx hb dX0_clashes_0 rfl (lv_at hl 0 rfl) ?_
  refine lv_iload_n hx hb dX0_clashes_1 rfl (lv_at hl 1 rfl) ?_
  obtain ⟨_, _, hO, hf⟩ := hf
  refine h_ki X hI (h_runV (As := [.int p1]) X hI (h_recv X hI hO (show jC.1[0]? = some (RX0, TX0, 20) from rfl)) (mhX0_isOp l Z D j Λ fr lo E a0 p1 G _ hf H.size) (cwV 1 hts (lw_V q2047 q2049 qs51 q167 q2050) rfl rfl rfl (by decide +kernel) (by show fr + 2 + 1 ≤ fr + 4 ∧ 8 + (2 + 11) + (lo + 65) ≤ lo + 110; omega)) rfl hl.1 (Nat.le_of_ble_eq_true rfl) dX0_clashes_2 ⟨Nat.le_refl _, Nat.le_refl _⟩ rfl) (fun x2 G1 H locs hf hI => ?_)
  clear hO
  refine lv_if_eq (tgt := 16) hx hb dX0_clashes_5 (by decide) (fun c3 => ?_) (fun c3 => ?_)
  · have hf := hf.1 c3
    refine lv_bipush (v := -2) hx hb dX0_clashes_16 (by decide) ?_
    exact hret hf hI dX0_clashes_18 (Nat.le_refl _) (Nat.le_refl _)
  · have hf := hf.2 c3
    refine lv_aload_n hx hb dX0_clashes_8 rfl (lv_at hl 0 rfl) ?_
    refine lv_iload_n hx hb dX0_clashes_9 rfl (lv_at hl 2 rfl) ?_
    obtain ⟨_, _, hO, hf⟩ := hf
    refine h_ki X hI (h_runV (As := [.int p2]) X hI (h_recv X hI hO (show jC.1[0]? = some (RX0, TX0, 20) from rfl)) (mhX0_isOp l Z D j Λ fr lo E a0 p2 G1 _ hf H.size) (cwV 1 hts (lw_V q2047 q2049 qs51 q167 q2050) rfl rfl rfl (by decide +kernel) (by show fr + 2 + 1 ≤ fr + 4 ∧ 8 + (2 + 11) + (lo + 65) ≤ lo + 110; omega)) rfl hl.1 (Nat.le_of_ble_eq_true rfl) dX0_clashes_10 ⟨Nat.le_refl _, Nat.le_refl _⟩ rfl) (fun x5 G4 H locs hf hI => ?_)
    clear hO
    refine lv_if_ne (tgt := 19) hx hb dX0_clashes_13 (by decide) (fun c6 => ?_) (fun c6 => ?_)
    · have hf := hf.2 c6
      refine lv_iconst (v := 0) hx hb dX0_clashes_19 (by decide) ?_
      refine lv_istore_n (lv' := [(3, .int 0), (0, .ref a0), (1, .int p1), (2, .int p2)]) hx hb dX0_clashes_20 rfl hl (by decide) rfl (fun ls hl => ?_)
      refine lv_iconst (v := 0) hx hb dX0_clashes_21 (by decide) ?_
      refine lv_istore (lv' := [(4, .int 0), (3, .int 0), (0, .ref a0), (1, .int p1), (2, .int p2)]) hx hb dX0_clashes_22 hl (by decide) rfl (fun ls hl => ?_)
      obtain ⟨n, hf⟩ := hf
      exact L24 n (0 : Int32) (0 : Int32) G4 hf H locs hI ls (lv_sub hl [2, 3, 4, 1, 0] rfl)
    · have hf := hf.1 c6
      refine lv_bipush (v := -2) hx hb dX0_clashes_16 (by decide) ?_
      exact hret hf hI dX0_clashes_18 (Nat.le_refl _) (Nat.le_refl _)
/-! MergeJudge.nearest(I)I -/
def hX0_nearest_b107 (j : JX) (Λ : JLam) (a0 : Nat) (p1 : Int32) (post : Int32 → HG → Prop) (K21 : Int32 → Int32 → Int32 → HG → Prop) (lx2 : Int32) (lx3 : Int32) (lx4 : Int32) (G : HG) : Prop :=
  K21 lx2 lx3 (lx4 + 1) G
def hX0_nearest_b73 (j : JX) (Λ : JLam) (a0 : Nat) (p1 : Int32) (post : Int32 → HG → Prop) (K21 : Int32 → Int32 → Int32 → HG → Prop) (K36 : Int32 → Int32 → Int32 → Int32 → Int32 → HG → Prop) (lx2 : Int32) (lx3 : Int32) (lx4 : Int32) (lx6 : Int32) (z0 : Int32) (z1 : Int32) (G : HG) : Prop :=
  K36 lx2 lx3 lx4 (z0 + z1) (lx6 + 1) G
def hX0_nearest_b36 (j : JX) (Λ : JLam) (a0 : Nat) (p1 : Int32) (post : Int32 → HG → Prop) (K21 : Int32 → Int32 → Int32 → HG → Prop) (K36 : Int32 → Int32 → Int32 → Int32 → Int32 → HG → Prop) (lx2 : Int32) (lx3 : Int32) (lx4 : Int32) (lx5 : Int32) (lx6 : Int32) (G : HG) : Prop :=
  gtQ G a0 0 1 fun q7 => nnq q7 fun a8 => gtI G a8 2 7 fun x9 => (x9 ≤ lx6 → (gtQ G a0 0 11 fun q11 => nnq q11 fun a12 => ldI G a12 (j.1 1) lx4 fun x13 => (x13 = 0 → (hX0_nearest_b107 j Λ a0 p1 post K21 lx2 lx3 lx4 G)) ∧ (¬ x13 = 0 → ((lx5 < lx3 → (hX0_nearest_b107 j Λ a0 p1 post K21 lx4 lx5 lx4 G)) ∧ (¬ lx5 < lx3 → (hX0_nearest_b107 j Λ a0 p1 post K21 lx2 lx3 lx4 G)))))) ∧ (¬ x9 ≤ lx6 → (isO G a0 0 (hX0_valueOf j Λ a0 lx4 lx6 G fun x17 G16 => isO G16 a0 0 (hX0_valueOf j Λ a0 p1 lx6 G16 fun x19 G18 => (x17 = x19 → (hX0_nearest_b73 j Λ a0 p1 post K21 K36 lx2 lx3 lx4 lx6 lx5 (0 : Int32) G18)) ∧ (¬ x17 = x19 → (hX0_nearest_b73 j Λ a0 p1 post K21 K36 lx2 lx3 lx4 lx6 lx5 (1 : Int32) G18))))))
def hX0_nearest_l36 (j : JX) (Λ : JLam) (a0 : Nat) (p1 : Int32) (post : Int32 → HG → Prop) (K21 : Int32 → Int32 → Int32 → HG → Prop) : Nat → Int32 → Int32 → Int32 → Int32 → Int32 → HG → Prop
  | 0 => fun _ _ _ _ _ _ => False
  | n + 1 => fun lx2 lx3 lx4 lx5 lx6 G => hX0_nearest_b36 j Λ a0 p1 post K21 (hX0_nearest_l36 j Λ a0 p1 post K21 n) lx2 lx3 lx4 lx5 lx6 G
def hX0_nearest_b21 (j : JX) (Λ : JLam) (a0 : Nat) (p1 : Int32) (post : Int32 → HG → Prop) (K21 : Int32 → Int32 → Int32 → HG → Prop) (lx2 : Int32) (lx3 : Int32) (lx4 : Int32) (G : HG) : Prop :=
  isO G a0 0 (hX0_states0 j Λ a0 G fun x5 G4 => (x5 ≤ lx4 → (post lx2 G4)) ∧ (¬ x5 ≤ lx4 → (∃ n, hX0_nearest_l36 j Λ a0 p1 post K21 n lx2 lx3 lx4 (0 : Int32) (0 : Int32) G4)))
def hX0_nearest_l21 (j : JX) (Λ : JLam) (a0 : Nat) (p1 : Int32) (post : Int32 → HG → Prop) : Nat → Int32 → Int32 → Int32 → HG → Prop
  | 0 => fun _ _ _ _ => False
  | n + 1 => fun lx2 lx3 lx4 G => hX0_nearest_b21 j Λ a0 p1 post (hX0_nearest_l21 j Λ a0 p1 post n) lx2 lx3 lx4 G
def hX0_nearest (j : JX) (Λ : JLam) (a0 : Nat) (p1 : Int32) (G : HG) (post : Int32 → HG → Prop) : Prop :=
  isO G a0 0 (hX0_isState j Λ a0 p1.toInt64 G fun x2 G1 => (x2 = 0 → (post ((-2) : Int32) G1)) ∧ (¬ x2 = 0 → (∃ n, hX0_nearest_l21 j Λ a0 p1 post n ((-1) : Int32) (10000000 : Int32) (0 : Int32) G1)))
abbrev rhX0_nearest (fr lo : Nat) : Room := { frames := fr + 3, cells := 0, slots := 0, locals := lo + 87 }
theorem mhX0_nearest (l : Launch) (Z : (Nat → Prop) → State → Heap → Prop) (D : va_G) (j : JX) (Λ : JLam) (fr lo : Nat) (E : JE l Z D j Λ fr lo) (a0 : Nat) (p1 : Int32) (G : HG) (post : Int32 → HG → Prop) (hf : hX0_nearest j Λ a0 p1 G post) : HMi l yX0_nearest (ws_ yX0_nearest cX0_nearest 7 (some .int)) (rhX0_nearest fr lo) D jC (jty j.1) Z G [.ref a0, .int p1] post 0 0 := by
  refine h_openi E.1 (by decide) (by exact Nat.le_of_ble_eq_true rfl) (fun p e s m args below meth c ls A0 Q X hI hnd hnm hl hret => ?_)
  have X : XC p s m args meth c cX0_nearest 7 RX0 D jC (jty j.1) A0 Z := X
  have hx := X.1
  have hb := X.2.1
  have hown := X.2.2.2.1
  have hts := X.2.2.2.2.1
  have L21 : ∀ (n : Nat) (lx2 : Int32) (lx3 : Int32) (lx4 : Int32) (G : HG), hX0_nearest_l21 j Λ a0 p1 post n lx2 lx3 lx4 G → ∀ (H : Heap) (locs : List Loc), HI D jC G A0 s.heap H locs → ∀ (ls : Array Slot), lv_has ls 7 [(0, .ref a0), (1, .int p1), (2, .int lx2), (3, .int lx3), (4, .int lx4)] → W p l e (rhX0_nearest fr lo) s m args below meth c H locs 0 0 Q (F0 m 21 ls []) := by
    intro n21
    induction n21 with
    | zero => intro lx2 lx3 lx4 G hf; exact hf.elim
    | succ n21 ih21 =>
      have J107 : ∀ (lx2 : Int32) (lx3 : Int32) (lx4 : Int32) (G : HG), hX0_nearest_b107 j Λ a0 p1 post (hX0_nearest_l21 j Λ a0 p1 post n21) lx2 lx3 lx4 G → ∀ (H : Heap) (locs : List Loc), HI D jC G A0 s.heap H locs → ∀ (ls : Array Slot), lv_has ls 7 [(0, .ref a0), (1, .int p1), (2, .int lx2), (3, .int lx3), (4, .int lx4)] → W p l e (rhX0_nearest fr lo) s m args below meth c H locs 0 0 Q (F0 m 107 ls []) := by
        intro lx2 lx3 lx4 G hf H locs hI ls hl
        unfold hX0_nearest_b107 at hf
        refine lv_iinc (v := lx4 + 1) (lv' := [(4, .int (lx4 + 1)), (0, .ref a0), (1, .int p1), (2, .int lx2), (3, .int lx3)]) hx hb dX0_nearest_107 hl (k := 4) rfl rfl (by decide) rfl (fun ls hl => ?_)
        refine lv_goto (tgt := 21) hx hb dX0_nearest_110 (by decide) ?_
        exact ih21 lx2 lx3 (lx4 + 1) G hf H locs hI ls (lv_sub hl [1, 2, 3, 4, 0] rfl)
      have L36 : ∀ (n : Nat) (lx2 : Int32) (lx3 : Int32) (lx4 : Int32) (lx5 : Int32) (lx6 : Int32) (G : HG), hX0_nearest_l36 j Λ a0 p1 post (hX0_nearest_l21 j Λ a0 p1 post n21) n lx2 lx3 lx4 lx5 lx6 G → ∀ (H : Heap) (locs : List Loc), HI D jC G A0 s.heap H locs → ∀ (ls : Array Slot), lv_has ls 7 [(0, .ref a0), (1, .int p1), (2, .int lx2), (3, .int lx3), (4, .int lx4), (5, .int lx5), (6, .int lx6)] → W p l e (rhX0_nearest fr lo) s m args below meth c H locs 0 0 Q (F0 m 36 ls []) := by
        intro n36
        induction n36 with
        | zero => intro lx2 lx3 lx4 lx5 lx6 G hf; exact hf.elim
        | succ n36 ih36 =>
          have J73 : ∀ (lx2 : Int32) (lx3 : Int32) (lx4 : Int32) (lx6 : Int32) (z0 : Int32) (z1 : Int32) (G : HG), hX0_nearest_b73 j Λ a0 p1 post (hX0_nearest_l21 j Λ a0 p1 post n21) (hX0_nearest_l36 j Λ a0 p1 post (hX0_nearest_l21 j Λ a0 p1 post n21) n36) lx2 lx3 lx4 lx6 z0 z1 G → ∀ (H : Heap) (locs : List Loc), HI D jC G A0 s.heap H locs → ∀ (ls : Array Slot), lv_has ls 7 [(0, .ref a0), (1, .int p1), (2, .int lx2), (3, .int lx3), (4, .int lx4), (6, .int lx6)] → W p l e (rhX0_nearest fr lo) s m args below meth c H locs 0 0 Q (F0 m 73 ls [.int z1, .int z0]) := by
            intro lx2 lx3 lx4 lx6 z0 z1 G hf H locs hI ls hl
            unfold hX0_nearest_b73 at hf
            refine lv_iadd hx hb dX0_nearest_73 ?_
            refine lv_istore (lv' := [(5, .int (z0 + z1)), (0, .ref a0), (1, .int p1), (2, .int lx2), (3, .int lx3), (4, .int lx4), (6, .int lx6)]) hx hb dX0_nearest_74 hl (by decide) rfl (fun ls hl => ?_)
            refine lv_iinc (v := lx6 + 1) (lv' := [(6, .int (lx6 + 1)), (5, .int (z0 + z1)), (0, .ref a0), (1, .int p1), (2, .int lx2), (3, .int lx3), (4, .int lx4)]) hx hb dX0_nearest_76 hl (k := 6) rfl rfl (by decide) rfl (fun ls hl => ?_)
            refine lv_goto (tgt := 36) hx hb dX0_nearest_79 (by decide) ?_
            exact ih36 lx2 lx3 lx4 (z0 + z1) (lx6 + 1) G hf H locs hI ls (lv_sub hl [2, 3, 4, 5, 6, 1, 0] rfl)
          intro lx2 lx3 lx4 lx5 lx6 G hf H locs hI ls hl
          have hf : hX0_nearest_b36 j Λ a0 p1 post (hX0_nearest_l21 j Λ a0 p1 post n21) (hX0_nearest_l36 j Λ a0 p1 post (hX0_nearest_l21 j Λ a0 p1 post n21) n36) lx2 lx3 lx4 lx5 lx6 G := hf
          unfold hX0_nearest_b36 at hf
          refine lv_iload hx hb dX0_nearest_36 (lv_at hl 6 rfl) ?_
          refine lv_aload_n hx hb dX0_nearest_38 rfl (lv_at hl 0 rfl) ?_
          refine hr_gtQ X hI (rfl : jC.1[0]? = some (RX0, TX0, 20)) in_X0 1 (Nat.le_of_ble_eq_true rfl) hf q653 (fun _ h => h) dX0_nearest_39 (fun q7 hf => ?_)
          obtain ⟨a8, ea8, hf⟩ := hf
          revert hl hf
          subst ea8
          intro hl hf
          have hl : lv_has ls 7 [(0, .ref a0), (1, .int p1), (2, .int lx2), (3, .int lx3), (4, .int lx4), (5, .int lx5), (6, .int lx6)] := hl
          refine hr_gtIN X hI (rfl : jC.1[2]? = some (RX2, TX2, 11)) in_X2 7 (Nat.le_of_ble_eq_true rfl) hf (E.nw X q500 rfl) (fun _ h => h) dX0_nearest_42 (fun x9 hf => ?_)
          refine lv_icmp_ge (tgt := 82) hx hb dX0_nearest_45 (by decide) (fun c10 => ?_) (fun c10 => ?_)
          · have hf := hf.1 c10
            refine lv_aload_n hx hb dX0_nearest_82 rfl (lv_at hl 0 rfl) ?_
            refine hr_gtQ X hI (rfl : jC.1[0]? = some (RX0, TX0, 20)) in_X0 11 (Nat.le_of_ble_eq_true rfl) hf q664 (fun _ h => h) dX0_nearest_83 (fun q11 hf => ?_)
            refine lv_iload hx hb dX0_nearest_86 (lv_at hl 4 rfl) ?_
            obtain ⟨a12, ea12, hf⟩ := hf
            revert hl hf
            subst ea12
            intro hl hf
            have hl : lv_has ls 7 [(0, .ref a0), (1, .int p1), (2, .int lx2), (3, .int lx3), (4, .int lx4), (5, .int lx5), (6, .int lx6)] := hl
            refine hr_zld X hI 1 rfl hf dX0_nearest_88 (fun x13 hf => ?_)
            refine lv_if_eq (tgt := 107) hx hb dX0_nearest_89 (by decide) (fun c14 => ?_) (fun c14 => ?_)
            · have hf := hf.1 c14
              exact J107 lx2 lx3 lx4 G hf H locs hI ls (lv_sub hl [0, 1, 2, 3, 4] rfl)
            · have hf := hf.2 c14
              refine lv_iload hx hb dX0_nearest_92 (lv_at hl 5 rfl) ?_
              refine lv_iload_n hx hb dX0_nearest_94 rfl (lv_at hl 3 rfl) ?_
              refine lv_icmp_lt (tgt := 101) hx hb dX0_nearest_95 (by decide) (fun c15 => ?_) (fun c15 => ?_)
              · have hf := hf.1 c15
                refine lv_iload hx hb dX0_nearest_101 (lv_at hl 4 rfl) ?_
                refine lv_istore_n (lv' := [(2, .int lx4), (0, .ref a0), (1, .int p1), (3, .int lx3), (4, .int lx4), (5, .int lx5), (6, .int lx6)]) hx hb dX0_nearest_103 rfl hl (by decide) rfl (fun ls hl => ?_)
                refine lv_iload hx hb dX0_nearest_104 (lv_at hl 5 rfl) ?_
                refine lv_istore_n (lv' := [(3, .int lx5), (2, .int lx4), (0, .ref a0), (1, .int p1), (4, .int lx4), (5, .int lx5), (6, .int lx6)]) hx hb dX0_nearest_106 rfl hl (by decide) rfl (fun ls hl => ?_)
                exact J107 lx4 lx5 lx4 G hf H locs hI ls (lv_sub hl [2, 3, 1, 0, 4] rfl)
              · have hf := hf.2 c15
                refine lv_goto (tgt := 107) hx hb dX0_nearest_98 (by decide) ?_
                exact J107 lx2 lx3 lx4 G hf H locs hI ls (lv_sub hl [0, 1, 2, 3, 4] rfl)
          · have hf := hf.2 c10
            refine lv_iload hx hb dX0_nearest_48 (lv_at hl 5 rfl) ?_
            refine lv_aload_n hx hb dX0_nearest_50 rfl (lv_at hl 0 rfl) ?_
            refine lv_iload hx hb dX0_nearest_51 (lv_at hl 4 rfl) ?_
            refine lv_iload hx hb dX0_nearest_53 (lv_at hl 6 rfl) ?_
            obtain ⟨_, _, hO, hf⟩ := hf
            refine h_ki X hI (h_runV (As := [.int lx4, .int lx6]) X hI (h_recv X hI hO (show jC.1[0]? = some (RX0, TX0, 20) from rfl)) (mhX0_valueOf l Z D j Λ fr lo E a0 lx4 lx6 G _ hf H.size) (cwV 2 hts (lw_V q1879 q1881 qs27 q167 q1882) rfl rfl rfl (by decide +kernel) (by show fr + 2 + 1 ≤ fr + 3 ∧ 8 + (3 + 11) + (lo + 63) ≤ lo + 87; omega)) rfl hl.1 (Nat.le_of_ble_eq_true rfl) dX0_nearest_55 ⟨Nat.le_refl _, Nat.le_refl _⟩ rfl) (fun x17 G16 H locs hf hI => ?_)
            clear hO
            refine lv_aload_n hx hb dX0_nearest_58 rfl (lv_at hl 0 rfl) ?_
            refine lv_iload_n hx hb dX0_nearest_59 rfl (lv_at hl 1 rfl) ?_
            refine lv_iload hx hb dX0_nearest_60 (lv_at hl 6 rfl) ?_
            obtain ⟨_, _, hO, hf⟩ := hf
            refine h_ki X hI (h_runV (As := [.int p1, .int lx6]) X hI (h_recv X hI hO (show jC.1[0]? = some (RX0, TX0, 20) from rfl)) (mhX0_valueOf l Z D j Λ fr lo E a0 p1 lx6 G16 _ hf H.size) (cwV 2 hts (lw_V q1879 q1881 qs27 q167 q1882) rfl rfl rfl (by decide +kernel) (by show fr + 2 + 1 ≤ fr + 3 ∧ 8 + (3 + 11) + (lo + 63) ≤ lo + 87; omega)) rfl hl.1 (Nat.le_of_ble_eq_true rfl) dX0_nearest_62 ⟨Nat.le_refl _, Nat.le_refl _⟩ rfl) (fun x19 G18 H locs hf hI => ?_)
            clear hO
            refine lv_icmp_eq (tgt := 72) hx hb dX0_nearest_65 (by decide) (fun c20 => ?_) (fun c20 => ?_)
            · have hf := hf.1 c20
              refine lv_iconst (v := 0) hx hb dX0_nearest_72 (by decide) ?_
              exact J73 lx2 lx3 lx4 lx6 lx5 (0 : Int32) G18 hf H locs hI ls (lv_sub hl [0, 1, 2, 3, 4, 6] rfl)
            · have hf := hf.2 c20
              refine lv_iconst (v := 1) hx hb dX0_nearest_68 (by decide) ?_
              refine lv_goto (tgt := 73) hx hb dX0_nearest_69 (by decide) ?_
              exact J73 lx2 lx3 lx4 lx6 lx5 (1 : Int32) G18 hf H locs hI ls (lv_sub hl [0, 1, 2, 3, 4, 6] rfl)
      intro lx2 lx3 lx4 G hf H locs hI ls hl
      have hf : hX0_nearest_b21 j Λ a0 p1 post (hX0_nearest_l21 j Λ a0 p1 post n21) lx2 lx3 lx4 G := hf
      unfold hX0_nearest_b21 at hf
      refine lv_iload hx hb dX0_nearest_21 (lv_at hl 4 rfl) ?_
      refine lv_aload_n hx hb dX0_nearest_23 rfl (lv_at hl 0 rfl) ?_
      obtain ⟨_, _, hO, hf⟩ := hf
      refine h_ki X hI (h_runV (As := []) X hI (h_recv X hI hO (show jC.1[0]? = some (RX0, TX0, 20) from rfl)) (mhX0_states0 l Z D j Λ fr lo E a0 G _ hf H.size) (cwV 0 hts (lw_V q1945 q1947 qs41 q167 q1948) rfl rfl rfl (by decide +kernel) (by show fr + 1 + 1 ≤ fr + 3 ∧ 8 + (3 + 11) + (lo + 40) ≤ lo + 87; omega)) rfl hl.1 (Nat.le_of_ble_eq_true rfl) dX0_nearest_24 ⟨Nat.le_refl _, Nat.le_refl _⟩ rfl) (fun x5 G4 H locs hf hI => ?_)
      clear hO
      refine lv_icmp_ge (tgt := 113) hx hb dX0_nearest_27 (by decide) (fun c6 => ?_) (fun c6 => ?_)
      · have hf := hf.1 c6
        refine lv_iload_n hx hb dX0_nearest_113 rfl (lv_at hl 2 rfl) ?_
        exact hret hf hI dX0_nearest_114 (Nat.le_refl _) (Nat.le_refl _)
      · have hf := hf.2 c6
        refine lv_iconst (v := 0) hx hb dX0_nearest_30 (by decide) ?_
        refine lv_istore (lv' := [(5, .int 0), (0, .ref a0), (1, .int p1), (2, .int lx2), (3, .int lx3), (4, .int lx4)]) hx hb dX0_nearest_31 hl (by decide) rfl (fun ls hl => ?_)
        refine lv_iconst (v := 0) hx hb dX0_nearest_33 (by decide) ?_
        refine lv_istore (lv' := [(6, .int 0), (5, .int 0), (0, .ref a0), (1, .int p1), (2, .int lx2), (3, .int lx3), (4, .int lx4)]) hx hb dX0_nearest_34 hl (by decide) rfl (fun ls hl => ?_)
        obtain ⟨n, hf⟩ := hf
        exact L36 n lx2 lx3 lx4 (0 : Int32) (0 : Int32) G4 hf H locs hI ls (lv_sub hl [2, 3, 4, 5, 6, 1, 0] rfl)
  have hl : lv_has ls 7 [(0, .ref a0), (1, .int p1)] := by exact hl
  unfold hX0_nearest at hf
  obtain ⟨H, eH⟩ : ∃ H, H = s.heap := ⟨_, rfl⟩
  obtain ⟨locs, eL⟩ : ∃ locs : List Loc, locs = [] := ⟨_, rfl⟩
  have hI : HI D jC G A0 s.heap H locs := by rw [eH, eL]; exact hI
  rw [← eL]
  suffices h : W p l e (rhX0_nearest fr lo) s m args below meth c H locs 0 0 Q (F0 m 0 ls []) by rw [eH] at h; exact h
  clear eH eL
  refine lv_aload_n hx hb dX0_nearest_0 rfl (lv_at hl 0 rfl) ?_
  refine lv_iload_n hx hb dX0_nearest_1 rfl (lv_at hl 1 rfl) ?_
  refine lv_i2l hx hb dX0_nearest_2 rfl ?_
  obtain ⟨_, _, hO, hf⟩ := hf
  refine h_ki X hI (h_runV (As := [.long p1.toInt64]) X hI (h_recv X hI hO (show jC.1[0]? = some (RX0, TX0, 20) from rfl)) (mhX0_isState l Z D j Λ fr lo E a0 p1.toInt64 G _ hf H.size) (cwV 1 hts (lw_V q1968 q1970 qs43 q167 q1971) rfl rfl rfl (by decide +kernel) (by show fr + 2 + 1 ≤ fr + 3 ∧ 8 + (3 + 11) + (lo + 65) ≤ lo + 87; omega)) rfl hl.1 (Nat.le_of_ble_eq_true rfl) dX0_nearest_3 ⟨Nat.le_refl _, Nat.le_refl _⟩ rfl) (fun x2 G1 H locs hf hI => ?_)
  clear hO
  refine lv_if_ne (tgt := 12) hx hb dX0_nearest_6 (by decide) (fun c3 => ?_) (fun c3 => ?_)
  · have hf := hf.2 c3
    refine lv_iconst (v := -1) hx hb dX0_nearest_12 (by decide) ?_
    refine lv_istore_n (lv' := [(2, .int (-1)), (0, .ref a0), (1, .int p1)]) hx hb dX0_nearest_13 rfl hl (by decide) rfl (fun ls hl => ?_)
    refine lv_ldcw (v := 10000000) hx hb hown (hts _ q2055) dX0_nearest_14 ?_
    refine lv_istore_n (lv' := [(3, .int 10000000), (2, .int (-1)), (0, .ref a0), (1, .int p1)]) hx hb dX0_nearest_17 rfl hl (by decide) rfl (fun ls hl => ?_)
    refine lv_iconst (v := 0) hx hb dX0_nearest_18 (by decide) ?_
    refine lv_istore (lv' := [(4, .int 0), (3, .int 10000000), (2, .int (-1)), (0, .ref a0), (1, .int p1)]) hx hb dX0_nearest_19 hl (by decide) rfl (fun ls hl => ?_)
    obtain ⟨n, hf⟩ := hf
    exact L21 n ((-1) : Int32) (10000000 : Int32) (0 : Int32) G1 hf H locs hI ls (lv_sub hl [3, 4, 2, 1, 0] rfl)
  · have hf := hf.1 c3
    refine lv_bipush (v := -2) hx hb dX0_nearest_9 (by decide) ?_
    exact hret hf hI dX0_nearest_11 (Nat.le_refl _) (Nat.le_refl _)
/-! MergeJudge.brokenBy(LMergeJudge$Rule;)I -/
def hX0_brokenBy_b28 (j : JX) (Λ : JLam) (a0 : Nat) (p1 : Nat) (post : Int32 → HG → Prop) (K4 : Int32 → Int32 → HG → Prop) (lx3 : Int32) (z0 : Int32) (z1 : Int32) (G : HG) : Prop :=
  K4 (z0 + z1) (lx3 + 1) G
def hX0_brokenBy_b4 (j : JX) (Λ : JLam) (a0 : Nat) (p1 : Nat) (post : Int32 → HG → Prop) (K4 : Int32 → Int32 → HG → Prop) (lx2 : Int32) (lx3 : Int32) (G : HG) : Prop :=
  isO G a0 0 (hX0_states0 j Λ a0 G fun x2 G1 => (x2 ≤ lx3 → (post lx2 G1)) ∧ (¬ x2 ≤ lx3 → (Λ.2.1 p1 lx3 G1 fun x5 G4 => (x5 = 0 → (hX0_brokenBy_b28 j Λ a0 p1 post K4 lx3 lx2 (1 : Int32) G4)) ∧ (¬ x5 = 0 → (hX0_brokenBy_b28 j Λ a0 p1 post K4 lx3 lx2 (0 : Int32) G4)))))
def hX0_brokenBy_l4 (j : JX) (Λ : JLam) (a0 : Nat) (p1 : Nat) (post : Int32 → HG → Prop) : Nat → Int32 → Int32 → HG → Prop
  | 0 => fun _ _ _ => False
  | n + 1 => fun lx2 lx3 G => hX0_brokenBy_b4 j Λ a0 p1 post (hX0_brokenBy_l4 j Λ a0 p1 post n) lx2 lx3 G
def hX0_brokenBy (j : JX) (Λ : JLam) (a0 : Nat) (p1 : Nat) (G : HG) (post : Int32 → HG → Prop) : Prop :=
  ∃ n, hX0_brokenBy_l4 j Λ a0 p1 post n (0 : Int32) (0 : Int32) G
abbrev rhX0_brokenBy (fr lo : Nat) : Room := { frames := fr + 2, cells := 0, slots := 0, locals := lo + 62 }
theorem mhX0_brokenBy (l : Launch) (Z : (Nat → Prop) → State → Heap → Prop) (D : va_G) (j : JX) (Λ : JLam) (fr lo : Nat) (E : JE l Z D j Λ fr lo) (a0 : Nat) (p1 : Nat) (G : HG) (post : Int32 → HG → Prop) (hf : hX0_brokenBy j Λ a0 p1 G post) : HMi l yX0_brokenBy (ws_ yX0_brokenBy cX0_brokenBy 4 (some .int)) (rhX0_brokenBy fr lo) D jC (jty j.1) Z G [.ref a0, .ref p1] post 0 0 := by
  refine h_openi E.1 (by decide) (by exact Nat.le_of_ble_eq_true rfl) (fun p e s m args below meth c ls A0 Q X hI hnd hnm hl hret => ?_)
  have X : XC p s m args meth c cX0_brokenBy 4 RX0 D jC (jty j.1) A0 Z := X
  have hx := X.1
  have hb := X.2.1
  have hown := X.2.2.2.1
  have hts := X.2.2.2.2.1
  have L4 : ∀ (n : Nat) (lx2 : Int32) (lx3 : Int32) (G : HG), hX0_brokenBy_l4 j Λ a0 p1 post n lx2 lx3 G → ∀ (H : Heap) (locs : List Loc), HI D jC G A0 s.heap H locs → ∀ (ls : Array Slot), lv_has ls 4 [(0, .ref a0), (1, .ref p1), (2, .int lx2), (3, .int lx3)] → W p l e (rhX0_brokenBy fr lo) s m args below meth c H locs 0 0 Q (F0 m 4 ls []) := by
    intro n4
    induction n4 with
    | zero => intro lx2 lx3 G hf; exact hf.elim
    | succ n4 ih4 =>
      have J28 : ∀ (lx3 : Int32) (z0 : Int32) (z1 : Int32) (G : HG), hX0_brokenBy_b28 j Λ a0 p1 post (hX0_brokenBy_l4 j Λ a0 p1 post n4) lx3 z0 z1 G → ∀ (H : Heap) (locs : List Loc), HI D jC G A0 s.heap H locs → ∀ (ls : Array Slot), lv_has ls 4 [(0, .ref a0), (1, .ref p1), (3, .int lx3)] → W p l e (rhX0_brokenBy fr lo) s m args below meth c H locs 0 0 Q (F0 m 28 ls [.int z1, .int z0]) := by
        intro lx3 z0 z1 G hf H locs hI ls hl
        unfold hX0_brokenBy_b28 at hf
        refine lv_iadd hx hb dX0_brokenBy_28 ?_
        refine lv_istore_n (lv' := [(2, .int (z0 + z1)), (0, .ref a0), (1, .ref p1), (3, .int lx3)]) hx hb dX0_brokenBy_29 rfl hl (by decide) rfl (fun ls hl => ?_)
        refine lv_iinc (v := lx3 + 1) (lv' := [(3, .int (lx3 + 1)), (2, .int (z0 + z1)), (0, .ref a0), (1, .ref p1)]) hx hb dX0_brokenBy_30 hl (k := 3) rfl rfl (by decide) rfl (fun ls hl => ?_)
        refine lv_goto (tgt := 4) hx hb dX0_brokenBy_33 (by decide) ?_
        exact ih4 (z0 + z1) (lx3 + 1) G hf H locs hI ls (lv_sub hl [2, 3, 1, 0] rfl)
      intro lx2 lx3 G hf H locs hI ls hl
      have hf : hX0_brokenBy_b4 j Λ a0 p1 post (hX0_brokenBy_l4 j Λ a0 p1 post n4) lx2 lx3 G := hf
      unfold hX0_brokenBy_b4 at hf
      refine lv_iload_n hx hb dX0_brokenBy_4 rfl (lv_at hl 3 rfl) ?_
      refine lv_aload_n hx hb dX0_brokenBy_5 rfl (lv_at hl 0 rfl) ?_
      obtain ⟨_, _, hO, hf⟩ := hf
      refine h_ki X hI (h_runV (As := []) X hI (h_recv X hI hO (show jC.1[0]? = some (RX0, TX0, 20) from rfl)) (mhX0_states0 l Z D j Λ fr lo E a0 G _ hf H.size) (cwV 0 hts (lw_V q1945 q1947 qs41 q167 q1948) rfl rfl rfl (by decide +kernel) (by show fr + 1 + 1 ≤ fr + 2 ∧ 8 + (3 + 11) + (lo + 40) ≤ lo + 62; omega)) rfl hl.1 (Nat.le_of_ble_eq_true rfl) dX0_brokenBy_6 ⟨Nat.le_refl _, Nat.le_refl _⟩ rfl) (fun x2 G1 H locs hf hI => ?_)
      clear hO
      refine lv_icmp_ge (tgt := 36) hx hb dX0_brokenBy_9 (by decide) (fun c3 => ?_) (fun c3 => ?_)
      · have hf := hf.1 c3
        refine lv_iload_n hx hb dX0_brokenBy_36 rfl (lv_at hl 2 rfl) ?_
        exact hret hf hI dX0_brokenBy_37 (Nat.le_refl _) (Nat.le_refl _)
      · have hf := hf.2 c3
        refine lv_iload_n hx hb dX0_brokenBy_12 rfl (lv_at hl 2 rfl) ?_
        refine lv_aload_n hx hb dX0_brokenBy_13 rfl (lv_at hl 1 rfl) ?_
        refine lv_iload_n hx hb dX0_brokenBy_14 rfl (lv_at hl 3 rfl) ?_
        refine hr_rule E X hI hf q1957 hl.1 (Nat.le_of_ble_eq_true rfl) ⟨Nat.le_add_right _ _, Nat.le_add_right _ _⟩ ⟨Nat.le_refl _, Nat.le_refl _⟩ dX0_brokenBy_15 (fun x5 G4 H locs hf hI => ?_)
        refine lv_if_eq (tgt := 27) hx hb dX0_brokenBy_20 (by decide) (fun c6 => ?_) (fun c6 => ?_)
        · have hf := hf.1 c6
          refine lv_iconst (v := 1) hx hb dX0_brokenBy_27 (by decide) ?_
          exact J28 lx3 lx2 (1 : Int32) G4 hf H locs hI ls (lv_sub hl [0, 1, 3] rfl)
        · have hf := hf.2 c6
          refine lv_iconst (v := 0) hx hb dX0_brokenBy_23 (by decide) ?_
          refine lv_goto (tgt := 28) hx hb dX0_brokenBy_24 (by decide) ?_
          exact J28 lx3 lx2 (0 : Int32) G4 hf H locs hI ls (lv_sub hl [0, 1, 3] rfl)
  have hl : lv_has ls 4 [(0, .ref a0), (1, .ref p1)] := by exact hl
  unfold hX0_brokenBy at hf
  obtain ⟨H, eH⟩ : ∃ H, H = s.heap := ⟨_, rfl⟩
  obtain ⟨locs, eL⟩ : ∃ locs : List Loc, locs = [] := ⟨_, rfl⟩
  have hI : HI D jC G A0 s.heap H locs := by rw [eH, eL]; exact hI
  rw [← eL]
  suffices h : W p l e (rhX0_brokenBy fr lo) s m args below meth c H locs 0 0 Q (F0 m 0 ls []) by rw [eH] at h; exact h
  clear eH eL
  refine lv_iconst (v := 0) hx hb dX0_brokenBy_0 (by decide) ?_
  refine lv_istore_n (lv' := [(2, .int 0), (0, .ref a0), (1, .ref p1)]) hx hb dX0_brokenBy_1 rfl hl (by decide) rfl (fun ls hl => ?_)
  refine lv_iconst (v := 0) hx hb dX0_brokenBy_2 (by decide) ?_
  refine lv_istore_n (lv' := [(3, .int 0), (2, .int 0), (0, .ref a0), (1, .ref p1)]) hx hb dX0_brokenBy_3 rfl hl (by decide) rfl (fun ls hl => ?_)
  obtain ⟨n, hf⟩ := hf
  exact L4 n (0 : Int32) (0 : Int32) G hf H locs hI ls (lv_sub hl [2, 3, 1, 0] rfl)
/-! MergeJudge.hard()I -/
def hX0_hard_b69 (j : JX) (Λ : JLam) (a0 : Nat) (post : Int32 → HG → Prop) (K17 : Int32 → Int32 → HG → Prop) (lx1 : Int32) (lx2 : Int32) (G : HG) : Prop :=
  K17 lx1 (lx2 + 1) G
def hX0_hard_b67 (j : JX) (Λ : JLam) (a0 : Nat) (post : Int32 → HG → Prop) (K17 : Int32 → Int32 → HG → Prop) (lx2 : Int32) (G : HG) : Prop :=
  hX0_hard_b69 j Λ a0 post K17 lx2 lx2 G
def hX0_hard_b17 (j : JX) (Λ : JLam) (a0 : Nat) (post : Int32 → HG → Prop) (K17 : Int32 → Int32 → HG → Prop) (lx1 : Int32) (lx2 : Int32) (G : HG) : Prop :=
  gtQ G a0 0 1 fun q6 => nnq q6 fun a7 => gtQ G a7 2 0 fun q8 => nnq q8 fun a9 => isO G a9 15 (hJ2_size j Λ a9 G fun x11 G10 => (x11 ≤ lx2 → (post lx1 G10)) ∧ (¬ x11 ≤ lx2 → ((lx1 = ((-1) : Int32) → (hX0_hard_b67 j Λ a0 post K17 lx2 G10)) ∧ (¬ lx1 = ((-1) : Int32) → (gtQ G10 a0 0 9 fun q14 => nnq q14 fun a15 => ldQ (jty j.1) G10 a15 lx2 fun q16 => nnq q16 fun a17 => gtQ G10 a17 11 0 fun q18 => nnq q18 fun a19 => isO G10 a0 0 (hX0_brokenBy j Λ a0 a19 G10 fun x21 G20 => gtQ G20 a0 0 9 fun q22 => nnq q22 fun a23 => ldQ (jty j.1) G20 a23 lx1 fun q24 => nnq q24 fun a25 => gtQ G20 a25 11 0 fun q26 => nnq q26 fun a27 => isO G20 a0 0 (hX0_brokenBy j Λ a0 a27 G20 fun x29 G28 => (x21 ≤ x29 → (hX0_hard_b69 j Λ a0 post K17 lx1 lx2 G28)) ∧ (¬ x21 ≤ x29 → (hX0_hard_b67 j Λ a0 post K17 lx2 G28)))))))))
def hX0_hard_l17 (j : JX) (Λ : JLam) (a0 : Nat) (post : Int32 → HG → Prop) : Nat → Int32 → Int32 → HG → Prop
  | 0 => fun _ _ _ => False
  | n + 1 => fun lx1 lx2 G => hX0_hard_b17 j Λ a0 post (hX0_hard_l17 j Λ a0 post n) lx1 lx2 G
def hX0_hard (j : JX) (Λ : JLam) (a0 : Nat) (G : HG) (post : Int32 → HG → Prop) : Prop :=
  gtQ G a0 0 1 fun q1 => nnq q1 fun a2 => isO G a2 2 (hX2_is j Λ a2 G fun x4 G3 => (x4 = 0 → (post ((-2) : Int32) G3)) ∧ (¬ x4 = 0 → (∃ n, hX0_hard_l17 j Λ a0 post n ((-1) : Int32) (0 : Int32) G3)))
abbrev rhX0_hard (fr lo : Nat) : Room := { frames := fr + 3, cells := 0, slots := 0, locals := lo + 85 }
theorem mhX0_hard (l : Launch) (Z : (Nat → Prop) → State → Heap → Prop) (D : va_G) (j : JX) (Λ : JLam) (fr lo : Nat) (E : JE l Z D j Λ fr lo) (a0 : Nat) (G : HG) (post : Int32 → HG → Prop) (hf : hX0_hard j Λ a0 G post) : HMi l yX0_hard (ws_ yX0_hard cX0_hard 3 (some .int)) (rhX0_hard fr lo) D jC (jty j.1) Z G [.ref a0] post 0 0 := by
  refine h_openi E.1 (by decide) (by exact Nat.le_of_ble_eq_true rfl) (fun p e s m args below meth c ls A0 Q X hI hnd hnm hl hret => ?_)
  have X : XC p s m args meth c cX0_hard 3 RX0 D jC (jty j.1) A0 Z := X
  have hx := X.1
  have hb := X.2.1
  have hown := X.2.2.2.1
  have hts := X.2.2.2.2.1
  have L17 : ∀ (n : Nat) (lx1 : Int32) (lx2 : Int32) (G : HG), hX0_hard_l17 j Λ a0 post n lx1 lx2 G → ∀ (H : Heap) (locs : List Loc), HI D jC G A0 s.heap H locs → ∀ (ls : Array Slot), lv_has ls 3 [(0, .ref a0), (1, .int lx1), (2, .int lx2)] → W p l e (rhX0_hard fr lo) s m args below meth c H locs 0 0 Q (F0 m 17 ls []) := by
    intro n17
    induction n17 with
    | zero => intro lx1 lx2 G hf; exact hf.elim
    | succ n17 ih17 =>
      have J69 : ∀ (lx1 : Int32) (lx2 : Int32) (G : HG), hX0_hard_b69 j Λ a0 post (hX0_hard_l17 j Λ a0 post n17) lx1 lx2 G → ∀ (H : Heap) (locs : List Loc), HI D jC G A0 s.heap H locs → ∀ (ls : Array Slot), lv_has ls 3 [(0, .ref a0), (1, .int lx1), (2, .int lx2)] → W p l e (rhX0_hard fr lo) s m args below meth c H locs 0 0 Q (F0 m 69 ls []) := by
        intro lx1 lx2 G hf H locs hI ls hl
        unfold hX0_hard_b69 at hf
        refine lv_iinc (v := lx2 + 1) (lv' := [(2, .int (lx2 + 1)), (0, .ref a0), (1, .int lx1)]) hx hb dX0_hard_69 hl (k := 2) rfl rfl (by decide) rfl (fun ls hl => ?_)
        refine lv_goto (tgt := 17) hx hb dX0_hard_72 (by decide) ?_
        exact ih17 lx1 (lx2 + 1) G hf H locs hI ls (lv_sub hl [1, 2, 0] rfl)
      have J67 : ∀ (lx2 : Int32) (G : HG), hX0_hard_b67 j Λ a0 post (hX0_hard_l17 j Λ a0 post n17) lx2 G → ∀ (H : Heap) (locs : List Loc), HI D jC G A0 s.heap H locs → ∀ (ls : Array Slot), lv_has ls 3 [(0, .ref a0), (2, .int lx2)] → W p l e (rhX0_hard fr lo) s m args below meth c H locs 0 0 Q (F0 m 67 ls []) := by
        intro lx2 G hf H locs hI ls hl
        unfold hX0_hard_b67 at hf
        refine lv_iload_n hx hb dX0_hard_67 rfl (lv_at hl 1 rfl) ?_
        refine lv_istore_n (lv' := [(1, .int lx2), (0, .ref a0), (2, .int lx2)]) hx hb dX0_hard_68 rfl hl (by decide) rfl (fun ls hl => ?_)
        exact J69 lx2 lx2 G hf H locs hI ls (lv_sub hl [1, 0, 2] rfl)
      intro lx1 lx2 G hf H locs hI ls hl
      have hf : hX0_hard_b17 j Λ a0 post (hX0_hard_l17 j Λ a0 post n17) lx1 lx2 G := hf
      unfold hX0_hard_b17 at hf
      refine lv_iload_n hx hb dX0_hard_17 rfl (lv_at hl 2 rfl) ?_
      refine lv_aload_n hx hb dX0_hard_18 rfl (lv_at hl 0 rfl) ?_
      refine hr_gtQ X hI (rfl : jC.1[0]? = some (RX0, TX0, 20)) in_X0 1 (Nat.le_of_ble_eq_true rfl) hf q653 (fun _ h => h) dX0_hard_19 (fun q6 hf => ?_)
      obtain ⟨a7, ea7, hf⟩ := hf
      revert hl hf
      subst ea7
      intro hl hf
      have hl : lv_has ls 3 [(0, .ref a0), (1, .int lx1), (2, .int lx2)] := hl
      refine hr_gtQN X hI (rfl : jC.1[2]? = some (RX2, TX2, 11)) in_X2 0 (Nat.le_of_ble_eq_true rfl) hf (E.nw X q478 rfl) (fun _ h => h) dX0_hard_22 (fun q8 hf => ?_)
      obtain ⟨a9, ea9, hf⟩ := hf
      revert hl hf
      subst ea9
      intro hl hf
      have hl : lv_has ls 3 [(0, .ref a0), (1, .int lx1), (2, .int lx2)] := hl
      obtain ⟨_, _, hO, hf⟩ := hf
      refine h_Fki X hI (h_runF (As := []) X hI (X.2.2.2.2.2.1.1 15 _ (show jC.1[15]? = some (RJ2, TJ2, 3) from rfl)).2 (h_recv X hI hO (show jC.1[15]? = some (RJ2, TJ2, 3) from rfl)) (mhJ2_size l Z D j Λ fr lo E a9 G _ hf H.size) (cwF 0 hts q1848 q1771 q1773 q172 q1775 ((E.w X).2.2.1 _ (List.mem_of_getElem? (show jFw[0]? = _ from rfl))) rfl rfl (by decide +kernel) (by show fr + 1 + 1 ≤ fr + 3 ∧ 8 + (1 + 11) + (lo + 40) ≤ lo + 85; omega)) rfl hl.1 (Nat.le_of_ble_eq_true rfl) dX0_hard_25 ⟨Nat.le_refl _, Nat.le_refl _⟩ rfl) (fun x11 G10 H locs hf hI => ?_)
      clear hO
      refine lv_icmp_ge (tgt := 75) hx hb dX0_hard_30 (by decide) (fun c12 => ?_) (fun c12 => ?_)
      · have hf := hf.1 c12
        refine lv_iload_n hx hb dX0_hard_75 rfl (lv_at hl 1 rfl) ?_
        exact hret hf hI dX0_hard_76 (Nat.le_refl _) (Nat.le_refl _)
      · have hf := hf.2 c12
        refine lv_iload_n hx hb dX0_hard_33 rfl (lv_at hl 1 rfl) ?_
        refine lv_iconst (v := -1) hx hb dX0_hard_34 (by decide) ?_
        refine lv_icmp_eq (tgt := 67) hx hb dX0_hard_35 (by decide) (fun c13 => ?_) (fun c13 => ?_)
        · have hf := hf.1 c13
          exact J67 lx2 G10 hf H locs hI ls (lv_sub hl [0, 2] rfl)
        · have hf := hf.2 c13
          refine lv_aload_n hx hb dX0_hard_38 rfl (lv_at hl 0 rfl) ?_
          refine lv_aload_n hx hb dX0_hard_39 rfl (lv_at hl 0 rfl) ?_
          refine hr_gtQ X hI (rfl : jC.1[0]? = some (RX0, TX0, 20)) in_X0 9 (Nat.le_of_ble_eq_true rfl) hf q661 (fun _ h => h) dX0_hard_40 (fun q14 hf => ?_)
          refine lv_iload_n hx hb dX0_hard_43 rfl (lv_at hl 2 rfl) ?_
          obtain ⟨a15, ea15, hf⟩ := hf
          revert hl hf
          subst ea15
          intro hl hf
          have hl : lv_has ls 3 [(0, .ref a0), (1, .int lx1), (2, .int lx2)] := hl
          refine hr_qld X hI hf dX0_hard_44 (fun q16 hf => ?_)
          obtain ⟨a17, ea17, hf⟩ := hf
          revert hl hf
          subst ea17
          intro hl hf
          have hl : lv_has ls 3 [(0, .ref a0), (1, .int lx1), (2, .int lx2)] := hl
          refine hr_gtQN X hI (rfl : jC.1[11]? = some (RX11, TX11, 1)) in_X11 0 (Nat.le_of_ble_eq_true rfl) hf (E.nw X q1907 rfl) (fun _ h => h) dX0_hard_45 (fun q18 hf => ?_)
          obtain ⟨a19, ea19, hf⟩ := hf
          revert hl hf
          subst ea19
          intro hl hf
          have hl : lv_has ls 3 [(0, .ref a0), (1, .int lx1), (2, .int lx2)] := hl
          obtain ⟨_, _, hO, hf⟩ := hf
          refine h_ki X hI (h_runV (As := [.ref a19]) X hI (h_recv X hI hO (show jC.1[0]? = some (RX0, TX0, 20) from rfl)) (mhX0_brokenBy l Z D j Λ fr lo E a0 a19 G10 _ hf H.size) (cwV 1 hts (lw_V q2060 q2062 qs52 q167 q2063) rfl rfl rfl (by decide +kernel) (by show fr + 2 + 1 ≤ fr + 3 ∧ 8 + (4 + 11) + (lo + 62) ≤ lo + 85; omega)) rfl hl.1 (Nat.le_of_ble_eq_true rfl) dX0_hard_48 ⟨Nat.le_refl _, Nat.le_refl _⟩ rfl) (fun x21 G20 H locs hf hI => ?_)
          clear hO
          refine lv_aload_n hx hb dX0_hard_51 rfl (lv_at hl 0 rfl) ?_
          refine lv_aload_n hx hb dX0_hard_52 rfl (lv_at hl 0 rfl) ?_
          refine hr_gtQ X hI (rfl : jC.1[0]? = some (RX0, TX0, 20)) in_X0 9 (Nat.le_of_ble_eq_true rfl) hf q661 (fun _ h => h) dX0_hard_53 (fun q22 hf => ?_)
          refine lv_iload_n hx hb dX0_hard_56 rfl (lv_at hl 1 rfl) ?_
          obtain ⟨a23, ea23, hf⟩ := hf
          revert hl hf
          subst ea23
          intro hl hf
          have hl : lv_has ls 3 [(0, .ref a0), (1, .int lx1), (2, .int lx2)] := hl
          refine hr_qld X hI hf dX0_hard_57 (fun q24 hf => ?_)
          obtain ⟨a25, ea25, hf⟩ := hf
          revert hl hf
          subst ea25
          intro hl hf
          have hl : lv_has ls 3 [(0, .ref a0), (1, .int lx1), (2, .int lx2)] := hl
          refine hr_gtQN X hI (rfl : jC.1[11]? = some (RX11, TX11, 1)) in_X11 0 (Nat.le_of_ble_eq_true rfl) hf (E.nw X q1907 rfl) (fun _ h => h) dX0_hard_58 (fun q26 hf => ?_)
          obtain ⟨a27, ea27, hf⟩ := hf
          revert hl hf
          subst ea27
          intro hl hf
          have hl : lv_has ls 3 [(0, .ref a0), (1, .int lx1), (2, .int lx2)] := hl
          obtain ⟨_, _, hO, hf⟩ := hf
          refine h_ki X hI (h_runV (As := [.ref a27]) X hI (h_recv X hI hO (show jC.1[0]? = some (RX0, TX0, 20) from rfl)) (mhX0_brokenBy l Z D j Λ fr lo E a0 a27 G20 _ hf H.size) (cwV 1 hts (lw_V q2060 q2062 qs52 q167 q2063) rfl rfl rfl (by decide +kernel) (by show fr + 2 + 1 ≤ fr + 3 ∧ 8 + (4 + 11) + (lo + 62) ≤ lo + 85; omega)) rfl hl.1 (Nat.le_of_ble_eq_true rfl) dX0_hard_61 ⟨Nat.le_refl _, Nat.le_refl _⟩ rfl) (fun x29 G28 H locs hf hI => ?_)
          clear hO
          refine lv_icmp_le (tgt := 69) hx hb dX0_hard_64 (by decide) (fun c30 => ?_) (fun c30 => ?_)
          · have hf := hf.1 c30
            exact J69 lx1 lx2 G28 hf H locs hI ls (lv_sub hl [0, 1, 2] rfl)
          · have hf := hf.2 c30
            exact J67 lx2 G28 hf H locs hI ls (lv_sub hl [0, 2] rfl)
  have hl : lv_has ls 3 [(0, .ref a0)] := by exact hl
  unfold hX0_hard at hf
  obtain ⟨H, eH⟩ : ∃ H, H = s.heap := ⟨_, rfl⟩
  obtain ⟨locs, eL⟩ : ∃ locs : List Loc, locs = [] := ⟨_, rfl⟩
  have hI : HI D jC G A0 s.heap H locs := by rw [eH, eL]; exact hI
  rw [← eL]
  suffices h : W p l e (rhX0_hard fr lo) s m args below meth c H locs 0 0 Q (F0 m 0 ls []) by rw [eH] at h; exact h
  clear eH eL
  refine lv_aload_n hx hb dX0_hard_0 rfl (lv_at hl 0 rfl) ?_
  refine hr_gtQ X hI (rfl : jC.1[0]? = some (RX0, TX0, 20)) in_X0 1 (Nat.le_of_ble_eq_true rfl) hf q653 (fun _ h => h) dX0_hard_1 (fun q1 hf => ?_)
  obtain ⟨a2, ea2, hf⟩ := hf
  revert hl hf
  subst ea2
  intro hl hf
  have hl : lv_has ls 3 [(0, .ref a0)] := hl
  obtain ⟨_, _, hO, hf⟩ := hf
  refine h_ki X hI (h_runV (As := []) X hI (h_recv X hI hO (show jC.1[2]? = some (RX2, TX2, 11) from rfl)) (mhX2_is l Z D j Λ fr lo E a2 G _ hf H.size) (cwV 0 hts (lw_V q1839 q1840 q1841 q169 q1842) rfl rfl rfl (by decide +kernel) (by show fr + 1 + 1 ≤ fr + 3 ∧ 8 + (1 + 11) + (lo + 40) ≤ lo + 85; omega)) rfl hl.1 (Nat.le_of_ble_eq_true rfl) dX0_hard_4 ⟨Nat.le_refl _, Nat.le_refl _⟩ rfl) (fun x4 G3 H locs hf hI => ?_)
  clear hO
  refine lv_if_ne (tgt := 13) hx hb dX0_hard_7 (by decide) (fun c5 => ?_) (fun c5 => ?_)
  · have hf := hf.2 c5
    refine lv_iconst (v := -1) hx hb dX0_hard_13 (by decide) ?_
    refine lv_istore_n (lv' := [(1, .int (-1)), (0, .ref a0)]) hx hb dX0_hard_14 rfl hl (by decide) rfl (fun ls hl => ?_)
    refine lv_iconst (v := 0) hx hb dX0_hard_15 (by decide) ?_
    refine lv_istore_n (lv' := [(2, .int 0), (1, .int (-1)), (0, .ref a0)]) hx hb dX0_hard_16 rfl hl (by decide) rfl (fun ls hl => ?_)
    obtain ⟨n, hf⟩ := hf
    exact L17 n ((-1) : Int32) (0 : Int32) G3 hf H locs hI ls (lv_sub hl [2, 1, 0] rfl)
  · have hf := hf.1 c5
    refine lv_bipush (v := -2) hx hb dX0_hard_10 (by decide) ?_
    exact hret hf hI dX0_hard_12 (Nat.le_refl _) (Nat.le_refl _)
/-! MergeJudge.isRule(I)Z -/
def hX0_isRule (j : JX) (Λ : JLam) (a0 : Nat) (p1 : Int32) (G : HG) (post : Int32 → HG → Prop) : Prop :=
  gtQ G a0 0 1 fun q1 => nnq q1 fun a2 => gtQ G a2 2 0 fun q3 => nnq q3 fun a4 => isO G a4 15 (hJ2_size j Λ a4 G fun x6 G5 => hX0_in j Λ p1.toInt64 (0 : Int64) ((x6 - 1).toInt64) G5 fun x8 G7 => zB x8 ∧ post x8 G7)
abbrev rhX0_isRule (fr lo : Nat) : Room := { frames := fr + 2, cells := 0, slots := 0, locals := lo + 65 }
theorem mhX0_isRule (l : Launch) (Z : (Nat → Prop) → State → Heap → Prop) (D : va_G) (j : JX) (Λ : JLam) (fr lo : Nat) (E : JE l Z D j Λ fr lo) (a0 : Nat) (p1 : Int32) (G : HG) (post : Int32 → HG → Prop) (hf : hX0_isRule j Λ a0 p1 G post) : HMi l yX0_isRule (ws_ yX0_isRule cX0_isRule 2 (some .boolean)) (rhX0_isRule fr lo) D jC (jty j.1) Z G [.ref a0, .int p1] post 0 0 := by
  refine h_openz E.1 (by decide) (by exact Nat.le_of_ble_eq_true rfl) (fun p e s m args below meth c ls A0 Q X hI hnd hnm hl hret => ?_)
  have X : XC p s m args meth c cX0_isRule 2 RX0 D jC (jty j.1) A0 Z := X
  have hx := X.1
  have hb := X.2.1
  have hown := X.2.2.2.1
  have hts := X.2.2.2.2.1
  have hl : lv_has ls 2 [(0, .ref a0), (1, .int p1)] := by exact hl
  unfold hX0_isRule at hf
  obtain ⟨H, eH⟩ : ∃ H, H = s.heap := ⟨_, rfl⟩
  obtain ⟨locs, eL⟩ : ∃ locs : List Loc, locs = [] := ⟨_, rfl⟩
  have hI : HI D jC G A0 s.heap H locs := by rw [eH, eL]; exact hI
  rw [← eL]
  suffices h : W p l e (rhX0_isRule fr lo) s m args below meth c H locs 0 0 Q (F0 m 0 ls []) by rw [eH] at h; exact h
  clear eH eL
  refine lv_iload_n hx hb dX0_isRule_0 rfl (lv_at hl 1 rfl) ?_
  refine lv_i2l hx hb dX0_isRule_1 rfl ?_
  refine lv_lconst (v := 0) hx hb dX0_isRule_2 (by decide) ?_
  refine lv_aload_n hx hb dX0_isRule_3 rfl (lv_at hl 0 rfl) ?_
  refine hr_gtQ X hI (rfl : jC.1[0]? = some (RX0, TX0, 20)) in_X0 1 (Nat.le_of_ble_eq_true rfl) hf q653 (fun _ h => h) dX0_isRule_4 (fun q1 hf => ?_)
  obtain ⟨a2, ea2, hf⟩ := hf
  revert hl hf
  subst ea2
  intro hl hf
  have hl : lv_has ls 2 [(0, .ref a0), (1, .int p1)] := hl
  refine hr_gtQN X hI (rfl : jC.1[2]? = some (RX2, TX2, 11)) in_X2 0 (Nat.le_of_ble_eq_true rfl) hf (E.nw X q478 rfl) (fun _ h => h) dX0_isRule_7 (fun q3 hf => ?_)
  obtain ⟨a4, ea4, hf⟩ := hf
  revert hl hf
  subst ea4
  intro hl hf
  have hl : lv_has ls 2 [(0, .ref a0), (1, .int p1)] := hl
  obtain ⟨_, _, hO, hf⟩ := hf
  refine h_Fki X hI (h_runF (As := []) X hI (X.2.2.2.2.2.1.1 15 _ (show jC.1[15]? = some (RJ2, TJ2, 3) from rfl)).2 (h_recv X hI hO (show jC.1[15]? = some (RJ2, TJ2, 3) from rfl)) (mhJ2_size l Z D j Λ fr lo E a4 G _ hf H.size) (cwF 0 hts q1848 q1771 q1773 q172 q1775 ((E.w X).2.2.1 _ (List.mem_of_getElem? (show jFw[0]? = _ from rfl))) rfl rfl (by decide +kernel) (by show fr + 1 + 1 ≤ fr + 2 ∧ 8 + (1 + 11) + (lo + 40) ≤ lo + 65; omega)) rfl hl.1 (Nat.le_of_ble_eq_true rfl) dX0_isRule_10 ⟨Nat.le_refl _, Nat.le_refl _⟩ rfl) (fun x6 G5 H locs hf hI => ?_)
  clear hO
  refine lv_iconst (v := 1) hx hb dX0_isRule_15 (by decide) ?_
  refine lv_isub hx hb dX0_isRule_16 ?_
  refine lv_i2l hx hb dX0_isRule_17 rfl ?_
  refine h_ki X hI (h_runS (As := [.long p1.toInt64, .long 0, .long ((x6 - 1).toInt64)]) X hI (mhX0_in l Z D j Λ fr lo E p1.toInt64 (0 : Int64) ((x6 - 1).toInt64) G5 _ hf H.size) (va_cwS 3 hts (lw_S q226 q227 q167 q228) rfl rfl rfl (by decide +kernel) (by show fr + 1 + 1 ≤ fr + 2 ∧ 8 + (6 + 11) + (lo + 40) ≤ lo + 65; omega)) rfl hl.1 (Nat.le_of_ble_eq_true rfl) dX0_isRule_18 ⟨Nat.le_refl _, Nat.le_refl _⟩ rfl) (fun x8 G7 H locs hf hI => ?_)
  obtain ⟨hz, hf⟩ := hf
  exact hret (zB_n hz) hf hI dX0_isRule_21 (Nat.le_refl _) (Nat.le_refl _)
/-! MergeJudge.every()I -/
def hX0_every (j : JX) (Λ : JLam) (a0 : Nat) (G : HG) (post : Int32 → HG → Prop) : Prop :=
  gtQ G a0 0 1 fun q1 => nnq q1 fun a2 => gtQ G a2 2 0 fun q3 => nnq q3 fun a4 => isO G a4 15 (hJ2_size j Λ a4 G fun x6 G5 => post (((1 : Int32) <<< (x6 &&& 31)) - 1) G5)
abbrev rhX0_every (fr lo : Nat) : Room := { frames := fr + 2, cells := 0, slots := 0, locals := lo + 60 }
theorem mhX0_every (l : Launch) (Z : (Nat → Prop) → State → Heap → Prop) (D : va_G) (j : JX) (Λ : JLam) (fr lo : Nat) (E : JE l Z D j Λ fr lo) (a0 : Nat) (G : HG) (post : Int32 → HG → Prop) (hf : hX0_every j Λ a0 G post) : HMi l yX0_every (ws_ yX0_every cX0_every 1 (some .int)) (rhX0_every fr lo) D jC (jty j.1) Z G [.ref a0] post 0 0 := by
  refine h_openi E.1 (by decide) (by exact Nat.le_of_ble_eq_true rfl) (fun p e s m args below meth c ls A0 Q X hI hnd hnm hl hret => ?_)
  have X : XC p s m args meth c cX0_every 1 RX0 D jC (jty j.1) A0 Z := X
  have hx := X.1
  have hb := X.2.1
  have hown := X.2.2.2.1
  have hts := X.2.2.2.2.1
  have hl : lv_has ls 1 [(0, .ref a0)] := by exact hl
  unfold hX0_every at hf
  obtain ⟨H, eH⟩ : ∃ H, H = s.heap := ⟨_, rfl⟩
  obtain ⟨locs, eL⟩ : ∃ locs : List Loc, locs = [] := ⟨_, rfl⟩
  have hI : HI D jC G A0 s.heap H locs := by rw [eH, eL]; exact hI
  rw [← eL]
  suffices h : W p l e (rhX0_every fr lo) s m args below meth c H locs 0 0 Q (F0 m 0 ls []) by rw [eH] at h; exact h
  clear eH eL
  refine lv_iconst (v := 1) hx hb dX0_every_0 (by decide) ?_
  refine lv_aload_n hx hb dX0_every_1 rfl (lv_at hl 0 rfl) ?_
  refine hr_gtQ X hI (rfl : jC.1[0]? = some (RX0, TX0, 20)) in_X0 1 (Nat.le_of_ble_eq_true rfl) hf q653 (fun _ h => h) dX0_every_2 (fun q1 hf => ?_)
  obtain ⟨a2, ea2, hf⟩ := hf
  revert hl hf
  subst ea2
  intro hl hf
  have hl : lv_has ls 1 [(0, .ref a0)] := hl
  refine hr_gtQN X hI (rfl : jC.1[2]? = some (RX2, TX2, 11)) in_X2 0 (Nat.le_of_ble_eq_true rfl) hf (E.nw X q478 rfl) (fun _ h => h) dX0_every_5 (fun q3 hf => ?_)
  obtain ⟨a4, ea4, hf⟩ := hf
  revert hl hf
  subst ea4
  intro hl hf
  have hl : lv_has ls 1 [(0, .ref a0)] := hl
  obtain ⟨_, _, hO, hf⟩ := hf
  refine h_Fki X hI (h_runF (As := []) X hI (X.2.2.2.2.2.1.1 15 _ (show jC.1[15]? = some (RJ2, TJ2, 3) from rfl)).2 (h_recv X hI hO (show jC.1[15]? = some (RJ2, TJ2, 3) from rfl)) (mhJ2_size l Z D j Λ fr lo E a4 G _ hf H.size) (cwF 0 hts q1848 q1771 q1773 q172 q1775 ((E.w X).2.2.1 _ (List.mem_of_getElem? (show jFw[0]? = _ from rfl))) rfl rfl (by decide +kernel) (by show fr + 1 + 1 ≤ fr + 2 ∧ 8 + (1 + 11) + (lo + 40) ≤ lo + 60; omega)) rfl hl.1 (Nat.le_of_ble_eq_true rfl) dX0_every_8 ⟨Nat.le_refl _, Nat.le_refl _⟩ rfl) (fun x6 G5 H locs hf hI => ?_)
  clear hO
  refine lv_ishl hx hb dX0_every_13 ?_
  refine lv_iconst (v := 1) hx hb dX0_every_14 (by decide) ?_
  refine lv_isub hx hb dX0_every_15 ?_
  exact hret hf hI dX0_every_16 (Nat.le_refl _) (Nat.le_refl _)
/-! MergeJudge.under(ILMergeJudge$Answer;)I -/
def hX0_under (j : JX) (Λ : JLam) (a0 : Nat) (p1 : Int32) (p2 : Nat) (mc ms : Nat) (G : HG) (post : Int32 → HG → Prop) : Prop :=
  isO G a0 0 (hX0_every j Λ a0 G fun x2 G1 => gtQ G1 a0 0 1 fun q3 => nnq q3 fun a4 => gtI G1 a4 2 8 fun x5 => isO G1 a0 0 (hX0_counts j Λ a0 ((x2 &&& (p1 ^^^ (-1))) ||| x5) G1 fun G6 => ∃ m8 m9 : Nat, m8 ≤ mc ∧ m9 ≤ ms ∧ Λ.2.2.2.2.1 p2 m8 m9 G6 fun x10 G7 => gtQ G7 a0 0 1 fun q11 => nnq q11 fun a12 => gtI G7 a12 2 8 fun x13 => isO G7 a0 0 (hX0_counts j Λ a0 x13 G7 fun G14 => post x10 G14)))
abbrev rhX0_under (fr lo mc ms : Nat) : Room := { frames := fr + 4, cells := mc, slots := ms, locals := lo + 105 }
theorem mhX0_under (l : Launch) (Z : (Nat → Prop) → State → Heap → Prop) (D : va_G) (j : JX) (Λ : JLam) (fr lo : Nat) (E : JE l Z D j Λ fr lo) (a0 : Nat) (p1 : Int32) (p2 : Nat) (mc ms : Nat) (G : HG) (post : Int32 → HG → Prop) (hf : hX0_under j Λ a0 p1 p2 mc ms G post) : HMi l yX0_under (ws_ yX0_under cX0_under 4 (some .int)) (rhX0_under fr lo mc ms) D jC (jty j.1) Z G [.ref a0, .int p1, .ref p2] post mc ms := by
  obtain ⟨MC, eMC⟩ : ∃ MC, MC = mc := ⟨_, rfl⟩
  obtain ⟨MS, eMS⟩ : ∃ MS, MS = ms := ⟨_, rfl⟩
  suffices goal : HMi l yX0_under (ws_ yX0_under cX0_under 4 (some .int)) (rhX0_under fr lo MC MS) D jC (jty j.1) Z G [.ref a0, .int p1, .ref p2] post MC MS by rw [eMC, eMS] at goal; exact goal
  have hm0_ : 0 + mc ≤ MC ∧ 0 + ms ≤ MS := by omega
  clear eMC eMS
  refine h_openi E.1 (by decide) (by exact Nat.le_of_ble_eq_true rfl) (fun p e s m args below meth c ls A0 Q X hI hnd hnm hl hret => ?_)
  have X : XC p s m args meth c cX0_under 4 RX0 D jC (jty j.1) A0 Z := X
  have hx := X.1
  have hb := X.2.1
  have hown := X.2.2.2.1
  have hts := X.2.2.2.2.1
  have hl : lv_has ls 4 [(0, .ref a0), (1, .int p1), (2, .ref p2)] := by exact hl
  unfold hX0_under at hf
  obtain ⟨H, eH⟩ : ∃ H, H = s.heap := ⟨_, rfl⟩
  obtain ⟨locs, eL⟩ : ∃ locs : List Loc, locs = [] := ⟨_, rfl⟩
  have hI : HI D jC G A0 s.heap H locs := by rw [eH, eL]; exact hI
  rw [← eL]
  obtain ⟨cells, eC⟩ : ∃ n : Nat, n = 0 := ⟨_, rfl⟩
  obtain ⟨slots, eS⟩ : ∃ n : Nat, n = 0 := ⟨_, rfl⟩
  have hm : cells + mc ≤ MC ∧ slots + ms ≤ MS := by rw [eC, eS]; exact hm0_
  suffices h : W p l e (rhX0_under fr lo MC MS) s m args below meth c H locs cells slots Q (F0 m 0 ls []) by rw [eH, eC, eS] at h; exact h
  clear eH eL eC eS
  refine lv_aload_n hx hb dX0_under_0 rfl (lv_at hl 0 rfl) ?_
  refine lv_aload_n hx hb dX0_under_1 rfl (lv_at hl 0 rfl) ?_
  obtain ⟨_, _, hO, hf⟩ := hf
  refine h_ki X hI (h_runV (As := []) X hI (h_recv X hI hO (show jC.1[0]? = some (RX0, TX0, 20) from rfl)) (mhX0_every l Z D j Λ fr lo E a0 G _ hf H.size) (cwV 0 hts (lw_V q2072 q2074 qs54 q167 q2075) rfl rfl rfl (by decide +kernel) (by show fr + 2 + 1 ≤ fr + 4 ∧ 8 + (1 + 11) + (lo + 60) ≤ lo + 105; omega)) rfl hl.1 (Nat.le_of_ble_eq_true rfl) dX0_under_2 ⟨hm0 hm.1, hm0 hm.2⟩ rfl) (fun x2 G1 H locs hf hI => ?_)
  clear hO
  refine lv_iload_n hx hb dX0_under_5 rfl (lv_at hl 1 rfl) ?_
  refine lv_iconst (v := -1) hx hb dX0_under_6 (by decide) ?_
  refine lv_ixor hx hb dX0_under_7 ?_
  refine lv_iand hx hb dX0_under_8 ?_
  refine lv_aload_n hx hb dX0_under_9 rfl (lv_at hl 0 rfl) ?_
  refine hr_gtQ X hI (rfl : jC.1[0]? = some (RX0, TX0, 20)) in_X0 1 (Nat.le_of_ble_eq_true rfl) hf q653 (fun _ h => h) dX0_under_10 (fun q3 hf => ?_)
  obtain ⟨a4, ea4, hf⟩ := hf
  revert hl hf
  subst ea4
  intro hl hf
  have hl : lv_has ls 4 [(0, .ref a0), (1, .int p1), (2, .ref p2)] := hl
  refine hr_gtIN X hI (rfl : jC.1[2]? = some (RX2, TX2, 11)) in_X2 8 (Nat.le_of_ble_eq_true rfl) hf (E.nw X q502 rfl) (fun _ h => h) dX0_under_13 (fun x5 hf => ?_)
  refine lv_ior hx hb dX0_under_16 ?_
  obtain ⟨_, _, hO, hf⟩ := hf
  refine h_kv X hI (h_runV (As := [.int ((x2 &&& (p1 ^^^ (-1))) ||| x5)]) X hI (h_recv X hI hO (show jC.1[0]? = some (RX0, TX0, 20) from rfl)) (mhX0_counts l Z D j Λ fr lo E a0 ((x2 &&& (p1 ^^^ (-1))) ||| x5) G1 _ hf H.size) (cwV 1 hts (lw_V q1941 q1943 qs40 q167 q1944) rfl rfl rfl (by decide +kernel) (by show fr + 3 + 1 ≤ fr + 4 ∧ 8 + (3 + 11) + (lo + 83) ≤ lo + 105; omega)) rfl hl.1 (Nat.le_of_ble_eq_true rfl) dX0_under_17 ⟨hm0 hm.1, hm0 hm.2⟩ rfl) (fun G6 H locs hf hI => ?_)
  clear hO
  refine lv_aload_n hx hb dX0_under_20 rfl (lv_at hl 2 rfl) ?_
  obtain ⟨m8, m9, hb1, hb2, hf⟩ := hf
  refine hr_answer E X hI hf q2084 hl.1 (Nat.le_of_ble_eq_true rfl) ⟨Nat.le_add_right _ _, Nat.le_add_right _ _⟩ ⟨hmA hm.1 hb1, hmA hm.2 hb2⟩ dX0_under_21 (fun x10 G7 H locs hf hI => ?_)
  have hm := And.intro (hmB hm.1 hb1) (hmB hm.2 hb2)
  clear hb1 hb2
  refine lv_istore_n (lv' := [(3, .int x10), (0, .ref a0), (1, .int p1), (2, .ref p2)]) hx hb dX0_under_26 rfl hl (by decide) rfl (fun ls hl => ?_)
  refine lv_aload_n hx hb dX0_under_27 rfl (lv_at hl 1 rfl) ?_
  refine lv_aload_n hx hb dX0_under_28 rfl (lv_at hl 1 rfl) ?_
  refine hr_gtQ X hI (rfl : jC.1[0]? = some (RX0, TX0, 20)) in_X0 1 (Nat.le_of_ble_eq_true rfl) hf q653 (fun _ h => h) dX0_under_29 (fun q11 hf => ?_)
  obtain ⟨a12, ea12, hf⟩ := hf
  revert hl hf
  subst ea12
  intro hl hf
  have hl : lv_has ls 4 [(3, .int x10), (0, .ref a0), (1, .int p1), (2, .ref p2)] := hl
  refine hr_gtIN X hI (rfl : jC.1[2]? = some (RX2, TX2, 11)) in_X2 8 (Nat.le_of_ble_eq_true rfl) hf (E.nw X q502 rfl) (fun _ h => h) dX0_under_32 (fun x13 hf => ?_)
  obtain ⟨_, _, hO, hf⟩ := hf
  refine h_kv X hI (h_runV (As := [.int x13]) X hI (h_recv X hI hO (show jC.1[0]? = some (RX0, TX0, 20) from rfl)) (mhX0_counts l Z D j Λ fr lo E a0 x13 G7 _ hf H.size) (cwV 1 hts (lw_V q1941 q1943 qs40 q167 q1944) rfl rfl rfl (by decide +kernel) (by show fr + 3 + 1 ≤ fr + 4 ∧ 8 + (3 + 11) + (lo + 83) ≤ lo + 105; omega)) rfl hl.1 (Nat.le_of_ble_eq_true rfl) dX0_under_35 ⟨hm0 hm.1, hm0 hm.2⟩ rfl) (fun G14 H locs hf hI => ?_)
  clear hO
  refine lv_iload_n hx hb dX0_under_38 rfl (lv_at hl 0 rfl) ?_
  exact hret hf hI dX0_under_39 (hmC hm.1) (hmC hm.2)
/-! MergeJudge.validsNow()I -/
def hX0_validsNow_b27 (j : JX) (Λ : JLam) (a0 : Nat) (post : Int32 → HG → Prop) (K4 : Int32 → Int32 → HG → Prop) (lx2 : Int32) (z0 : Int32) (z1 : Int32) (G : HG) : Prop :=
  K4 (z0 + z1) (lx2 + 1) G
def hX0_validsNow_b4 (j : JX) (Λ : JLam) (a0 : Nat) (post : Int32 → HG → Prop) (K4 : Int32 → Int32 → HG → Prop) (lx1 : Int32) (lx2 : Int32) (G : HG) : Prop :=
  isO G a0 0 (hX0_states0 j Λ a0 G fun x2 G1 => (x2 ≤ lx2 → (post lx1 G1)) ∧ (¬ x2 ≤ lx2 → (gtQ G1 a0 0 11 fun q4 => nnq q4 fun a5 => ldI G1 a5 (j.1 1) lx2 fun x6 => (x6 = 0 → (hX0_validsNow_b27 j Λ a0 post K4 lx2 lx1 (0 : Int32) G1)) ∧ (¬ x6 = 0 → (hX0_validsNow_b27 j Λ a0 post K4 lx2 lx1 (1 : Int32) G1)))))
def hX0_validsNow_l4 (j : JX) (Λ : JLam) (a0 : Nat) (post : Int32 → HG → Prop) : Nat → Int32 → Int32 → HG → Prop
  | 0 => fun _ _ _ => False
  | n + 1 => fun lx1 lx2 G => hX0_validsNow_b4 j Λ a0 post (hX0_validsNow_l4 j Λ a0 post n) lx1 lx2 G
def hX0_validsNow (j : JX) (Λ : JLam) (a0 : Nat) (G : HG) (post : Int32 → HG → Prop) : Prop :=
  ∃ n, hX0_validsNow_l4 j Λ a0 post n (0 : Int32) (0 : Int32) G
abbrev rhX0_validsNow (fr lo : Nat) : Room := { frames := fr + 2, cells := 0, slots := 0, locals := lo + 62 }
theorem mhX0_validsNow (l : Launch) (Z : (Nat → Prop) → State → Heap → Prop) (D : va_G) (j : JX) (Λ : JLam) (fr lo : Nat) (E : JE l Z D j Λ fr lo) (a0 : Nat) (G : HG) (post : Int32 → HG → Prop) (hf : hX0_validsNow j Λ a0 G post) : HMi l yX0_validsNow (ws_ yX0_validsNow cX0_validsNow 3 (some .int)) (rhX0_validsNow fr lo) D jC (jty j.1) Z G [.ref a0] post 0 0 := by
  refine h_openi E.1 (by decide) (by exact Nat.le_of_ble_eq_true rfl) (fun p e s m args below meth c ls A0 Q X hI hnd hnm hl hret => ?_)
  have X : XC p s m args meth c cX0_validsNow 3 RX0 D jC (jty j.1) A0 Z := X
  have hx := X.1
  have hb := X.2.1
  have hown := X.2.2.2.1
  have hts := X.2.2.2.2.1
  have L4 : ∀ (n : Nat) (lx1 : Int32) (lx2 : Int32) (G : HG), hX0_validsNow_l4 j Λ a0 post n lx1 lx2 G → ∀ (H : Heap) (locs : List Loc), HI D jC G A0 s.heap H locs → ∀ (ls : Array Slot), lv_has ls 3 [(0, .ref a0), (1, .int lx1), (2, .int lx2)] → W p l e (rhX0_validsNow fr lo) s m args below meth c H locs 0 0 Q (F0 m 4 ls []) := by
    intro n4
    induction n4 with
    | zero => intro lx1 lx2 G hf; exact hf.elim
    | succ n4 ih4 =>
      have J27 : ∀ (lx2 : Int32) (z0 : Int32) (z1 : Int32) (G : HG), hX0_validsNow_b27 j Λ a0 post (hX0_validsNow_l4 j Λ a0 post n4) lx2 z0 z1 G → ∀ (H : Heap) (locs : List Loc), HI D jC G A0 s.heap H locs → ∀ (ls : Array Slot), lv_has ls 3 [(0, .ref a0), (2, .int lx2)] → W p l e (rhX0_validsNow fr lo) s m args below meth c H locs 0 0 Q (F0 m 27 ls [.int z1, .int z0]) := by
        intro lx2 z0 z1 G hf H locs hI ls hl
        unfold hX0_validsNow_b27 at hf
        refine lv_iadd hx hb dX0_validsNow_27 ?_
        refine lv_istore_n (lv' := [(1, .int (z0 + z1)), (0, .ref a0), (2, .int lx2)]) hx hb dX0_validsNow_28 rfl hl (by decide) rfl (fun ls hl => ?_)
        refine lv_iinc (v := lx2 + 1) (lv' := [(2, .int (lx2 + 1)), (1, .int (z0 + z1)), (0, .ref a0)]) hx hb dX0_validsNow_29 hl (k := 2) rfl rfl (by decide) rfl (fun ls hl => ?_)
        refine lv_goto (tgt := 4) hx hb dX0_validsNow_32 (by decide) ?_
        exact ih4 (z0 + z1) (lx2 + 1) G hf H locs hI ls (lv_sub hl [2, 1, 0] rfl)
      intro lx1 lx2 G hf H locs hI ls hl
      have hf : hX0_validsNow_b4 j Λ a0 post (hX0_validsNow_l4 j Λ a0 post n4) lx1 lx2 G := hf
      unfold hX0_validsNow_b4 at hf
      refine lv_iload_n hx hb dX0_validsNow_4 rfl (lv_at hl 2 rfl) ?_
      refine lv_aload_n hx hb dX0_validsNow_5 rfl (lv_at hl 0 rfl) ?_
      obtain ⟨_, _, hO, hf⟩ := hf
      refine h_ki X hI (h_runV (As := []) X hI (h_recv X hI hO (show jC.1[0]? = some (RX0, TX0, 20) from rfl)) (mhX0_states0 l Z D j Λ fr lo E a0 G _ hf H.size) (cwV 0 hts (lw_V q1945 q1947 qs41 q167 q1948) rfl rfl rfl (by decide +kernel) (by show fr + 1 + 1 ≤ fr + 2 ∧ 8 + (3 + 11) + (lo + 40) ≤ lo + 62; omega)) rfl hl.1 (Nat.le_of_ble_eq_true rfl) dX0_validsNow_6 ⟨Nat.le_refl _, Nat.le_refl _⟩ rfl) (fun x2 G1 H locs hf hI => ?_)
      clear hO
      refine lv_icmp_ge (tgt := 35) hx hb dX0_validsNow_9 (by decide) (fun c3 => ?_) (fun c3 => ?_)
      · have hf := hf.1 c3
        refine lv_iload_n hx hb dX0_validsNow_35 rfl (lv_at hl 1 rfl) ?_
        exact hret hf hI dX0_validsNow_36 (Nat.le_refl _) (Nat.le_refl _)
      · have hf := hf.2 c3
        refine lv_iload_n hx hb dX0_validsNow_12 rfl (lv_at hl 1 rfl) ?_
        refine lv_aload_n hx hb dX0_validsNow_13 rfl (lv_at hl 0 rfl) ?_
        refine hr_gtQ X hI (rfl : jC.1[0]? = some (RX0, TX0, 20)) in_X0 11 (Nat.le_of_ble_eq_true rfl) hf q664 (fun _ h => h) dX0_validsNow_14 (fun q4 hf => ?_)
        refine lv_iload_n hx hb dX0_validsNow_17 rfl (lv_at hl 2 rfl) ?_
        obtain ⟨a5, ea5, hf⟩ := hf
        revert hl hf
        subst ea5
        intro hl hf
        have hl : lv_has ls 3 [(0, .ref a0), (1, .int lx1), (2, .int lx2)] := hl
        refine hr_zld X hI 1 rfl hf dX0_validsNow_18 (fun x6 hf => ?_)
        refine lv_if_eq (tgt := 26) hx hb dX0_validsNow_19 (by decide) (fun c7 => ?_) (fun c7 => ?_)
        · have hf := hf.1 c7
          refine lv_iconst (v := 0) hx hb dX0_validsNow_26 (by decide) ?_
          exact J27 lx2 lx1 (0 : Int32) G1 hf H locs hI ls (lv_sub hl [0, 2] rfl)
        · have hf := hf.2 c7
          refine lv_iconst (v := 1) hx hb dX0_validsNow_22 (by decide) ?_
          refine lv_goto (tgt := 27) hx hb dX0_validsNow_23 (by decide) ?_
          exact J27 lx2 lx1 (1 : Int32) G1 hf H locs hI ls (lv_sub hl [0, 2] rfl)
  have hl : lv_has ls 3 [(0, .ref a0)] := by exact hl
  unfold hX0_validsNow at hf
  obtain ⟨H, eH⟩ : ∃ H, H = s.heap := ⟨_, rfl⟩
  obtain ⟨locs, eL⟩ : ∃ locs : List Loc, locs = [] := ⟨_, rfl⟩
  have hI : HI D jC G A0 s.heap H locs := by rw [eH, eL]; exact hI
  rw [← eL]
  suffices h : W p l e (rhX0_validsNow fr lo) s m args below meth c H locs 0 0 Q (F0 m 0 ls []) by rw [eH] at h; exact h
  clear eH eL
  refine lv_iconst (v := 0) hx hb dX0_validsNow_0 (by decide) ?_
  refine lv_istore_n (lv' := [(1, .int 0), (0, .ref a0)]) hx hb dX0_validsNow_1 rfl hl (by decide) rfl (fun ls hl => ?_)
  refine lv_iconst (v := 0) hx hb dX0_validsNow_2 (by decide) ?_
  refine lv_istore_n (lv' := [(2, .int 0), (1, .int 0), (0, .ref a0)]) hx hb dX0_validsNow_3 rfl hl (by decide) rfl (fun ls hl => ?_)
  obtain ⟨n, hf⟩ := hf
  exact L4 n (0 : Int32) (0 : Int32) G hf H locs hI ls (lv_sub hl [2, 1, 0] rfl)
/-! MergeJudge.spare(I)I -/
def hX0_spare (j : JX) (Λ : JLam) (a0 : Nat) (p1 : Int32) (mc ms : Nat) (G : HG) (post : Int32 → HG → Prop) : Prop :=
  isO G a0 0 (hX0_isRule j Λ a0 p1 G fun x2 G1 => (x2 = 0 → (post ((-2) : Int32) G1)) ∧ (¬ x2 = 0 → (isO G1 a0 0 (hX0_every j Λ a0 G1 fun x5 G4 => 1 ≤ mc ∧ 1 ≤ ms ∧ mkO G4 (.inr (42, .ref a0 :: ([] : List Int32).map .int)) fun a6 G7 => isO G7 a0 0 (∃ m8 m9 : Nat, m8 ≤ mc - 1 ∧ m9 ≤ ms - 1 ∧ hX0_under j Λ a0 (x5 &&& (((1 : Int32) <<< (p1 &&& 31)) ^^^ (-1))) a6 m8 m9 G7 fun x11 G10 => isO G10 a0 0 (hX0_validsNow j Λ a0 G10 fun x13 G12 => (x11 = x13 → (post (1 : Int32) G12)) ∧ (¬ x11 = x13 → (post (0 : Int32) G12))))))))
abbrev rhX0_spare (fr lo mc ms : Nat) : Room := { frames := fr + 5, cells := mc, slots := ms, locals := lo + 3200 }
theorem mhX0_spare (l : Launch) (Z : (Nat → Prop) → State → Heap → Prop) (D : va_G) (j : JX) (Λ : JLam) (fr lo : Nat) (E : JE l Z D j Λ fr lo) (a0 : Nat) (p1 : Int32) (mc ms : Nat) (G : HG) (post : Int32 → HG → Prop) (hf : hX0_spare j Λ a0 p1 mc ms G post) : HMi l yX0_spare (ws_ yX0_spare cX0_spare 2 (some .int)) (rhX0_spare fr lo mc ms) D jC (jty j.1) Z G [.ref a0, .int p1] post mc ms := by
  obtain ⟨MC, eMC⟩ : ∃ MC, MC = mc := ⟨_, rfl⟩
  obtain ⟨MS, eMS⟩ : ∃ MS, MS = ms := ⟨_, rfl⟩
  suffices goal : HMi l yX0_spare (ws_ yX0_spare cX0_spare 2 (some .int)) (rhX0_spare fr lo MC MS) D jC (jty j.1) Z G [.ref a0, .int p1] post MC MS by rw [eMC, eMS] at goal; exact goal
  have hm0_ : 0 + mc ≤ MC ∧ 0 + ms ≤ MS := by omega
  clear eMC eMS
  refine h_openi E.1 (by decide) (by exact Nat.le_of_ble_eq_true rfl) (fun p e s m args below meth c ls A0 Q X hI hnd hnm hl hret => ?_)
  have X : XC p s m args meth c cX0_spare 2 RX0 D jC (jty j.1) A0 Z := X
  have hx := X.1
  have hb := X.2.1
  have hown := X.2.2.2.1
  have hts := X.2.2.2.2.1
  have hl : lv_has ls 2 [(0, .ref a0), (1, .int p1)] := by exact hl
  unfold hX0_spare at hf
  obtain ⟨H, eH⟩ : ∃ H, H = s.heap := ⟨_, rfl⟩
  obtain ⟨locs, eL⟩ : ∃ locs : List Loc, locs = [] := ⟨_, rfl⟩
  have hI : HI D jC G A0 s.heap H locs := by rw [eH, eL]; exact hI
  rw [← eL]
  obtain ⟨cells, eC⟩ : ∃ n : Nat, n = 0 := ⟨_, rfl⟩
  obtain ⟨slots, eS⟩ : ∃ n : Nat, n = 0 := ⟨_, rfl⟩
  have hm : cells + mc ≤ MC ∧ slots + ms ≤ MS := by rw [eC, eS]; exact hm0_
  suffices h : W p l e (rhX0_spare fr lo MC MS) s m args below meth c H locs cells slots Q (F0 m 0 ls []) by rw [eH, eC, eS] at h; exact h
  clear eH eL eC eS
  refine lv_aload_n hx hb dX0_spare_0 rfl (lv_at hl 0 rfl) ?_
  refine lv_iload_n hx hb dX0_spare_1 rfl (lv_at hl 1 rfl) ?_
  obtain ⟨_, _, hO, hf⟩ := hf
  refine h_ki X hI (h_runV (As := [.int p1]) X hI (h_recv X hI hO (show jC.1[0]? = some (RX0, TX0, 20) from rfl)) (mhX0_isRule l Z D j Λ fr lo E a0 p1 G _ hf H.size) (cwV 1 hts (lw_V q2068 q2070 qs53 q167 q2071) rfl rfl rfl (by decide +kernel) (by show fr + 2 + 1 ≤ fr + 5 ∧ 8 + (2 + 11) + (lo + 65) ≤ lo + 3200; omega)) rfl hl.1 (Nat.le_of_ble_eq_true rfl) dX0_spare_2 ⟨hm0 hm.1, hm0 hm.2⟩ rfl) (fun x2 G1 H locs hf hI => ?_)
  clear hO
  refine lv_if_ne (tgt := 11) hx hb dX0_spare_5 (by decide) (fun c3 => ?_) (fun c3 => ?_)
  · have hf := hf.2 c3
    refine lv_aload_n hx hb dX0_spare_11 rfl (lv_at hl 0 rfl) ?_
    refine lv_aload_n hx hb dX0_spare_12 rfl (lv_at hl 0 rfl) ?_
    obtain ⟨_, _, hO, hf⟩ := hf
    refine h_ki X hI (h_runV (As := []) X hI (h_recv X hI hO (show jC.1[0]? = some (RX0, TX0, 20) from rfl)) (mhX0_every l Z D j Λ fr lo E a0 G1 _ hf H.size) (cwV 0 hts (lw_V q2072 q2074 qs54 q167 q2075) rfl rfl rfl (by decide +kernel) (by show fr + 2 + 1 ≤ fr + 5 ∧ 8 + (1 + 11) + (lo + 60) ≤ lo + 3200; omega)) rfl hl.1 (Nat.le_of_ble_eq_true rfl) dX0_spare_13 ⟨hm0 hm.1, hm0 hm.2⟩ rfl) (fun x5 G4 H locs hf hI => ?_)
    clear hO
    refine lv_iconst (v := 1) hx hb dX0_spare_16 (by decide) ?_
    refine lv_iload_n hx hb dX0_spare_17 rfl (lv_at hl 1 rfl) ?_
    refine lv_ishl hx hb dX0_spare_18 ?_
    refine lv_iconst (v := -1) hx hb dX0_spare_19 (by decide) ?_
    refine lv_ixor hx hb dX0_spare_20 ?_
    refine lv_iand hx hb dX0_spare_21 ?_
    refine lv_aload_n hx hb dX0_spare_22 rfl (lv_at hl 0 rfl) ?_
    obtain ⟨hb1, hb2, hf⟩ := hf
    refine E.2.2.2.1 19 yX0_spare 23 337 a0 [] rfl (rest := [.int (x5 &&& (((1 : Int32) <<< (p1 &&& 31)) ^^^ (-1))), .ref a0]) X hI hnd hl.1 (Nat.le_of_ble_eq_true rfl) dX0_spare_23 (by show 3200 ≤ lo + 3200; omega) (hmA hm.1 hb1) (hmA hm.2 hb2) hf (fun a6 G7 H hf hI => ?_)
    have hm := And.intro (hmB hm.1 hb1) (hmB hm.2 hb2)
    clear hb1 hb2
    obtain ⟨_, _, hO, hf⟩ := hf
    obtain ⟨m8, m9, hb1, hb2, hf⟩ := hf
    refine h_ki X hI (h_runV (As := [.int (x5 &&& (((1 : Int32) <<< (p1 &&& 31)) ^^^ (-1))), .ref a6]) X hI (h_recv X hI hO (show jC.1[0]? = some (RX0, TX0, 20) from rfl)) (mhX0_under l Z D j Λ fr lo E a0 (x5 &&& (((1 : Int32) <<< (p1 &&& 31)) ^^^ (-1))) a6 m8 m9 G7 _ hf H.size) (cwV 2 hts (lw_V q2079 q2081 qs56 q167 q2082) rfl rfl rfl (by decide +kernel) (by show fr + 4 + 1 ≤ fr + 5 ∧ 8 + (4 + 11) + (lo + 105) ≤ lo + 3200; omega)) rfl hl.1 (Nat.le_of_ble_eq_true rfl) dX0_spare_28 ⟨hmA hm.1 hb1, hmA hm.2 hb2⟩ rfl) (fun x11 G10 H locs hf hI => ?_)
    have hm := And.intro (hmB hm.1 hb1) (hmB hm.2 hb2)
    clear hb1 hb2
    clear hO
    refine lv_aload_n hx hb dX0_spare_31 rfl (lv_at hl 0 rfl) ?_
    obtain ⟨_, _, hO, hf⟩ := hf
    refine h_ki X hI (h_runV (As := []) X hI (h_recv X hI hO (show jC.1[0]? = some (RX0, TX0, 20) from rfl)) (mhX0_validsNow l Z D j Λ fr lo E a0 G10 _ hf H.size) (cwV 0 hts (lw_V q2087 q2077 qs55 q167 q2078) rfl rfl rfl (by decide +kernel) (by show fr + 2 + 1 ≤ fr + 5 ∧ 8 + (3 + 11) + (lo + 62) ≤ lo + 3200; omega)) rfl hl.1 (Nat.le_of_ble_eq_true rfl) dX0_spare_32 ⟨hm0 hm.1, hm0 hm.2⟩ rfl) (fun x13 G12 H locs hf hI => ?_)
    clear hO
    refine lv_icmp_ne (tgt := 42) hx hb dX0_spare_35 (by decide) (fun c14 => ?_) (fun c14 => ?_)
    · have hf := hf.2 c14
      refine lv_iconst (v := 0) hx hb dX0_spare_42 (by decide) ?_
      exact hret hf hI dX0_spare_43 (hmC hm.1) (hmC hm.2)
    · have hf := hf.1 c14
      refine lv_iconst (v := 1) hx hb dX0_spare_38 (by decide) ?_
      refine lv_goto (tgt := 43) hx hb dX0_spare_39 (by decide) ?_
      exact hret hf hI dX0_spare_43 (hmC hm.1) (hmC hm.2)
  · have hf := hf.1 c3
    refine lv_bipush (v := -2) hx hb dX0_spare_8 (by decide) ?_
    exact hret hf hI dX0_spare_10 (hmC hm.1) (hmC hm.2)
/-! MergeJudge.isCell(I)Z -/
def hX0_isCell (j : JX) (Λ : JLam) (a0 : Nat) (p1 : Int32) (G : HG) (post : Int32 → HG → Prop) : Prop :=
  gtQ G a0 0 1 fun q1 => nnq q1 fun a2 => gtI G a2 2 7 fun x3 => hX0_in j Λ p1.toInt64 (0 : Int64) ((x3 - 1).toInt64) G fun x5 G4 => zB x5 ∧ post x5 G4
abbrev rhX0_isCell (fr lo : Nat) : Room := { frames := fr + 2, cells := 0, slots := 0, locals := lo + 65 }
theorem mhX0_isCell (l : Launch) (Z : (Nat → Prop) → State → Heap → Prop) (D : va_G) (j : JX) (Λ : JLam) (fr lo : Nat) (E : JE l Z D j Λ fr lo) (a0 : Nat) (p1 : Int32) (G : HG) (post : Int32 → HG → Prop) (hf : hX0_isCell j Λ a0 p1 G post) : HMi l yX0_isCell (ws_ yX0_isCell cX0_isCell 2 (some .boolean)) (rhX0_isCell fr lo) D jC (jty j.1) Z G [.ref a0, .int p1] post 0 0 := by
  refine h_openz E.1 (by decide) (by exact Nat.le_of_ble_eq_true rfl) (fun p e s m args below meth c ls A0 Q X hI hnd hnm hl hret => ?_)
  have X : XC p s m args meth c cX0_isCell 2 RX0 D jC (jty j.1) A0 Z := X
  have hx := X.1
  have hb := X.2.1
  have hown := X.2.2.2.1
  have hts := X.2.2.2.2.1
  have hl : lv_has ls 2 [(0, .ref a0), (1, .int p1)] := by exact hl
  unfold hX0_isCell at hf
  obtain ⟨H, eH⟩ : ∃ H, H = s.heap := ⟨_, rfl⟩
  obtain ⟨locs, eL⟩ : ∃ locs : List Loc, locs = [] := ⟨_, rfl⟩
  have hI : HI D jC G A0 s.heap H locs := by rw [eH, eL]; exact hI
  rw [← eL]
  suffices h : W p l e (rhX0_isCell fr lo) s m args below meth c H locs 0 0 Q (F0 m 0 ls []) by rw [eH] at h; exact h
  clear eH eL
  refine lv_iload_n hx hb dX0_isCell_0 rfl (lv_at hl 1 rfl) ?_
  refine lv_i2l hx hb dX0_isCell_1 rfl ?_
  refine lv_lconst (v := 0) hx hb dX0_isCell_2 (by decide) ?_
  refine lv_aload_n hx hb dX0_isCell_3 rfl (lv_at hl 0 rfl) ?_
  refine hr_gtQ X hI (rfl : jC.1[0]? = some (RX0, TX0, 20)) in_X0 1 (Nat.le_of_ble_eq_true rfl) hf q653 (fun _ h => h) dX0_isCell_4 (fun q1 hf => ?_)
  obtain ⟨a2, ea2, hf⟩ := hf
  revert hl hf
  subst ea2
  intro hl hf
  have hl : lv_has ls 2 [(0, .ref a0), (1, .int p1)] := hl
  refine hr_gtIN X hI (rfl : jC.1[2]? = some (RX2, TX2, 11)) in_X2 7 (Nat.le_of_ble_eq_true rfl) hf (E.nw X q500 rfl) (fun _ h => h) dX0_isCell_7 (fun x3 hf => ?_)
  refine lv_iconst (v := 1) hx hb dX0_isCell_10 (by decide) ?_
  refine lv_isub hx hb dX0_isCell_11 ?_
  refine lv_i2l hx hb dX0_isCell_12 rfl ?_
  refine h_ki X hI (h_runS (As := [.long p1.toInt64, .long 0, .long ((x3 - 1).toInt64)]) X hI (mhX0_in l Z D j Λ fr lo E p1.toInt64 (0 : Int64) ((x3 - 1).toInt64) G _ hf H.size) (va_cwS 3 hts (lw_S q226 q227 q167 q228) rfl rfl rfl (by decide +kernel) (by show fr + 1 + 1 ≤ fr + 2 ∧ 8 + (6 + 11) + (lo + 40) ≤ lo + 65; omega)) rfl hl.1 (Nat.le_of_ble_eq_true rfl) dX0_isCell_13 ⟨Nat.le_refl _, Nat.le_refl _⟩ rfl) (fun x5 G4 H locs hf hI => ?_)
  obtain ⟨hz, hf⟩ := hf
  exact hret (zB_n hz) hf hI dX0_isCell_16 (Nat.le_refl _) (Nat.le_refl _)
/-! MergeJudge.room(I)I -/
def hX0_room_b45 (j : JX) (Λ : JLam) (a0 : Nat) (p1 : Int32) (post : Int32 → HG → Prop) (K15 : Int32 → Int32 → HG → Prop) (lx3 : Int32) (z0 : Int32) (z1 : Int32) (G : HG) : Prop :=
  K15 (z0 ||| z1) (lx3 + 1) G
def hX0_room_b15 (j : JX) (Λ : JLam) (a0 : Nat) (p1 : Int32) (post : Int32 → HG → Prop) (K15 : Int32 → Int32 → HG → Prop) (lx2 : Int32) (lx3 : Int32) (G : HG) : Prop :=
  isO G a0 0 (hX0_states0 j Λ a0 G fun x5 G4 => (x5 ≤ lx3 → (post lx2 G4)) ∧ (¬ x5 ≤ lx3 → (gtQ G4 a0 0 11 fun q7 => nnq q7 fun a8 => ldI G4 a8 (j.1 1) lx3 fun x9 => (x9 = 0 → (hX0_room_b45 j Λ a0 p1 post K15 lx3 lx2 (0 : Int32) G4)) ∧ (¬ x9 = 0 → (isO G4 a0 0 (hX0_valueOf j Λ a0 lx3 p1 G4 fun x12 G11 => hX0_room_b45 j Λ a0 p1 post K15 lx3 lx2 ((1 : Int32) <<< (x12 &&& 31)) G11))))))
def hX0_room_l15 (j : JX) (Λ : JLam) (a0 : Nat) (p1 : Int32) (post : Int32 → HG → Prop) : Nat → Int32 → Int32 → HG → Prop
  | 0 => fun _ _ _ => False
  | n + 1 => fun lx2 lx3 G => hX0_room_b15 j Λ a0 p1 post (hX0_room_l15 j Λ a0 p1 post n) lx2 lx3 G
def hX0_room (j : JX) (Λ : JLam) (a0 : Nat) (p1 : Int32) (G : HG) (post : Int32 → HG → Prop) : Prop :=
  isO G a0 0 (hX0_isCell j Λ a0 p1 G fun x2 G1 => (x2 = 0 → (post ((-2) : Int32) G1)) ∧ (¬ x2 = 0 → (∃ n, hX0_room_l15 j Λ a0 p1 post n (0 : Int32) (0 : Int32) G1)))
abbrev rhX0_room (fr lo : Nat) : Room := { frames := fr + 3, cells := 0, slots := 0, locals := lo + 86 }
theorem mhX0_room (l : Launch) (Z : (Nat → Prop) → State → Heap → Prop) (D : va_G) (j : JX) (Λ : JLam) (fr lo : Nat) (E : JE l Z D j Λ fr lo) (a0 : Nat) (p1 : Int32) (G : HG) (post : Int32 → HG → Prop) (hf : hX0_room j Λ a0 p1 G post) : HMi l yX0_room (ws_ yX0_room cX0_room 4 (some .int)) (rhX0_room fr lo) D jC (jty j.1) Z G [.ref a0, .int p1] post 0 0 := by
  refine h_openi E.1 (by decide) (by exact Nat.le_of_ble_eq_true rfl) (fun p e s m args below meth c ls A0 Q X hI hnd hnm hl hret => ?_)
  have X : XC p s m args meth c cX0_room 4 RX0 D jC (jty j.1) A0 Z := X
  have hx := X.1
  have hb := X.2.1
  have hown := X.2.2.2.1
  have hts := X.2.2.2.2.1
  have L15 : ∀ (n : Nat) (lx2 : Int32) (lx3 : Int32) (G : HG), hX0_room_l15 j Λ a0 p1 post n lx2 lx3 G → ∀ (H : Heap) (locs : List Loc), HI D jC G A0 s.heap H locs → ∀ (ls : Array Slot), lv_has ls 4 [(0, .ref a0), (1, .int p1), (2, .int lx2), (3, .int lx3)] → W p l e (rhX0_room fr lo) s m args below meth c H locs 0 0 Q (F0 m 15 ls []) := by
    intro n15
    induction n15 with
    | zero => intro lx2 lx3 G hf; exact hf.elim
    | succ n15 ih15 =>
      have J45 : ∀ (lx3 : Int32) (z0 : Int32) (z1 : Int32) (G : HG), hX0_room_b45 j Λ a0 p1 post (hX0_room_l15 j Λ a0 p1 post n15) lx3 z0 z1 G → ∀ (H : Heap) (locs : List Loc), HI D jC G A0 s.heap H locs → ∀ (ls : Array Slot), lv_has ls 4 [(0, .ref a0), (1, .int p1), (3, .int lx3)] → W p l e (rhX0_room fr lo) s m args below meth c H locs 0 0 Q (F0 m 45 ls [.int z1, .int z0]) := by
        intro lx3 z0 z1 G hf H locs hI ls hl
        unfold hX0_room_b45 at hf
        refine lv_ior hx hb dX0_room_45 ?_
        refine lv_istore_n (lv' := [(2, .int (z0 ||| z1)), (0, .ref a0), (1, .int p1), (3, .int lx3)]) hx hb dX0_room_46 rfl hl (by decide) rfl (fun ls hl => ?_)
        refine lv_iinc (v := lx3 + 1) (lv' := [(3, .int (lx3 + 1)), (2, .int (z0 ||| z1)), (0, .ref a0), (1, .int p1)]) hx hb dX0_room_47 hl (k := 3) rfl rfl (by decide) rfl (fun ls hl => ?_)
        refine lv_goto (tgt := 15) hx hb dX0_room_50 (by decide) ?_
        exact ih15 (z0 ||| z1) (lx3 + 1) G hf H locs hI ls (lv_sub hl [2, 3, 1, 0] rfl)
      intro lx2 lx3 G hf H locs hI ls hl
      have hf : hX0_room_b15 j Λ a0 p1 post (hX0_room_l15 j Λ a0 p1 post n15) lx2 lx3 G := hf
      unfold hX0_room_b15 at hf
      refine lv_iload_n hx hb dX0_room_15 rfl (lv_at hl 3 rfl) ?_
      refine lv_aload_n hx hb dX0_room_16 rfl (lv_at hl 0 rfl) ?_
      obtain ⟨_, _, hO, hf⟩ := hf
      refine h_ki X hI (h_runV (As := []) X hI (h_recv X hI hO (show jC.1[0]? = some (RX0, TX0, 20) from rfl)) (mhX0_states0 l Z D j Λ fr lo E a0 G _ hf H.size) (cwV 0 hts (lw_V q1945 q1947 qs41 q167 q1948) rfl rfl rfl (by decide +kernel) (by show fr + 1 + 1 ≤ fr + 3 ∧ 8 + (3 + 11) + (lo + 40) ≤ lo + 86; omega)) rfl hl.1 (Nat.le_of_ble_eq_true rfl) dX0_room_17 ⟨Nat.le_refl _, Nat.le_refl _⟩ rfl) (fun x5 G4 H locs hf hI => ?_)
      clear hO
      refine lv_icmp_ge (tgt := 53) hx hb dX0_room_20 (by decide) (fun c6 => ?_) (fun c6 => ?_)
      · have hf := hf.1 c6
        refine lv_iload_n hx hb dX0_room_53 rfl (lv_at hl 2 rfl) ?_
        exact hret hf hI dX0_room_54 (Nat.le_refl _) (Nat.le_refl _)
      · have hf := hf.2 c6
        refine lv_iload_n hx hb dX0_room_23 rfl (lv_at hl 2 rfl) ?_
        refine lv_aload_n hx hb dX0_room_24 rfl (lv_at hl 0 rfl) ?_
        refine hr_gtQ X hI (rfl : jC.1[0]? = some (RX0, TX0, 20)) in_X0 11 (Nat.le_of_ble_eq_true rfl) hf q664 (fun _ h => h) dX0_room_25 (fun q7 hf => ?_)
        refine lv_iload_n hx hb dX0_room_28 rfl (lv_at hl 3 rfl) ?_
        obtain ⟨a8, ea8, hf⟩ := hf
        revert hl hf
        subst ea8
        intro hl hf
        have hl : lv_has ls 4 [(0, .ref a0), (1, .int p1), (2, .int lx2), (3, .int lx3)] := hl
        refine hr_zld X hI 1 rfl hf dX0_room_29 (fun x9 hf => ?_)
        refine lv_if_eq (tgt := 44) hx hb dX0_room_30 (by decide) (fun c10 => ?_) (fun c10 => ?_)
        · have hf := hf.1 c10
          refine lv_iconst (v := 0) hx hb dX0_room_44 (by decide) ?_
          exact J45 lx3 lx2 (0 : Int32) G4 hf H locs hI ls (lv_sub hl [0, 1, 3] rfl)
        · have hf := hf.2 c10
          refine lv_iconst (v := 1) hx hb dX0_room_33 (by decide) ?_
          refine lv_aload_n hx hb dX0_room_34 rfl (lv_at hl 0 rfl) ?_
          refine lv_iload_n hx hb dX0_room_35 rfl (lv_at hl 3 rfl) ?_
          refine lv_iload_n hx hb dX0_room_36 rfl (lv_at hl 1 rfl) ?_
          obtain ⟨_, _, hO, hf⟩ := hf
          refine h_ki X hI (h_runV (As := [.int lx3, .int p1]) X hI (h_recv X hI hO (show jC.1[0]? = some (RX0, TX0, 20) from rfl)) (mhX0_valueOf l Z D j Λ fr lo E a0 lx3 p1 G4 _ hf H.size) (cwV 2 hts (lw_V q1879 q1881 qs27 q167 q1882) rfl rfl rfl (by decide +kernel) (by show fr + 2 + 1 ≤ fr + 3 ∧ 8 + (3 + 11) + (lo + 63) ≤ lo + 86; omega)) rfl hl.1 (Nat.le_of_ble_eq_true rfl) dX0_room_37 ⟨Nat.le_refl _, Nat.le_refl _⟩ rfl) (fun x12 G11 H locs hf hI => ?_)
          clear hO
          refine lv_ishl hx hb dX0_room_40 ?_
          refine lv_goto (tgt := 45) hx hb dX0_room_41 (by decide) ?_
          exact J45 lx3 lx2 ((1 : Int32) <<< (x12 &&& 31)) G11 hf H locs hI ls (lv_sub hl [0, 1, 3] rfl)
  have hl : lv_has ls 4 [(0, .ref a0), (1, .int p1)] := by exact hl
  unfold hX0_room at hf
  obtain ⟨H, eH⟩ : ∃ H, H = s.heap := ⟨_, rfl⟩
  obtain ⟨locs, eL⟩ : ∃ locs : List Loc, locs = [] := ⟨_, rfl⟩
  have hI : HI D jC G A0 s.heap H locs := by rw [eH, eL]; exact hI
  rw [← eL]
  suffices h : W p l e (rhX0_room fr lo) s m args below meth c H locs 0 0 Q (F0 m 0 ls []) by rw [eH] at h; exact h
  clear eH eL
  refine lv_aload_n hx hb dX0_room_0 rfl (lv_at hl 0 rfl) ?_
  refine lv_iload_n hx hb dX0_room_1 rfl (lv_at hl 1 rfl) ?_
  obtain ⟨_, _, hO, hf⟩ := hf
  refine h_ki X hI (h_runV (As := [.int p1]) X hI (h_recv X hI hO (show jC.1[0]? = some (RX0, TX0, 20) from rfl)) (mhX0_isCell l Z D j Λ fr lo E a0 p1 G _ hf H.size) (cwV 1 hts (lw_V q2092 q2094 qs57 q167 q2095) rfl rfl rfl (by decide +kernel) (by show fr + 2 + 1 ≤ fr + 3 ∧ 8 + (2 + 11) + (lo + 65) ≤ lo + 86; omega)) rfl hl.1 (Nat.le_of_ble_eq_true rfl) dX0_room_2 ⟨Nat.le_refl _, Nat.le_refl _⟩ rfl) (fun x2 G1 H locs hf hI => ?_)
  clear hO
  refine lv_if_ne (tgt := 11) hx hb dX0_room_5 (by decide) (fun c3 => ?_) (fun c3 => ?_)
  · have hf := hf.2 c3
    refine lv_iconst (v := 0) hx hb dX0_room_11 (by decide) ?_
    refine lv_istore_n (lv' := [(2, .int 0), (0, .ref a0), (1, .int p1)]) hx hb dX0_room_12 rfl hl (by decide) rfl (fun ls hl => ?_)
    refine lv_iconst (v := 0) hx hb dX0_room_13 (by decide) ?_
    refine lv_istore_n (lv' := [(3, .int 0), (2, .int 0), (0, .ref a0), (1, .int p1)]) hx hb dX0_room_14 rfl hl (by decide) rfl (fun ls hl => ?_)
    obtain ⟨n, hf⟩ := hf
    exact L15 n (0 : Int32) (0 : Int32) G1 hf H locs hI ls (lv_sub hl [2, 3, 1, 0] rfl)
  · have hf := hf.1 c3
    refine lv_bipush (v := -2) hx hb dX0_room_8 (by decide) ?_
    exact hret hf hI dX0_room_10 (Nat.le_refl _) (Nat.le_refl _)
/-! MergeJudge.asked(II)I -/
def hX0_asked (j : JX) (Λ : JLam) (a0 : Nat) (p1 : Int32) (p2 : Int32) (G : HG) (post : Int32 → HG → Prop) : Prop :=
  isO G a0 0 (hX0_isState j Λ a0 p1.toInt64 G fun x2 G1 => (x2 = 0 → (post ((-2) : Int32) G1)) ∧ (¬ x2 = 0 → (isO G1 a0 0 (hX0_isDeep j Λ a0 p2 G1 fun x5 G4 => (x5 = 0 → (post ((-2) : Int32) G4)) ∧ (¬ x5 = 0 → (gtQ G4 a0 0 14 fun q7 => nnq q7 fun a8 => isO G4 a8 3 (hX3_of j Λ a8 p1 p2 (0 : Int32) G4 fun q10 G9 => gtQ G9 a0 0 15 fun q11 => gtI G9 a0 0 13 fun x12 => nnq q11 fun a13 => isO G9 a13 3 (hX3_of j Λ a13 p1 p2 x12 G9 fun q15 G14 => gtQ G14 a0 0 14 fun q16 => nnq q16 fun a17 => gtI G14 a17 3 3 fun x18 => gtQ G14 a0 0 15 fun q19 => nnq q19 fun a20 => gtI G14 a20 3 3 fun x21 => post (((x18 - x21) * ((x18 - x21) + 1)) / 2) G14))))))))
abbrev rhX0_asked (fr lo : Nat) : Room := { frames := fr + 3, cells := 0, slots := 0, locals := lo + 89 }
theorem mhX0_asked (l : Launch) (Z : (Nat → Prop) → State → Heap → Prop) (D : va_G) (j : JX) (Λ : JLam) (fr lo : Nat) (E : JE l Z D j Λ fr lo) (a0 : Nat) (p1 : Int32) (p2 : Int32) (G : HG) (post : Int32 → HG → Prop) (hf : hX0_asked j Λ a0 p1 p2 G post) : HMi l yX0_asked (ws_ yX0_asked cX0_asked 4 (some .int)) (rhX0_asked fr lo) D jC (jty j.1) Z G [.ref a0, .int p1, .int p2] post 0 0 := by
  refine h_openi E.1 (by decide) (by exact Nat.le_of_ble_eq_true rfl) (fun p e s m args below meth c ls A0 Q X hI hnd hnm hl hret => ?_)
  have X : XC p s m args meth c cX0_asked 4 RX0 D jC (jty j.1) A0 Z := X
  have hx := X.1
  have hb := X.2.1
  have hown := X.2.2.2.1
  have hts := X.2.2.2.2.1
  have hl : lv_has ls 4 [(0, .ref a0), (1, .int p1), (2, .int p2)] := by exact hl
  unfold hX0_asked at hf
  obtain ⟨H, eH⟩ : ∃ H, H = s.heap := ⟨_, rfl⟩
  obtain ⟨locs, eL⟩ : ∃ locs : List Loc, locs = [] := ⟨_, rfl⟩
  have hI : HI D jC G A0 s.heap H locs := by rw [eH, eL]; exact hI
  rw [← eL]
  suffices h : W p l e (rhX0_asked fr lo) s m args below meth c H locs 0 0 Q (F0 m 0 ls []) by rw [eH] at h; exact h
  clear eH eL
  refine lv_aload_n hx hb dX0_asked_0 rfl (lv_at hl 0 rfl) ?_
  refine lv_iload_n hx hb dX0_asked_1 rfl (lv_at hl 1 rfl) ?_
  refine lv_i2l hx hb dX0_asked_2 rfl ?_
  obtain ⟨_, _, hO, hf⟩ := hf
  refine h_ki X hI (h_runV (As := [.long p1.toInt64]) X hI (h_recv X hI hO (show jC.1[0]? = some (RX0, TX0, 20) from rfl)) (mhX0_isState l Z D j Λ fr lo E a0 p1.toInt64 G _ hf H.size) (cwV 1 hts (lw_V q1968 q1970 qs43 q167 q1971) rfl rfl rfl (by decide +kernel) (by show fr + 2 + 1 ≤ fr + 3 ∧ 8 + (3 + 11) + (lo + 65) ≤ lo + 89; omega)) rfl hl.1 (Nat.le_of_ble_eq_true rfl) dX0_asked_3 ⟨Nat.le_refl _, Nat.le_refl _⟩ rfl) (fun x2 G1 H locs hf hI => ?_)
  clear hO
  refine lv_if_eq (tgt := 17) hx hb dX0_asked_6 (by decide) (fun c3 => ?_) (fun c3 => ?_)
  · have hf := hf.1 c3
    refine lv_bipush (v := -2) hx hb dX0_asked_17 (by decide) ?_
    exact hret hf hI dX0_asked_19 (Nat.le_refl _) (Nat.le_refl _)
  · have hf := hf.2 c3
    refine lv_aload_n hx hb dX0_asked_9 rfl (lv_at hl 0 rfl) ?_
    refine lv_iload_n hx hb dX0_asked_10 rfl (lv_at hl 2 rfl) ?_
    obtain ⟨_, _, hO, hf⟩ := hf
    refine h_ki X hI (h_runV (As := [.int p2]) X hI (h_recv X hI hO (show jC.1[0]? = some (RX0, TX0, 20) from rfl)) (mhX0_isDeep l Z D j Λ fr lo E a0 p2 G1 _ hf H.size) (cwV 1 hts (lw_V q1976 q1978 qs44 q167 q1979) rfl rfl rfl (by decide +kernel) (by show fr + 2 + 1 ≤ fr + 3 ∧ 8 + (2 + 11) + (lo + 65) ≤ lo + 89; omega)) rfl hl.1 (Nat.le_of_ble_eq_true rfl) dX0_asked_11 ⟨Nat.le_refl _, Nat.le_refl _⟩ rfl) (fun x5 G4 H locs hf hI => ?_)
    clear hO
    refine lv_if_ne (tgt := 20) hx hb dX0_asked_14 (by decide) (fun c6 => ?_) (fun c6 => ?_)
    · have hf := hf.2 c6
      refine lv_aload_n hx hb dX0_asked_20 rfl (lv_at hl 0 rfl) ?_
      refine hr_gtQ X hI (rfl : jC.1[0]? = some (RX0, TX0, 20)) in_X0 14 (Nat.le_of_ble_eq_true rfl) hf q669 (fun _ h => h) dX0_asked_21 (fun q7 hf => ?_)
      refine lv_iload_n hx hb dX0_asked_24 rfl (lv_at hl 1 rfl) ?_
      refine lv_iload_n hx hb dX0_asked_25 rfl (lv_at hl 2 rfl) ?_
      refine lv_iconst (v := 0) hx hb dX0_asked_26 (by decide) ?_
      obtain ⟨a8, ea8, hf⟩ := hf
      revert hl hf
      subst ea8
      intro hl hf
      have hl : lv_has ls 4 [(0, .ref a0), (1, .int p1), (2, .int p2)] := hl
      obtain ⟨_, _, hO, hf⟩ := hf
      refine h_kq X hI (h_runV (As := [.int p1, .int p2, .int 0]) X hI (h_recv X hI hO (show jC.1[3]? = some (RX3, TX3, 5) from rfl)) (mhX3_of l Z D j Λ fr lo E a8 p1 p2 (0 : Int32) G4 _ hf H.size) (cwV 3 hts (lw_V q1995 q1996 q1997 q174 q1998) rfl rfl rfl (by decide +kernel) (by show fr + 2 + 1 ≤ fr + 3 ∧ 8 + (7 + 11) + (lo + 63) ≤ lo + 89; omega)) rfl hl.1 (Nat.le_of_ble_eq_true rfl) dX0_asked_27 ⟨Nat.le_refl _, Nat.le_refl _⟩ rfl) (fun q10 G9 H locs hf hI => ?_)
      clear hO
      refine lv_pop hx hb dX0_asked_30 (h_catq _) ?_
      refine lv_aload_n hx hb dX0_asked_31 rfl (lv_at hl 0 rfl) ?_
      refine hr_gtQ X hI (rfl : jC.1[0]? = some (RX0, TX0, 20)) in_X0 15 (Nat.le_of_ble_eq_true rfl) hf q670 (fun _ h => h) dX0_asked_32 (fun q11 hf => ?_)
      refine lv_iload_n hx hb dX0_asked_35 rfl (lv_at hl 1 rfl) ?_
      refine lv_iload_n hx hb dX0_asked_36 rfl (lv_at hl 2 rfl) ?_
      refine lv_aload_n hx hb dX0_asked_37 rfl (lv_at hl 0 rfl) ?_
      refine hr_gtI X hI (rfl : jC.1[0]? = some (RX0, TX0, 20)) in_X0 13 (Nat.le_of_ble_eq_true rfl) hf q667 (fun _ h => h) dX0_asked_38 (fun x12 hf => ?_)
      obtain ⟨a13, ea13, hf⟩ := hf
      revert hl hf
      subst ea13
      intro hl hf
      have hl : lv_has ls 4 [(0, .ref a0), (1, .int p1), (2, .int p2)] := hl
      obtain ⟨_, _, hO, hf⟩ := hf
      refine h_kq X hI (h_runV (As := [.int p1, .int p2, .int x12]) X hI (h_recv X hI hO (show jC.1[3]? = some (RX3, TX3, 5) from rfl)) (mhX3_of l Z D j Λ fr lo E a13 p1 p2 x12 G9 _ hf H.size) (cwV 3 hts (lw_V q1995 q1996 q1997 q174 q1998) rfl rfl rfl (by decide +kernel) (by show fr + 2 + 1 ≤ fr + 3 ∧ 8 + (7 + 11) + (lo + 63) ≤ lo + 89; omega)) rfl hl.1 (Nat.le_of_ble_eq_true rfl) dX0_asked_41 ⟨Nat.le_refl _, Nat.le_refl _⟩ rfl) (fun q15 G14 H locs hf hI => ?_)
      clear hO
      refine lv_pop hx hb dX0_asked_44 (h_catq _) ?_
      refine lv_aload_n hx hb dX0_asked_45 rfl (lv_at hl 0 rfl) ?_
      refine hr_gtQ X hI (rfl : jC.1[0]? = some (RX0, TX0, 20)) in_X0 14 (Nat.le_of_ble_eq_true rfl) hf q669 (fun _ h => h) dX0_asked_46 (fun q16 hf => ?_)
      obtain ⟨a17, ea17, hf⟩ := hf
      revert hl hf
      subst ea17
      intro hl hf
      have hl : lv_has ls 4 [(0, .ref a0), (1, .int p1), (2, .int p2)] := hl
      refine hr_gtIN X hI (rfl : jC.1[3]? = some (RX3, TX3, 5)) in_X3 3 (Nat.le_of_ble_eq_true rfl) hf (E.nw X q567 rfl) (fun _ h => h) dX0_asked_49 (fun x18 hf => ?_)
      refine lv_aload_n hx hb dX0_asked_52 rfl (lv_at hl 0 rfl) ?_
      refine hr_gtQ X hI (rfl : jC.1[0]? = some (RX0, TX0, 20)) in_X0 15 (Nat.le_of_ble_eq_true rfl) hf q670 (fun _ h => h) dX0_asked_53 (fun q19 hf => ?_)
      obtain ⟨a20, ea20, hf⟩ := hf
      revert hl hf
      subst ea20
      intro hl hf
      have hl : lv_has ls 4 [(0, .ref a0), (1, .int p1), (2, .int p2)] := hl
      refine hr_gtIN X hI (rfl : jC.1[3]? = some (RX3, TX3, 5)) in_X3 3 (Nat.le_of_ble_eq_true rfl) hf (E.nw X q567 rfl) (fun _ h => h) dX0_asked_56 (fun x21 hf => ?_)
      refine lv_isub hx hb dX0_asked_59 ?_
      refine lv_istore_n (lv' := [(3, .int (x18 - x21)), (0, .ref a0), (1, .int p1), (2, .int p2)]) hx hb dX0_asked_60 rfl hl (by decide) rfl (fun ls hl => ?_)
      refine lv_iload_n hx hb dX0_asked_61 rfl (lv_at hl 0 rfl) ?_
      refine lv_iload_n hx hb dX0_asked_62 rfl (lv_at hl 0 rfl) ?_
      refine lv_iconst (v := 1) hx hb dX0_asked_63 (by decide) ?_
      refine lv_iadd hx hb dX0_asked_64 ?_
      refine lv_imul hx hb dX0_asked_65 ?_
      refine lv_iconst (v := 2) hx hb dX0_asked_66 (by decide) ?_
      refine lv_idiv hx hb dX0_asked_67 (by decide) ?_
      exact hret hf hI dX0_asked_68 (Nat.le_refl _) (Nat.le_refl _)
    · have hf := hf.1 c6
      refine lv_bipush (v := -2) hx hb dX0_asked_17 (by decide) ?_
      exact hret hf hI dX0_asked_19 (Nat.le_refl _) (Nat.le_refl _)
/-! MergeJudge.cell(I)I -/
def hX0_cell (j : JX) (Λ : JLam) (a0 : Nat) (p1 : Int32) (G : HG) (post : Int32 → HG → Prop) : Prop :=
  isO G a0 0 (hX0_isCell j Λ a0 p1 G fun x2 G1 => (x2 = 0 → (post ((-2) : Int32) G1)) ∧ (¬ x2 = 0 → (gtQ G1 a0 0 1 fun q4 => nnq q4 fun a5 => gtQ G1 a5 2 3 fun q6 => nnq q6 fun a7 => ldI G1 a7 (j.1 0) p1 fun x8 => post x8 G1)))
abbrev rhX0_cell (fr lo : Nat) : Room := { frames := fr + 3, cells := 0, slots := 0, locals := lo + 86 }
theorem mhX0_cell (l : Launch) (Z : (Nat → Prop) → State → Heap → Prop) (D : va_G) (j : JX) (Λ : JLam) (fr lo : Nat) (E : JE l Z D j Λ fr lo) (a0 : Nat) (p1 : Int32) (G : HG) (post : Int32 → HG → Prop) (hf : hX0_cell j Λ a0 p1 G post) : HMi l yX0_cell (ws_ yX0_cell cX0_cell 2 (some .int)) (rhX0_cell fr lo) D jC (jty j.1) Z G [.ref a0, .int p1] post 0 0 := by
  refine h_openi E.1 (by decide) (by exact Nat.le_of_ble_eq_true rfl) (fun p e s m args below meth c ls A0 Q X hI hnd hnm hl hret => ?_)
  have X : XC p s m args meth c cX0_cell 2 RX0 D jC (jty j.1) A0 Z := X
  have hx := X.1
  have hb := X.2.1
  have hown := X.2.2.2.1
  have hts := X.2.2.2.2.1
  have hl : lv_has ls 2 [(0, .ref a0), (1, .int p1)] := by exact hl
  unfold hX0_cell at hf
  obtain ⟨H, eH⟩ : ∃ H, H = s.heap := ⟨_, rfl⟩
  obtain ⟨locs, eL⟩ : ∃ locs : List Loc, locs = [] := ⟨_, rfl⟩
  have hI : HI D jC G A0 s.heap H locs := by rw [eH, eL]; exact hI
  rw [← eL]
  suffices h : W p l e (rhX0_cell fr lo) s m args below meth c H locs 0 0 Q (F0 m 0 ls []) by rw [eH] at h; exact h
  clear eH eL
  refine lv_aload_n hx hb dX0_cell_0 rfl (lv_at hl 0 rfl) ?_
  refine lv_iload_n hx hb dX0_cell_1 rfl (lv_at hl 1 rfl) ?_
  obtain ⟨_, _, hO, hf⟩ := hf
  refine h_ki X hI (h_runV (As := [.int p1]) X hI (h_recv X hI hO (show jC.1[0]? = some (RX0, TX0, 20) from rfl)) (mhX0_isCell l Z D j Λ fr lo E a0 p1 G _ hf H.size) (cwV 1 hts (lw_V q2092 q2094 qs57 q167 q2095) rfl rfl rfl (by decide +kernel) (by show fr + 2 + 1 ≤ fr + 3 ∧ 8 + (2 + 11) + (lo + 65) ≤ lo + 86; omega)) rfl hl.1 (Nat.le_of_ble_eq_true rfl) dX0_cell_2 ⟨Nat.le_refl _, Nat.le_refl _⟩ rfl) (fun x2 G1 H locs hf hI => ?_)
  clear hO
  refine lv_if_eq (tgt := 20) hx hb dX0_cell_5 (by decide) (fun c3 => ?_) (fun c3 => ?_)
  · have hf := hf.1 c3
    refine lv_bipush (v := -2) hx hb dX0_cell_20 (by decide) ?_
    exact hret hf hI dX0_cell_22 (Nat.le_refl _) (Nat.le_refl _)
  · have hf := hf.2 c3
    refine lv_aload_n hx hb dX0_cell_8 rfl (lv_at hl 0 rfl) ?_
    refine hr_gtQ X hI (rfl : jC.1[0]? = some (RX0, TX0, 20)) in_X0 1 (Nat.le_of_ble_eq_true rfl) hf q653 (fun _ h => h) dX0_cell_9 (fun q4 hf => ?_)
    obtain ⟨a5, ea5, hf⟩ := hf
    revert hl hf
    subst ea5
    intro hl hf
    have hl : lv_has ls 2 [(0, .ref a0), (1, .int p1)] := hl
    refine hr_gtQN X hI (rfl : jC.1[2]? = some (RX2, TX2, 11)) in_X2 3 (Nat.le_of_ble_eq_true rfl) hf (E.nw X q488 rfl) (fun _ h => h) dX0_cell_12 (fun q6 hf => ?_)
    refine lv_iload_n hx hb dX0_cell_15 rfl (lv_at hl 1 rfl) ?_
    obtain ⟨a7, ea7, hf⟩ := hf
    revert hl hf
    subst ea7
    intro hl hf
    have hl : lv_has ls 2 [(0, .ref a0), (1, .int p1)] := hl
    refine hr_ild X hI 0 rfl hf dX0_cell_16 (fun x8 hf => ?_)
    refine lv_goto (tgt := 22) hx hb dX0_cell_17 (by decide) ?_
    exact hret hf hI dX0_cell_22 (Nat.le_refl _) (Nat.le_refl _)
/-! MergeJudge.numberOf(LMergeJudge$Told;I)I -/
def hX0_numberOf (j : JX) (Λ : JLam) (p0 : Nat) (p1 : Int32) (G : HG) (post : Int32 → HG → Prop) : Prop :=
  (p1 = 0 → (gtI G p0 10 0 fun x4 => post x4 G)) ∧ (¬ p1 = 0 → (isO G p0 10 (hX10_number j Λ p0 (p1 - 1) G fun x3 G2 => post x3 G2)))
abbrev rhX0_numberOf (fr lo : Nat) : Room := { frames := fr + 2, cells := 0, slots := 0, locals := lo + 61 }
theorem mhX0_numberOf (l : Launch) (Z : (Nat → Prop) → State → Heap → Prop) (D : va_G) (j : JX) (Λ : JLam) (fr lo : Nat) (E : JE l Z D j Λ fr lo) (p0 : Nat) (p1 : Int32) (G : HG) (post : Int32 → HG → Prop) (hf : hX0_numberOf j Λ p0 p1 G post) : HMi l yX0_numberOf (ws_ yX0_numberOf cX0_numberOf 2 (some .int)) (rhX0_numberOf fr lo) D jC (jty j.1) Z G [.ref p0, .int p1] post 0 0 := by
  refine h_openi E.1 (by decide) (by exact Nat.le_of_ble_eq_true rfl) (fun p e s m args below meth c ls A0 Q X hI hnd hnm hl hret => ?_)
  have X : XC p s m args meth c cX0_numberOf 2 RX0 D jC (jty j.1) A0 Z := X
  have hx := X.1
  have hb := X.2.1
  have hown := X.2.2.2.1
  have hts := X.2.2.2.2.1
  have hl : lv_has ls 2 [(0, .ref p0), (1, .int p1)] := by exact hl
  unfold hX0_numberOf at hf
  obtain ⟨H, eH⟩ : ∃ H, H = s.heap := ⟨_, rfl⟩
  obtain ⟨locs, eL⟩ : ∃ locs : List Loc, locs = [] := ⟨_, rfl⟩
  have hI : HI D jC G A0 s.heap H locs := by rw [eH, eL]; exact hI
  rw [← eL]
  suffices h : W p l e (rhX0_numberOf fr lo) s m args below meth c H locs 0 0 Q (F0 m 0 ls []) by rw [eH] at h; exact h
  clear eH eL
  refine lv_iload_n hx hb dX0_numberOf_0 rfl (lv_at hl 1 rfl) ?_
  refine lv_if_ne (tgt := 11) hx hb dX0_numberOf_1 (by decide) (fun c1 => ?_) (fun c1 => ?_)
  · have hf := hf.2 c1
    refine lv_aload_n hx hb dX0_numberOf_11 rfl (lv_at hl 0 rfl) ?_
    refine lv_iload_n hx hb dX0_numberOf_12 rfl (lv_at hl 1 rfl) ?_
    refine lv_iconst (v := 1) hx hb dX0_numberOf_13 (by decide) ?_
    refine lv_isub hx hb dX0_numberOf_14 ?_
    obtain ⟨_, _, hO, hf⟩ := hf
    refine h_ki X hI (h_runV (As := [.int (p1 - 1)]) X hI (h_recv X hI hO (show jC.1[10]? = some (RX10, TX10, 2) from rfl)) (mhX10_number l Z D j Λ fr lo E p0 (p1 - 1) G _ hf H.size) (cwV 1 hts (lw_V q1872 q1873 q1874 q208 q1875) rfl rfl rfl (by decide +kernel) (by show fr + 1 + 1 ≤ fr + 2 ∧ 8 + (2 + 11) + (lo + 40) ≤ lo + 61; omega)) rfl hl.1 (Nat.le_of_ble_eq_true rfl) dX0_numberOf_15 ⟨Nat.le_refl _, Nat.le_refl _⟩ rfl) (fun x3 G2 H locs hf hI => ?_)
    clear hO
    exact hret hf hI dX0_numberOf_18 (Nat.le_refl _) (Nat.le_refl _)
  · have hf := hf.1 c1
    refine lv_aload_n hx hb dX0_numberOf_4 rfl (lv_at hl 0 rfl) ?_
    refine hr_gtIN X hI (rfl : jC.1[10]? = some (RX10, TX10, 2)) in_X10 0 (Nat.le_of_ble_eq_true rfl) hf (E.nw X q1791 rfl) (fun _ h => h) dX0_numberOf_5 (fun x4 hf => ?_)
    refine lv_goto (tgt := 18) hx hb dX0_numberOf_8 (by decide) ?_
    exact hret hf hI dX0_numberOf_18 (Nat.le_refl _) (Nat.le_refl _)
/-! MergeJudge.states()I -/
def hX0_states (j : JX) (Λ : JLam) (a0 : Nat) (G : HG) (post : Int32 → HG → Prop) : Prop :=
  gtQ G a0 0 1 fun q1 => nnq q1 fun a2 => isO G a2 2 (hX2_is j Λ a2 G fun x4 G3 => (x4 = 0 → (post ((-2) : Int32) G3)) ∧ (¬ x4 = 0 → (isO G3 a0 0 (hX0_states0 j Λ a0 G3 fun x7 G6 => post x7 G6))))
abbrev rhX0_states (fr lo : Nat) : Room := { frames := fr + 2, cells := 0, slots := 0, locals := lo + 62 }
theorem mhX0_states (l : Launch) (Z : (Nat → Prop) → State → Heap → Prop) (D : va_G) (j : JX) (Λ : JLam) (fr lo : Nat) (E : JE l Z D j Λ fr lo) (a0 : Nat) (G : HG) (post : Int32 → HG → Prop) (hf : hX0_states j Λ a0 G post) : HMi l yX0_states (ws_ yX0_states cX0_states 1 (some .int)) (rhX0_states fr lo) D jC (jty j.1) Z G [.ref a0] post 0 0 := by
  refine h_openi E.1 (by decide) (by exact Nat.le_of_ble_eq_true rfl) (fun p e s m args below meth c ls A0 Q X hI hnd hnm hl hret => ?_)
  have X : XC p s m args meth c cX0_states 1 RX0 D jC (jty j.1) A0 Z := X
  have hx := X.1
  have hb := X.2.1
  have hown := X.2.2.2.1
  have hts := X.2.2.2.2.1
  have hl : lv_has ls 1 [(0, .ref a0)] := by exact hl
  unfold hX0_states at hf
  obtain ⟨H, eH⟩ : ∃ H, H = s.heap := ⟨_, rfl⟩
  obtain ⟨locs, eL⟩ : ∃ locs : List Loc, locs = [] := ⟨_, rfl⟩
  have hI : HI D jC G A0 s.heap H locs := by rw [eH, eL]; exact hI
  rw [← eL]
  suffices h : W p l e (rhX0_states fr lo) s m args below meth c H locs 0 0 Q (F0 m 0 ls []) by rw [eH] at h; exact h
  clear eH eL
  refine lv_aload_n hx hb dX0_states_0 rfl (lv_at hl 0 rfl) ?_
  refine hr_gtQ X hI (rfl : jC.1[0]? = some (RX0, TX0, 20)) in_X0 1 (Nat.le_of_ble_eq_true rfl) hf q653 (fun _ h => h) dX0_states_1 (fun q1 hf => ?_)
  obtain ⟨a2, ea2, hf⟩ := hf
  revert hl hf
  subst ea2
  intro hl hf
  have hl : lv_has ls 1 [(0, .ref a0)] := hl
  obtain ⟨_, _, hO, hf⟩ := hf
  refine h_ki X hI (h_runV (As := []) X hI (h_recv X hI hO (show jC.1[2]? = some (RX2, TX2, 11) from rfl)) (mhX2_is l Z D j Λ fr lo E a2 G _ hf H.size) (cwV 0 hts (lw_V q1839 q1840 q1841 q169 q1842) rfl rfl rfl (by decide +kernel) (by show fr + 1 + 1 ≤ fr + 2 ∧ 8 + (1 + 11) + (lo + 40) ≤ lo + 62; omega)) rfl hl.1 (Nat.le_of_ble_eq_true rfl) dX0_states_4 ⟨Nat.le_refl _, Nat.le_refl _⟩ rfl) (fun x4 G3 H locs hf hI => ?_)
  clear hO
  refine lv_if_eq (tgt := 17) hx hb dX0_states_7 (by decide) (fun c5 => ?_) (fun c5 => ?_)
  · have hf := hf.1 c5
    refine lv_bipush (v := -2) hx hb dX0_states_17 (by decide) ?_
    exact hret hf hI dX0_states_19 (Nat.le_refl _) (Nat.le_refl _)
  · have hf := hf.2 c5
    refine lv_aload_n hx hb dX0_states_10 rfl (lv_at hl 0 rfl) ?_
    obtain ⟨_, _, hO, hf⟩ := hf
    refine h_ki X hI (h_runV (As := []) X hI (h_recv X hI hO (show jC.1[0]? = some (RX0, TX0, 20) from rfl)) (mhX0_states0 l Z D j Λ fr lo E a0 G3 _ hf H.size) (cwV 0 hts (lw_V q1945 q1947 qs41 q167 q1948) rfl rfl rfl (by decide +kernel) (by show fr + 1 + 1 ≤ fr + 2 ∧ 8 + (3 + 11) + (lo + 40) ≤ lo + 62; omega)) rfl hl.1 (Nat.le_of_ble_eq_true rfl) dX0_states_11 ⟨Nat.le_refl _, Nat.le_refl _⟩ rfl) (fun x7 G6 H locs hf hI => ?_)
    clear hO
    refine lv_goto (tgt := 19) hx hb dX0_states_14 (by decide) ?_
    exact hret hf hI dX0_states_19 (Nat.le_refl _) (Nat.le_refl _)
/-! MergeJudge.value(II)I -/
def hX0_value (j : JX) (Λ : JLam) (a0 : Nat) (p1 : Int32) (p2 : Int32) (G : HG) (post : Int32 → HG → Prop) : Prop :=
  isO G a0 0 (hX0_isState j Λ a0 p1.toInt64 G fun x2 G1 => (x2 = 0 → (post ((-2) : Int32) G1)) ∧ (¬ x2 = 0 → (isO G1 a0 0 (hX0_isCell j Λ a0 p2 G1 fun x5 G4 => (x5 = 0 → (post ((-2) : Int32) G4)) ∧ (¬ x5 = 0 → (isO G4 a0 0 (hX0_valueOf j Λ a0 p1 p2 G4 fun x8 G7 => post x8 G7)))))))
abbrev rhX0_value (fr lo : Nat) : Room := { frames := fr + 3, cells := 0, slots := 0, locals := lo + 87 }
theorem mhX0_value (l : Launch) (Z : (Nat → Prop) → State → Heap → Prop) (D : va_G) (j : JX) (Λ : JLam) (fr lo : Nat) (E : JE l Z D j Λ fr lo) (a0 : Nat) (p1 : Int32) (p2 : Int32) (G : HG) (post : Int32 → HG → Prop) (hf : hX0_value j Λ a0 p1 p2 G post) : HMi l yX0_value (ws_ yX0_value cX0_value 3 (some .int)) (rhX0_value fr lo) D jC (jty j.1) Z G [.ref a0, .int p1, .int p2] post 0 0 := by
  refine h_openi E.1 (by decide) (by exact Nat.le_of_ble_eq_true rfl) (fun p e s m args below meth c ls A0 Q X hI hnd hnm hl hret => ?_)
  have X : XC p s m args meth c cX0_value 3 RX0 D jC (jty j.1) A0 Z := X
  have hx := X.1
  have hb := X.2.1
  have hown := X.2.2.2.1
  have hts := X.2.2.2.2.1
  have hl : lv_has ls 3 [(0, .ref a0), (1, .int p1), (2, .int p2)] := by exact hl
  unfold hX0_value at hf
  obtain ⟨H, eH⟩ : ∃ H, H = s.heap := ⟨_, rfl⟩
  obtain ⟨locs, eL⟩ : ∃ locs : List Loc, locs = [] := ⟨_, rfl⟩
  have hI : HI D jC G A0 s.heap H locs := by rw [eH, eL]; exact hI
  rw [← eL]
  suffices h : W p l e (rhX0_value fr lo) s m args below meth c H locs 0 0 Q (F0 m 0 ls []) by rw [eH] at h; exact h
  clear eH eL
  refine lv_aload_n hx hb dX0_value_0 rfl (lv_at hl 0 rfl) ?_
  refine lv_iload_n hx hb dX0_value_1 rfl (lv_at hl 1 rfl) ?_
  refine lv_i2l hx hb dX0_value_2 rfl ?_
  obtain ⟨_, _, hO, hf⟩ := hf
  refine h_ki X hI (h_runV (As := [.long p1.toInt64]) X hI (h_recv X hI hO (show jC.1[0]? = some (RX0, TX0, 20) from rfl)) (mhX0_isState l Z D j Λ fr lo E a0 p1.toInt64 G _ hf H.size) (cwV 1 hts (lw_V q1968 q1970 qs43 q167 q1971) rfl rfl rfl (by decide +kernel) (by show fr + 2 + 1 ≤ fr + 3 ∧ 8 + (3 + 11) + (lo + 65) ≤ lo + 87; omega)) rfl hl.1 (Nat.le_of_ble_eq_true rfl) dX0_value_3 ⟨Nat.le_refl _, Nat.le_refl _⟩ rfl) (fun x2 G1 H locs hf hI => ?_)
  clear hO
  refine lv_if_eq (tgt := 26) hx hb dX0_value_6 (by decide) (fun c3 => ?_) (fun c3 => ?_)
  · have hf := hf.1 c3
    refine lv_bipush (v := -2) hx hb dX0_value_26 (by decide) ?_
    exact hret hf hI dX0_value_28 (Nat.le_refl _) (Nat.le_refl _)
  · have hf := hf.2 c3
    refine lv_aload_n hx hb dX0_value_9 rfl (lv_at hl 0 rfl) ?_
    refine lv_iload_n hx hb dX0_value_10 rfl (lv_at hl 2 rfl) ?_
    obtain ⟨_, _, hO, hf⟩ := hf
    refine h_ki X hI (h_runV (As := [.int p2]) X hI (h_recv X hI hO (show jC.1[0]? = some (RX0, TX0, 20) from rfl)) (mhX0_isCell l Z D j Λ fr lo E a0 p2 G1 _ hf H.size) (cwV 1 hts (lw_V q2092 q2094 qs57 q167 q2095) rfl rfl rfl (by decide +kernel) (by show fr + 2 + 1 ≤ fr + 3 ∧ 8 + (2 + 11) + (lo + 65) ≤ lo + 87; omega)) rfl hl.1 (Nat.le_of_ble_eq_true rfl) dX0_value_11 ⟨Nat.le_refl _, Nat.le_refl _⟩ rfl) (fun x5 G4 H locs hf hI => ?_)
    clear hO
    refine lv_if_eq (tgt := 26) hx hb dX0_value_14 (by decide) (fun c6 => ?_) (fun c6 => ?_)
    · have hf := hf.1 c6
      refine lv_bipush (v := -2) hx hb dX0_value_26 (by decide) ?_
      exact hret hf hI dX0_value_28 (Nat.le_refl _) (Nat.le_refl _)
    · have hf := hf.2 c6
      refine lv_aload_n hx hb dX0_value_17 rfl (lv_at hl 0 rfl) ?_
      refine lv_iload_n hx hb dX0_value_18 rfl (lv_at hl 1 rfl) ?_
      refine lv_iload_n hx hb dX0_value_19 rfl (lv_at hl 2 rfl) ?_
      obtain ⟨_, _, hO, hf⟩ := hf
      refine h_ki X hI (h_runV (As := [.int p1, .int p2]) X hI (h_recv X hI hO (show jC.1[0]? = some (RX0, TX0, 20) from rfl)) (mhX0_valueOf l Z D j Λ fr lo E a0 p1 p2 G4 _ hf H.size) (cwV 2 hts (lw_V q1879 q1881 qs27 q167 q1882) rfl rfl rfl (by decide +kernel) (by show fr + 2 + 1 ≤ fr + 3 ∧ 8 + (3 + 11) + (lo + 63) ≤ lo + 87; omega)) rfl hl.1 (Nat.le_of_ble_eq_true rfl) dX0_value_20 ⟨Nat.le_refl _, Nat.le_refl _⟩ rfl) (fun x8 G7 H locs hf hI => ?_)
      clear hO
      refine lv_goto (tgt := 28) hx hb dX0_value_23 (by decide) ?_
      exact hret hf hI dX0_value_28 (Nat.le_refl _) (Nat.le_refl _)
/-! MergeJudge.holds(II)I -/
def hX0_holds (j : JX) (Λ : JLam) (a0 : Nat) (p1 : Int32) (p2 : Int32) (G : HG) (post : Int32 → HG → Prop) : Prop :=
  isO G a0 0 (hX0_isRule j Λ a0 p1 G fun x2 G1 => (x2 = 0 → (post ((-2) : Int32) G1)) ∧ (¬ x2 = 0 → (isO G1 a0 0 (hX0_isState j Λ a0 p2.toInt64 G1 fun x5 G4 => (x5 = 0 → (post ((-2) : Int32) G4)) ∧ (¬ x5 = 0 → (gtQ G4 a0 0 9 fun q7 => nnq q7 fun a8 => ldQ (jty j.1) G4 a8 p1 fun q9 => nnq q9 fun a10 => gtQ G4 a10 11 0 fun q11 => nnq q11 fun a12 => Λ.2.1 a12 p2 G4 fun x14 G13 => (x14 = 0 → (post (0 : Int32) G13)) ∧ (¬ x14 = 0 → (post (1 : Int32) G13))))))))
abbrev rhX0_holds (fr lo : Nat) : Room := { frames := fr + 3, cells := 0, slots := 0, locals := lo + 87 }
theorem mhX0_holds (l : Launch) (Z : (Nat → Prop) → State → Heap → Prop) (D : va_G) (j : JX) (Λ : JLam) (fr lo : Nat) (E : JE l Z D j Λ fr lo) (a0 : Nat) (p1 : Int32) (p2 : Int32) (G : HG) (post : Int32 → HG → Prop) (hf : hX0_holds j Λ a0 p1 p2 G post) : HMi l yX0_holds (ws_ yX0_holds cX0_holds 3 (some .int)) (rhX0_holds fr lo) D jC (jty j.1) Z G [.ref a0, .int p1, .int p2] post 0 0 := by
  refine h_openi E.1 (by decide) (by exact Nat.le_of_ble_eq_true rfl) (fun p e s m args below meth c ls A0 Q X hI hnd hnm hl hret => ?_)
  have X : XC p s m args meth c cX0_holds 3 RX0 D jC (jty j.1) A0 Z := X
  have hx := X.1
  have hb := X.2.1
  have hown := X.2.2.2.1
  have hts := X.2.2.2.2.1
  have hl : lv_has ls 3 [(0, .ref a0), (1, .int p1), (2, .int p2)] := by exact hl
  unfold hX0_holds at hf
  obtain ⟨H, eH⟩ : ∃ H, H = s.heap := ⟨_, rfl⟩
  obtain ⟨locs, eL⟩ : ∃ locs : List Loc, locs = [] := ⟨_, rfl⟩
  have hI : HI D jC G A0 s.heap H locs := by rw [eH, eL]; exact hI
  rw [← eL]
  suffices h : W p l e (rhX0_holds fr lo) s m args below meth c H locs 0 0 Q (F0 m 0 ls []) by rw [eH] at h; exact h
  clear eH eL
  refine lv_aload_n hx hb dX0_holds_0 rfl (lv_at hl 0 rfl) ?_
  refine lv_iload_n hx hb dX0_holds_1 rfl (lv_at hl 1 rfl) ?_
  obtain ⟨_, _, hO, hf⟩ := hf
  refine h_ki X hI (h_runV (As := [.int p1]) X hI (h_recv X hI hO (show jC.1[0]? = some (RX0, TX0, 20) from rfl)) (mhX0_isRule l Z D j Λ fr lo E a0 p1 G _ hf H.size) (cwV 1 hts (lw_V q2068 q2070 qs53 q167 q2071) rfl rfl rfl (by decide +kernel) (by show fr + 2 + 1 ≤ fr + 3 ∧ 8 + (2 + 11) + (lo + 65) ≤ lo + 87; omega)) rfl hl.1 (Nat.le_of_ble_eq_true rfl) dX0_holds_2 ⟨Nat.le_refl _, Nat.le_refl _⟩ rfl) (fun x2 G1 H locs hf hI => ?_)
  clear hO
  refine lv_if_eq (tgt := 43) hx hb dX0_holds_5 (by decide) (fun c3 => ?_) (fun c3 => ?_)
  · have hf := hf.1 c3
    refine lv_bipush (v := -2) hx hb dX0_holds_43 (by decide) ?_
    exact hret hf hI dX0_holds_45 (Nat.le_refl _) (Nat.le_refl _)
  · have hf := hf.2 c3
    refine lv_aload_n hx hb dX0_holds_8 rfl (lv_at hl 0 rfl) ?_
    refine lv_iload_n hx hb dX0_holds_9 rfl (lv_at hl 2 rfl) ?_
    refine lv_i2l hx hb dX0_holds_10 rfl ?_
    obtain ⟨_, _, hO, hf⟩ := hf
    refine h_ki X hI (h_runV (As := [.long p2.toInt64]) X hI (h_recv X hI hO (show jC.1[0]? = some (RX0, TX0, 20) from rfl)) (mhX0_isState l Z D j Λ fr lo E a0 p2.toInt64 G1 _ hf H.size) (cwV 1 hts (lw_V q1968 q1970 qs43 q167 q1971) rfl rfl rfl (by decide +kernel) (by show fr + 2 + 1 ≤ fr + 3 ∧ 8 + (3 + 11) + (lo + 65) ≤ lo + 87; omega)) rfl hl.1 (Nat.le_of_ble_eq_true rfl) dX0_holds_11 ⟨Nat.le_refl _, Nat.le_refl _⟩ rfl) (fun x5 G4 H locs hf hI => ?_)
    clear hO
    refine lv_if_eq (tgt := 43) hx hb dX0_holds_14 (by decide) (fun c6 => ?_) (fun c6 => ?_)
    · have hf := hf.1 c6
      refine lv_bipush (v := -2) hx hb dX0_holds_43 (by decide) ?_
      exact hret hf hI dX0_holds_45 (Nat.le_refl _) (Nat.le_refl _)
    · have hf := hf.2 c6
      refine lv_aload_n hx hb dX0_holds_17 rfl (lv_at hl 0 rfl) ?_
      refine hr_gtQ X hI (rfl : jC.1[0]? = some (RX0, TX0, 20)) in_X0 9 (Nat.le_of_ble_eq_true rfl) hf q661 (fun _ h => h) dX0_holds_18 (fun q7 hf => ?_)
      refine lv_iload_n hx hb dX0_holds_21 rfl (lv_at hl 1 rfl) ?_
      obtain ⟨a8, ea8, hf⟩ := hf
      revert hl hf
      subst ea8
      intro hl hf
      have hl : lv_has ls 3 [(0, .ref a0), (1, .int p1), (2, .int p2)] := hl
      refine hr_qld X hI hf dX0_holds_22 (fun q9 hf => ?_)
      obtain ⟨a10, ea10, hf⟩ := hf
      revert hl hf
      subst ea10
      intro hl hf
      have hl : lv_has ls 3 [(0, .ref a0), (1, .int p1), (2, .int p2)] := hl
      refine hr_gtQN X hI (rfl : jC.1[11]? = some (RX11, TX11, 1)) in_X11 0 (Nat.le_of_ble_eq_true rfl) hf (E.nw X q1907 rfl) (fun _ h => h) dX0_holds_23 (fun q11 hf => ?_)
      refine lv_iload_n hx hb dX0_holds_26 rfl (lv_at hl 2 rfl) ?_
      obtain ⟨a12, ea12, hf⟩ := hf
      revert hl hf
      subst ea12
      intro hl hf
      have hl : lv_has ls 3 [(0, .ref a0), (1, .int p1), (2, .int p2)] := hl
      refine hr_rule E X hI hf q1957 hl.1 (Nat.le_of_ble_eq_true rfl) ⟨Nat.le_add_right _ _, Nat.le_add_right _ _⟩ ⟨Nat.le_refl _, Nat.le_refl _⟩ dX0_holds_27 (fun x14 G13 H locs hf hI => ?_)
      refine lv_if_eq (tgt := 39) hx hb dX0_holds_32 (by decide) (fun c15 => ?_) (fun c15 => ?_)
      · have hf := hf.1 c15
        refine lv_iconst (v := 0) hx hb dX0_holds_39 (by decide) ?_
        refine lv_goto (tgt := 45) hx hb dX0_holds_40 (by decide) ?_
        exact hret hf hI dX0_holds_45 (Nat.le_refl _) (Nat.le_refl _)
      · have hf := hf.2 c15
        refine lv_iconst (v := 1) hx hb dX0_holds_35 (by decide) ?_
        refine lv_goto (tgt := 45) hx hb dX0_holds_36 (by decide) ?_
        exact hret hf hI dX0_holds_45 (Nat.le_refl _) (Nat.le_refl _)
/-! MergeJudge.dropped()I -/
def hX0_dropped (j : JX) (Λ : JLam) (a0 : Nat) (G : HG) (post : Int32 → HG → Prop) : Prop :=
  gtQ G a0 0 1 fun q1 => nnq q1 fun a2 => isO G a2 2 (hX2_is j Λ a2 G fun x4 G3 => (x4 = 0 → (post ((-2) : Int32) G3)) ∧ (¬ x4 = 0 → (gtQ G3 a0 0 1 fun q6 => nnq q6 fun a7 => gtI G3 a7 2 8 fun x8 => post x8 G3)))
abbrev rhX0_dropped (fr lo : Nat) : Room := { frames := fr + 2, cells := 0, slots := 0, locals := lo + 60 }
theorem mhX0_dropped (l : Launch) (Z : (Nat → Prop) → State → Heap → Prop) (D : va_G) (j : JX) (Λ : JLam) (fr lo : Nat) (E : JE l Z D j Λ fr lo) (a0 : Nat) (G : HG) (post : Int32 → HG → Prop) (hf : hX0_dropped j Λ a0 G post) : HMi l yX0_dropped (ws_ yX0_dropped cX0_dropped 1 (some .int)) (rhX0_dropped fr lo) D jC (jty j.1) Z G [.ref a0] post 0 0 := by
  refine h_openi E.1 (by decide) (by exact Nat.le_of_ble_eq_true rfl) (fun p e s m args below meth c ls A0 Q X hI hnd hnm hl hret => ?_)
  have X : XC p s m args meth c cX0_dropped 1 RX0 D jC (jty j.1) A0 Z := X
  have hx := X.1
  have hb := X.2.1
  have hown := X.2.2.2.1
  have hts := X.2.2.2.2.1
  have hl : lv_has ls 1 [(0, .ref a0)] := by exact hl
  unfold hX0_dropped at hf
  obtain ⟨H, eH⟩ : ∃ H, H = s.heap := ⟨_, rfl⟩
  obtain ⟨locs, eL⟩ : ∃ locs : List Loc, locs = [] := ⟨_, rfl⟩
  have hI : HI D jC G A0 s.heap H locs := by rw [eH, eL]; exact hI
  rw [← eL]
  suffices h : W p l e (rhX0_dropped fr lo) s m args below meth c H locs 0 0 Q (F0 m 0 ls []) by rw [eH] at h; exact h
  clear eH eL
  refine lv_aload_n hx hb dX0_dropped_0 rfl (lv_at hl 0 rfl) ?_
  refine hr_gtQ X hI (rfl : jC.1[0]? = some (RX0, TX0, 20)) in_X0 1 (Nat.le_of_ble_eq_true rfl) hf q653 (fun _ h => h) dX0_dropped_1 (fun q1 hf => ?_)
  obtain ⟨a2, ea2, hf⟩ := hf
  revert hl hf
  subst ea2
  intro hl hf
  have hl : lv_has ls 1 [(0, .ref a0)] := hl
  obtain ⟨_, _, hO, hf⟩ := hf
  refine h_ki X hI (h_runV (As := []) X hI (h_recv X hI hO (show jC.1[2]? = some (RX2, TX2, 11) from rfl)) (mhX2_is l Z D j Λ fr lo E a2 G _ hf H.size) (cwV 0 hts (lw_V q1839 q1840 q1841 q169 q1842) rfl rfl rfl (by decide +kernel) (by show fr + 1 + 1 ≤ fr + 2 ∧ 8 + (1 + 11) + (lo + 40) ≤ lo + 60; omega)) rfl hl.1 (Nat.le_of_ble_eq_true rfl) dX0_dropped_4 ⟨Nat.le_refl _, Nat.le_refl _⟩ rfl) (fun x4 G3 H locs hf hI => ?_)
  clear hO
  refine lv_if_eq (tgt := 20) hx hb dX0_dropped_7 (by decide) (fun c5 => ?_) (fun c5 => ?_)
  · have hf := hf.1 c5
    refine lv_bipush (v := -2) hx hb dX0_dropped_20 (by decide) ?_
    exact hret hf hI dX0_dropped_22 (Nat.le_refl _) (Nat.le_refl _)
  · have hf := hf.2 c5
    refine lv_aload_n hx hb dX0_dropped_10 rfl (lv_at hl 0 rfl) ?_
    refine hr_gtQ X hI (rfl : jC.1[0]? = some (RX0, TX0, 20)) in_X0 1 (Nat.le_of_ble_eq_true rfl) hf q653 (fun _ h => h) dX0_dropped_11 (fun q6 hf => ?_)
    obtain ⟨a7, ea7, hf⟩ := hf
    revert hl hf
    subst ea7
    intro hl hf
    have hl : lv_has ls 1 [(0, .ref a0)] := hl
    refine hr_gtIN X hI (rfl : jC.1[2]? = some (RX2, TX2, 11)) in_X2 8 (Nat.le_of_ble_eq_true rfl) hf (E.nw X q502 rfl) (fun _ h => h) dX0_dropped_14 (fun x8 hf => ?_)
    refine lv_goto (tgt := 22) hx hb dX0_dropped_17 (by decide) ?_
    exact hret hf hI dX0_dropped_22 (Nat.le_refl _) (Nat.le_refl _)
/-! MergeJudge.locked()I -/
def hX0_locked (j : JX) (Λ : JLam) (a0 : Nat) (G : HG) (post : Int32 → HG → Prop) : Prop :=
  gtQ G a0 0 1 fun q1 => nnq q1 fun a2 => isO G a2 2 (hX2_is j Λ a2 G fun x4 G3 => (x4 = 0 → (post ((-2) : Int32) G3)) ∧ (¬ x4 = 0 → (gtQ G3 a0 0 1 fun q6 => nnq q6 fun a7 => gtI G3 a7 2 9 fun x8 => post x8 G3)))
abbrev rhX0_locked (fr lo : Nat) : Room := { frames := fr + 2, cells := 0, slots := 0, locals := lo + 60 }
theorem mhX0_locked (l : Launch) (Z : (Nat → Prop) → State → Heap → Prop) (D : va_G) (j : JX) (Λ : JLam) (fr lo : Nat) (E : JE l Z D j Λ fr lo) (a0 : Nat) (G : HG) (post : Int32 → HG → Prop) (hf : hX0_locked j Λ a0 G post) : HMi l yX0_locked (ws_ yX0_locked cX0_locked 1 (some .int)) (rhX0_locked fr lo) D jC (jty j.1) Z G [.ref a0] post 0 0 := by
  refine h_openi E.1 (by decide) (by exact Nat.le_of_ble_eq_true rfl) (fun p e s m args below meth c ls A0 Q X hI hnd hnm hl hret => ?_)
  have X : XC p s m args meth c cX0_locked 1 RX0 D jC (jty j.1) A0 Z := X
  have hx := X.1
  have hb := X.2.1
  have hown := X.2.2.2.1
  have hts := X.2.2.2.2.1
  have hl : lv_has ls 1 [(0, .ref a0)] := by exact hl
  unfold hX0_locked at hf
  obtain ⟨H, eH⟩ : ∃ H, H = s.heap := ⟨_, rfl⟩
  obtain ⟨locs, eL⟩ : ∃ locs : List Loc, locs = [] := ⟨_, rfl⟩
  have hI : HI D jC G A0 s.heap H locs := by rw [eH, eL]; exact hI
  rw [← eL]
  suffices h : W p l e (rhX0_locked fr lo) s m args below meth c H locs 0 0 Q (F0 m 0 ls []) by rw [eH] at h; exact h
  clear eH eL
  refine lv_aload_n hx hb dX0_locked_0 rfl (lv_at hl 0 rfl) ?_
  refine hr_gtQ X hI (rfl : jC.1[0]? = some (RX0, TX0, 20)) in_X0 1 (Nat.le_of_ble_eq_true rfl) hf q653 (fun _ h => h) dX0_locked_1 (fun q1 hf => ?_)
  obtain ⟨a2, ea2, hf⟩ := hf
  revert hl hf
  subst ea2
  intro hl hf
  have hl : lv_has ls 1 [(0, .ref a0)] := hl
  obtain ⟨_, _, hO, hf⟩ := hf
  refine h_ki X hI (h_runV (As := []) X hI (h_recv X hI hO (show jC.1[2]? = some (RX2, TX2, 11) from rfl)) (mhX2_is l Z D j Λ fr lo E a2 G _ hf H.size) (cwV 0 hts (lw_V q1839 q1840 q1841 q169 q1842) rfl rfl rfl (by decide +kernel) (by show fr + 1 + 1 ≤ fr + 2 ∧ 8 + (1 + 11) + (lo + 40) ≤ lo + 60; omega)) rfl hl.1 (Nat.le_of_ble_eq_true rfl) dX0_locked_4 ⟨Nat.le_refl _, Nat.le_refl _⟩ rfl) (fun x4 G3 H locs hf hI => ?_)
  clear hO
  refine lv_if_eq (tgt := 20) hx hb dX0_locked_7 (by decide) (fun c5 => ?_) (fun c5 => ?_)
  · have hf := hf.1 c5
    refine lv_bipush (v := -2) hx hb dX0_locked_20 (by decide) ?_
    exact hret hf hI dX0_locked_22 (Nat.le_refl _) (Nat.le_refl _)
  · have hf := hf.2 c5
    refine lv_aload_n hx hb dX0_locked_10 rfl (lv_at hl 0 rfl) ?_
    refine hr_gtQ X hI (rfl : jC.1[0]? = some (RX0, TX0, 20)) in_X0 1 (Nat.le_of_ble_eq_true rfl) hf q653 (fun _ h => h) dX0_locked_11 (fun q6 hf => ?_)
    obtain ⟨a7, ea7, hf⟩ := hf
    revert hl hf
    subst ea7
    intro hl hf
    have hl : lv_has ls 1 [(0, .ref a0)] := hl
    refine hr_gtIN X hI (rfl : jC.1[2]? = some (RX2, TX2, 11)) in_X2 9 (Nat.le_of_ble_eq_true rfl) hf (E.nw X q505 rfl) (fun _ h => h) dX0_locked_14 (fun x8 hf => ?_)
    refine lv_goto (tgt := 22) hx hb dX0_locked_17 (by decide) ?_
    exact hret hf hI dX0_locked_22 (Nat.le_refl _) (Nat.le_refl _)
/-! MergeJudge.valid(I)I -/
def hX0_valid (j : JX) (Λ : JLam) (a0 : Nat) (p1 : Int32) (G : HG) (post : Int32 → HG → Prop) : Prop :=
  isO G a0 0 (hX0_isState j Λ a0 p1.toInt64 G fun x2 G1 => (x2 = 0 → (post ((-2) : Int32) G1)) ∧ (¬ x2 = 0 → (gtQ G1 a0 0 11 fun q4 => nnq q4 fun a5 => ldI G1 a5 (j.1 1) p1 fun x6 => (x6 = 0 → (post (0 : Int32) G1)) ∧ (¬ x6 = 0 → (post (1 : Int32) G1)))))
abbrev rhX0_valid (fr lo : Nat) : Room := { frames := fr + 3, cells := 0, slots := 0, locals := lo + 87 }
theorem mhX0_valid (l : Launch) (Z : (Nat → Prop) → State → Heap → Prop) (D : va_G) (j : JX) (Λ : JLam) (fr lo : Nat) (E : JE l Z D j Λ fr lo) (a0 : Nat) (p1 : Int32) (G : HG) (post : Int32 → HG → Prop) (hf : hX0_valid j Λ a0 p1 G post) : HMi l yX0_valid (ws_ yX0_valid cX0_valid 2 (some .int)) (rhX0_valid fr lo) D jC (jty j.1) Z G [.ref a0, .int p1] post 0 0 := by
  refine h_openi E.1 (by decide) (by exact Nat.le_of_ble_eq_true rfl) (fun p e s m args below meth c ls A0 Q X hI hnd hnm hl hret => ?_)
  have X : XC p s m args meth c cX0_valid 2 RX0 D jC (jty j.1) A0 Z := X
  have hx := X.1
  have hb := X.2.1
  have hown := X.2.2.2.1
  have hts := X.2.2.2.2.1
  have hl : lv_has ls 2 [(0, .ref a0), (1, .int p1)] := by exact hl
  unfold hX0_valid at hf
  obtain ⟨H, eH⟩ : ∃ H, H = s.heap := ⟨_, rfl⟩
  obtain ⟨locs, eL⟩ : ∃ locs : List Loc, locs = [] := ⟨_, rfl⟩
  have hI : HI D jC G A0 s.heap H locs := by rw [eH, eL]; exact hI
  rw [← eL]
  suffices h : W p l e (rhX0_valid fr lo) s m args below meth c H locs 0 0 Q (F0 m 0 ls []) by rw [eH] at h; exact h
  clear eH eL
  refine lv_aload_n hx hb dX0_valid_0 rfl (lv_at hl 0 rfl) ?_
  refine lv_iload_n hx hb dX0_valid_1 rfl (lv_at hl 1 rfl) ?_
  refine lv_i2l hx hb dX0_valid_2 rfl ?_
  obtain ⟨_, _, hO, hf⟩ := hf
  refine h_ki X hI (h_runV (As := [.long p1.toInt64]) X hI (h_recv X hI hO (show jC.1[0]? = some (RX0, TX0, 20) from rfl)) (mhX0_isState l Z D j Λ fr lo E a0 p1.toInt64 G _ hf H.size) (cwV 1 hts (lw_V q1968 q1970 qs43 q167 q1971) rfl rfl rfl (by decide +kernel) (by show fr + 2 + 1 ≤ fr + 3 ∧ 8 + (3 + 11) + (lo + 65) ≤ lo + 87; omega)) rfl hl.1 (Nat.le_of_ble_eq_true rfl) dX0_valid_3 ⟨Nat.le_refl _, Nat.le_refl _⟩ rfl) (fun x2 G1 H locs hf hI => ?_)
  clear hO
  refine lv_if_eq (tgt := 26) hx hb dX0_valid_6 (by decide) (fun c3 => ?_) (fun c3 => ?_)
  · have hf := hf.1 c3
    refine lv_bipush (v := -2) hx hb dX0_valid_26 (by decide) ?_
    exact hret hf hI dX0_valid_28 (Nat.le_refl _) (Nat.le_refl _)
  · have hf := hf.2 c3
    refine lv_aload_n hx hb dX0_valid_9 rfl (lv_at hl 0 rfl) ?_
    refine hr_gtQ X hI (rfl : jC.1[0]? = some (RX0, TX0, 20)) in_X0 11 (Nat.le_of_ble_eq_true rfl) hf q664 (fun _ h => h) dX0_valid_10 (fun q4 hf => ?_)
    refine lv_iload_n hx hb dX0_valid_13 rfl (lv_at hl 1 rfl) ?_
    obtain ⟨a5, ea5, hf⟩ := hf
    revert hl hf
    subst ea5
    intro hl hf
    have hl : lv_has ls 2 [(0, .ref a0), (1, .int p1)] := hl
    refine hr_zld X hI 1 rfl hf dX0_valid_14 (fun x6 hf => ?_)
    refine lv_if_eq (tgt := 22) hx hb dX0_valid_15 (by decide) (fun c7 => ?_) (fun c7 => ?_)
    · have hf := hf.1 c7
      refine lv_iconst (v := 0) hx hb dX0_valid_22 (by decide) ?_
      refine lv_goto (tgt := 28) hx hb dX0_valid_23 (by decide) ?_
      exact hret hf hI dX0_valid_28 (Nat.le_refl _) (Nat.le_refl _)
    · have hf := hf.2 c7
      refine lv_iconst (v := 1) hx hb dX0_valid_18 (by decide) ?_
      refine lv_goto (tgt := 28) hx hb dX0_valid_19 (by decide) ?_
      exact hret hf hI dX0_valid_28 (Nat.le_refl _) (Nat.le_refl _)
/-! MergeJudge.valids()I -/
def hX0_valids (j : JX) (Λ : JLam) (a0 : Nat) (G : HG) (post : Int32 → HG → Prop) : Prop :=
  gtQ G a0 0 1 fun q1 => nnq q1 fun a2 => isO G a2 2 (hX2_is j Λ a2 G fun x4 G3 => (x4 = 0 → (post ((-2) : Int32) G3)) ∧ (¬ x4 = 0 → (isO G3 a0 0 (hX0_validsNow j Λ a0 G3 fun x7 G6 => post x7 G6))))
abbrev rhX0_valids (fr lo : Nat) : Room := { frames := fr + 3, cells := 0, slots := 0, locals := lo + 84 }
theorem mhX0_valids (l : Launch) (Z : (Nat → Prop) → State → Heap → Prop) (D : va_G) (j : JX) (Λ : JLam) (fr lo : Nat) (E : JE l Z D j Λ fr lo) (a0 : Nat) (G : HG) (post : Int32 → HG → Prop) (hf : hX0_valids j Λ a0 G post) : HMi l yX0_valids (ws_ yX0_valids cX0_valids 1 (some .int)) (rhX0_valids fr lo) D jC (jty j.1) Z G [.ref a0] post 0 0 := by
  refine h_openi E.1 (by decide) (by exact Nat.le_of_ble_eq_true rfl) (fun p e s m args below meth c ls A0 Q X hI hnd hnm hl hret => ?_)
  have X : XC p s m args meth c cX0_valids 1 RX0 D jC (jty j.1) A0 Z := X
  have hx := X.1
  have hb := X.2.1
  have hown := X.2.2.2.1
  have hts := X.2.2.2.2.1
  have hl : lv_has ls 1 [(0, .ref a0)] := by exact hl
  unfold hX0_valids at hf
  obtain ⟨H, eH⟩ : ∃ H, H = s.heap := ⟨_, rfl⟩
  obtain ⟨locs, eL⟩ : ∃ locs : List Loc, locs = [] := ⟨_, rfl⟩
  have hI : HI D jC G A0 s.heap H locs := by rw [eH, eL]; exact hI
  rw [← eL]
  suffices h : W p l e (rhX0_valids fr lo) s m args below meth c H locs 0 0 Q (F0 m 0 ls []) by rw [eH] at h; exact h
  clear eH eL
  refine lv_aload_n hx hb dX0_valids_0 rfl (lv_at hl 0 rfl) ?_
  refine hr_gtQ X hI (rfl : jC.1[0]? = some (RX0, TX0, 20)) in_X0 1 (Nat.le_of_ble_eq_true rfl) hf q653 (fun _ h => h) dX0_valids_1 (fun q1 hf => ?_)
  obtain ⟨a2, ea2, hf⟩ := hf
  revert hl hf
  subst ea2
  intro hl hf
  have hl : lv_has ls 1 [(0, .ref a0)] := hl
  obtain ⟨_, _, hO, hf⟩ := hf
  refine h_ki X hI (h_runV (As := []) X hI (h_recv X hI hO (show jC.1[2]? = some (RX2, TX2, 11) from rfl)) (mhX2_is l Z D j Λ fr lo E a2 G _ hf H.size) (cwV 0 hts (lw_V q1839 q1840 q1841 q169 q1842) rfl rfl rfl (by decide +kernel) (by show fr + 1 + 1 ≤ fr + 3 ∧ 8 + (1 + 11) + (lo + 40) ≤ lo + 84; omega)) rfl hl.1 (Nat.le_of_ble_eq_true rfl) dX0_valids_4 ⟨Nat.le_refl _, Nat.le_refl _⟩ rfl) (fun x4 G3 H locs hf hI => ?_)
  clear hO
  refine lv_if_eq (tgt := 17) hx hb dX0_valids_7 (by decide) (fun c5 => ?_) (fun c5 => ?_)
  · have hf := hf.1 c5
    refine lv_bipush (v := -2) hx hb dX0_valids_17 (by decide) ?_
    exact hret hf hI dX0_valids_19 (Nat.le_refl _) (Nat.le_refl _)
  · have hf := hf.2 c5
    refine lv_aload_n hx hb dX0_valids_10 rfl (lv_at hl 0 rfl) ?_
    obtain ⟨_, _, hO, hf⟩ := hf
    refine h_ki X hI (h_runV (As := []) X hI (h_recv X hI hO (show jC.1[0]? = some (RX0, TX0, 20) from rfl)) (mhX0_validsNow l Z D j Λ fr lo E a0 G3 _ hf H.size) (cwV 0 hts (lw_V q2087 q2077 qs55 q167 q2078) rfl rfl rfl (by decide +kernel) (by show fr + 2 + 1 ≤ fr + 3 ∧ 8 + (3 + 11) + (lo + 62) ≤ lo + 84; omega)) rfl hl.1 (Nat.le_of_ble_eq_true rfl) dX0_valids_11 ⟨Nat.le_refl _, Nat.le_refl _⟩ rfl) (fun x7 G6 H locs hf hI => ?_)
    clear hO
    refine lv_goto (tgt := 19) hx hb dX0_valids_14 (by decide) ?_
    exact hret hf hI dX0_valids_19 (Nat.le_refl _) (Nat.le_refl _)
/-! MergeJudge.breaks(I)I -/
def hX0_breaks (j : JX) (Λ : JLam) (a0 : Nat) (p1 : Int32) (G : HG) (post : Int32 → HG → Prop) : Prop :=
  isO G a0 0 (hX0_isState j Λ a0 p1.toInt64 G fun x2 G1 => (x2 = 0 → (post ((-2) : Int32) G1)) ∧ (¬ x2 = 0 → (isO G1 a0 0 (hX0_breaksIn j Λ a0 p1 G1 fun x5 G4 => post x5 G4))))
abbrev rhX0_breaks (fr lo : Nat) : Room := { frames := fr + 3, cells := 0, slots := 0, locals := lo + 87 }
theorem mhX0_breaks (l : Launch) (Z : (Nat → Prop) → State → Heap → Prop) (D : va_G) (j : JX) (Λ : JLam) (fr lo : Nat) (E : JE l Z D j Λ fr lo) (a0 : Nat) (p1 : Int32) (G : HG) (post : Int32 → HG → Prop) (hf : hX0_breaks j Λ a0 p1 G post) : HMi l yX0_breaks (ws_ yX0_breaks cX0_breaks 2 (some .int)) (rhX0_breaks fr lo) D jC (jty j.1) Z G [.ref a0, .int p1] post 0 0 := by
  refine h_openi E.1 (by decide) (by exact Nat.le_of_ble_eq_true rfl) (fun p e s m args below meth c ls A0 Q X hI hnd hnm hl hret => ?_)
  have X : XC p s m args meth c cX0_breaks 2 RX0 D jC (jty j.1) A0 Z := X
  have hx := X.1
  have hb := X.2.1
  have hown := X.2.2.2.1
  have hts := X.2.2.2.2.1
  have hl : lv_has ls 2 [(0, .ref a0), (1, .int p1)] := by exact hl
  unfold hX0_breaks at hf
  obtain ⟨H, eH⟩ : ∃ H, H = s.heap := ⟨_, rfl⟩
  obtain ⟨locs, eL⟩ : ∃ locs : List Loc, locs = [] := ⟨_, rfl⟩
  have hI : HI D jC G A0 s.heap H locs := by rw [eH, eL]; exact hI
  rw [← eL]
  suffices h : W p l e (rhX0_breaks fr lo) s m args below meth c H locs 0 0 Q (F0 m 0 ls []) by rw [eH] at h; exact h
  clear eH eL
  refine lv_aload_n hx hb dX0_breaks_0 rfl (lv_at hl 0 rfl) ?_
  refine lv_iload_n hx hb dX0_breaks_1 rfl (lv_at hl 1 rfl) ?_
  refine lv_i2l hx hb dX0_breaks_2 rfl ?_
  obtain ⟨_, _, hO, hf⟩ := hf
  refine h_ki X hI (h_runV (As := [.long p1.toInt64]) X hI (h_recv X hI hO (show jC.1[0]? = some (RX0, TX0, 20) from rfl)) (mhX0_isState l Z D j Λ fr lo E a0 p1.toInt64 G _ hf H.size) (cwV 1 hts (lw_V q1968 q1970 qs43 q167 q1971) rfl rfl rfl (by decide +kernel) (by show fr + 2 + 1 ≤ fr + 3 ∧ 8 + (3 + 11) + (lo + 65) ≤ lo + 87; omega)) rfl hl.1 (Nat.le_of_ble_eq_true rfl) dX0_breaks_3 ⟨Nat.le_refl _, Nat.le_refl _⟩ rfl) (fun x2 G1 H locs hf hI => ?_)
  clear hO
  refine lv_if_eq (tgt := 17) hx hb dX0_breaks_6 (by decide) (fun c3 => ?_) (fun c3 => ?_)
  · have hf := hf.1 c3
    refine lv_bipush (v := -2) hx hb dX0_breaks_17 (by decide) ?_
    exact hret hf hI dX0_breaks_19 (Nat.le_refl _) (Nat.le_refl _)
  · have hf := hf.2 c3
    refine lv_aload_n hx hb dX0_breaks_9 rfl (lv_at hl 0 rfl) ?_
    refine lv_iload_n hx hb dX0_breaks_10 rfl (lv_at hl 1 rfl) ?_
    obtain ⟨_, _, hO, hf⟩ := hf
    refine h_ki X hI (h_runV (As := [.int p1]) X hI (h_recv X hI hO (show jC.1[0]? = some (RX0, TX0, 20) from rfl)) (mhX0_breaksIn l Z D j Λ fr lo E a0 p1 G1 _ hf H.size) (cwV 1 hts (lw_V q1949 q1951 qs42 q167 q1952) rfl rfl rfl (by decide +kernel) (by show fr + 2 + 1 ≤ fr + 3 ∧ 8 + (3 + 11) + (lo + 61) ≤ lo + 87; omega)) rfl hl.1 (Nat.le_of_ble_eq_true rfl) dX0_breaks_11 ⟨Nat.le_refl _, Nat.le_refl _⟩ rfl) (fun x5 G4 H locs hf hI => ?_)
    clear hO
    refine lv_goto (tgt := 19) hx hb dX0_breaks_14 (by decide) ?_
    exact hret hf hI dX0_breaks_19 (Nat.le_refl _) (Nat.le_refl _)
/-! MergeJudge.does(II)I -/
def hX0_does (j : JX) (Λ : JLam) (a0 : Nat) (p1 : Int32) (p2 : Int32) (G : HG) (post : Int32 → HG → Prop) : Prop :=
  isO G a0 0 (hX0_isOp j Λ a0 p1 G fun x2 G1 => (x2 = 0 → (post ((-2) : Int32) G1)) ∧ (¬ x2 = 0 → (isO G1 a0 0 (hX0_isState j Λ a0 p2.toInt64 G1 fun x5 G4 => (x5 = 0 → (post ((-2) : Int32) G4)) ∧ (¬ x5 = 0 → (isO G4 a0 0 (hX0_stepIn j Λ a0 p1 p2 G4 fun x8 G7 => post x8 G7)))))))
abbrev rhX0_does (fr lo : Nat) : Room := { frames := fr + 3, cells := 0, slots := 0, locals := lo + 87 }
theorem mhX0_does (l : Launch) (Z : (Nat → Prop) → State → Heap → Prop) (D : va_G) (j : JX) (Λ : JLam) (fr lo : Nat) (E : JE l Z D j Λ fr lo) (a0 : Nat) (p1 : Int32) (p2 : Int32) (G : HG) (post : Int32 → HG → Prop) (hf : hX0_does j Λ a0 p1 p2 G post) : HMi l yX0_does (ws_ yX0_does cX0_does 3 (some .int)) (rhX0_does fr lo) D jC (jty j.1) Z G [.ref a0, .int p1, .int p2] post 0 0 := by
  refine h_openi E.1 (by decide) (by exact Nat.le_of_ble_eq_true rfl) (fun p e s m args below meth c ls A0 Q X hI hnd hnm hl hret => ?_)
  have X : XC p s m args meth c cX0_does 3 RX0 D jC (jty j.1) A0 Z := X
  have hx := X.1
  have hb := X.2.1
  have hown := X.2.2.2.1
  have hts := X.2.2.2.2.1
  have hl : lv_has ls 3 [(0, .ref a0), (1, .int p1), (2, .int p2)] := by exact hl
  unfold hX0_does at hf
  obtain ⟨H, eH⟩ : ∃ H, H = s.heap := ⟨_, rfl⟩
  obtain ⟨locs, eL⟩ : ∃ locs : List Loc, locs = [] := ⟨_, rfl⟩
  have hI : HI D jC G A0 s.heap H locs := by rw [eH, eL]; exact hI
  rw [← eL]
  suffices h : W p l e (rhX0_does fr lo) s m args below meth c H locs 0 0 Q (F0 m 0 ls []) by rw [eH] at h; exact h
  clear eH eL
  refine lv_aload_n hx hb dX0_does_0 rfl (lv_at hl 0 rfl) ?_
  refine lv_iload_n hx hb dX0_does_1 rfl (lv_at hl 1 rfl) ?_
  obtain ⟨_, _, hO, hf⟩ := hf
  refine h_ki X hI (h_runV (As := [.int p1]) X hI (h_recv X hI hO (show jC.1[0]? = some (RX0, TX0, 20) from rfl)) (mhX0_isOp l Z D j Λ fr lo E a0 p1 G _ hf H.size) (cwV 1 hts (lw_V q2047 q2049 qs51 q167 q2050) rfl rfl rfl (by decide +kernel) (by show fr + 2 + 1 ≤ fr + 3 ∧ 8 + (2 + 11) + (lo + 65) ≤ lo + 87; omega)) rfl hl.1 (Nat.le_of_ble_eq_true rfl) dX0_does_2 ⟨Nat.le_refl _, Nat.le_refl _⟩ rfl) (fun x2 G1 H locs hf hI => ?_)
  clear hO
  refine lv_if_eq (tgt := 26) hx hb dX0_does_5 (by decide) (fun c3 => ?_) (fun c3 => ?_)
  · have hf := hf.1 c3
    refine lv_bipush (v := -2) hx hb dX0_does_26 (by decide) ?_
    exact hret hf hI dX0_does_28 (Nat.le_refl _) (Nat.le_refl _)
  · have hf := hf.2 c3
    refine lv_aload_n hx hb dX0_does_8 rfl (lv_at hl 0 rfl) ?_
    refine lv_iload_n hx hb dX0_does_9 rfl (lv_at hl 2 rfl) ?_
    refine lv_i2l hx hb dX0_does_10 rfl ?_
    obtain ⟨_, _, hO, hf⟩ := hf
    refine h_ki X hI (h_runV (As := [.long p2.toInt64]) X hI (h_recv X hI hO (show jC.1[0]? = some (RX0, TX0, 20) from rfl)) (mhX0_isState l Z D j Λ fr lo E a0 p2.toInt64 G1 _ hf H.size) (cwV 1 hts (lw_V q1968 q1970 qs43 q167 q1971) rfl rfl rfl (by decide +kernel) (by show fr + 2 + 1 ≤ fr + 3 ∧ 8 + (3 + 11) + (lo + 65) ≤ lo + 87; omega)) rfl hl.1 (Nat.le_of_ble_eq_true rfl) dX0_does_11 ⟨Nat.le_refl _, Nat.le_refl _⟩ rfl) (fun x5 G4 H locs hf hI => ?_)
    clear hO
    refine lv_if_eq (tgt := 26) hx hb dX0_does_14 (by decide) (fun c6 => ?_) (fun c6 => ?_)
    · have hf := hf.1 c6
      refine lv_bipush (v := -2) hx hb dX0_does_26 (by decide) ?_
      exact hret hf hI dX0_does_28 (Nat.le_refl _) (Nat.le_refl _)
    · have hf := hf.2 c6
      refine lv_aload_n hx hb dX0_does_17 rfl (lv_at hl 0 rfl) ?_
      refine lv_iload_n hx hb dX0_does_18 rfl (lv_at hl 1 rfl) ?_
      refine lv_iload_n hx hb dX0_does_19 rfl (lv_at hl 2 rfl) ?_
      obtain ⟨_, _, hO, hf⟩ := hf
      refine h_ki X hI (h_runV (As := [.int p1, .int p2]) X hI (h_recv X hI hO (show jC.1[0]? = some (RX0, TX0, 20) from rfl)) (mhX0_stepIn l Z D j Λ fr lo E a0 p1 p2 G4 _ hf H.size) (cwV 2 hts (lw_V q2037 q2011 qs49 q167 q2012) rfl rfl rfl (by decide +kernel) (by show fr + 1 + 1 ≤ fr + 3 ∧ 8 + (4 + 11) + (lo + 40) ≤ lo + 87; omega)) rfl hl.1 (Nat.le_of_ble_eq_true rfl) dX0_does_20 ⟨Nat.le_refl _, Nat.le_refl _⟩ rfl) (fun x8 G7 H locs hf hI => ?_)
      clear hO
      refine lv_goto (tgt := 28) hx hb dX0_does_23 (by decide) ?_
      exact hret hf hI dX0_does_28 (Nat.le_refl _) (Nat.le_refl _)
/-! MergeJudge.worksOf(I)I -/
def hX0_worksOf_b37 (j : JX) (Λ : JLam) (a0 : Nat) (p1 : Int32) (post : Int32 → HG → Prop) (K4 : Int32 → Int32 → HG → Prop) (lx3 : Int32) (z0 : Int32) (z1 : Int32) (G : HG) : Prop :=
  K4 (z0 + z1) (lx3 + 1) G
def hX0_worksOf_b36 (j : JX) (Λ : JLam) (a0 : Nat) (p1 : Int32) (post : Int32 → HG → Prop) (K4 : Int32 → Int32 → HG → Prop) (lx3 : Int32) (z0 : Int32) (G : HG) : Prop :=
  hX0_worksOf_b37 j Λ a0 p1 post K4 lx3 z0 (0 : Int32) G
def hX0_worksOf_b4 (j : JX) (Λ : JLam) (a0 : Nat) (p1 : Int32) (post : Int32 → HG → Prop) (K4 : Int32 → Int32 → HG → Prop) (lx2 : Int32) (lx3 : Int32) (G : HG) : Prop :=
  isO G a0 0 (hX0_states0 j Λ a0 G fun x2 G1 => (x2 ≤ lx3 → (post lx2 G1)) ∧ (¬ x2 ≤ lx3 → (gtQ G1 a0 0 11 fun q4 => nnq q4 fun a5 => ldI G1 a5 (j.1 1) lx3 fun x6 => (x6 = 0 → (hX0_worksOf_b36 j Λ a0 p1 post K4 lx3 lx2 G1)) ∧ (¬ x6 = 0 → (isO G1 a0 0 (hX0_stepIn j Λ a0 p1 lx3 G1 fun x9 G8 => (x9 = ((-1) : Int32) → (hX0_worksOf_b36 j Λ a0 p1 post K4 lx3 lx2 G8)) ∧ (¬ x9 = ((-1) : Int32) → (hX0_worksOf_b37 j Λ a0 p1 post K4 lx3 lx2 (1 : Int32) G8))))))))
def hX0_worksOf_l4 (j : JX) (Λ : JLam) (a0 : Nat) (p1 : Int32) (post : Int32 → HG → Prop) : Nat → Int32 → Int32 → HG → Prop
  | 0 => fun _ _ _ => False
  | n + 1 => fun lx2 lx3 G => hX0_worksOf_b4 j Λ a0 p1 post (hX0_worksOf_l4 j Λ a0 p1 post n) lx2 lx3 G
def hX0_worksOf (j : JX) (Λ : JLam) (a0 : Nat) (p1 : Int32) (G : HG) (post : Int32 → HG → Prop) : Prop :=
  ∃ n, hX0_worksOf_l4 j Λ a0 p1 post n (0 : Int32) (0 : Int32) G
abbrev rhX0_worksOf (fr lo : Nat) : Room := { frames := fr + 2, cells := 0, slots := 0, locals := lo + 63 }
theorem mhX0_worksOf (l : Launch) (Z : (Nat → Prop) → State → Heap → Prop) (D : va_G) (j : JX) (Λ : JLam) (fr lo : Nat) (E : JE l Z D j Λ fr lo) (a0 : Nat) (p1 : Int32) (G : HG) (post : Int32 → HG → Prop) (hf : hX0_worksOf j Λ a0 p1 G post) : HMi l yX0_worksOf (ws_ yX0_worksOf cX0_worksOf 4 (some .int)) (rhX0_worksOf fr lo) D jC (jty j.1) Z G [.ref a0, .int p1] post 0 0 := by
  refine h_openi E.1 (by decide) (by exact Nat.le_of_ble_eq_true rfl) (fun p e s m args below meth c ls A0 Q X hI hnd hnm hl hret => ?_)
  have X : XC p s m args meth c cX0_worksOf 4 RX0 D jC (jty j.1) A0 Z := X
  have hx := X.1
  have hb := X.2.1
  have hown := X.2.2.2.1
  have hts := X.2.2.2.2.1
  have L4 : ∀ (n : Nat) (lx2 : Int32) (lx3 : Int32) (G : HG), hX0_worksOf_l4 j Λ a0 p1 post n lx2 lx3 G → ∀ (H : Heap) (locs : List Loc), HI D jC G A0 s.heap H locs → ∀ (ls : Array Slot), lv_has ls 4 [(0, .ref a0), (1, .int p1), (2, .int lx2), (3, .int lx3)] → W p l e (rhX0_worksOf fr lo) s m args below meth c H locs 0 0 Q (F0 m 4 ls []) := by
    intro n4
    induction n4 with
    | zero => intro lx2 lx3 G hf; exact hf.elim
    | succ n4 ih4 =>
      have J37 : ∀ (lx3 : Int32) (z0 : Int32) (z1 : Int32) (G : HG), hX0_worksOf_b37 j Λ a0 p1 post (hX0_worksOf_l4 j Λ a0 p1 post n4) lx3 z0 z1 G → ∀ (H : Heap) (locs : List Loc), HI D jC G A0 s.heap H locs → ∀ (ls : Array Slot), lv_has ls 4 [(0, .ref a0), (1, .int p1), (3, .int lx3)] → W p l e (rhX0_worksOf fr lo) s m args below meth c H locs 0 0 Q (F0 m 37 ls [.int z1, .int z0]) := by
        intro lx3 z0 z1 G hf H locs hI ls hl
        unfold hX0_worksOf_b37 at hf
        refine lv_iadd hx hb dX0_worksOf_37 ?_
        refine lv_istore_n (lv' := [(2, .int (z0 + z1)), (0, .ref a0), (1, .int p1), (3, .int lx3)]) hx hb dX0_worksOf_38 rfl hl (by decide) rfl (fun ls hl => ?_)
        refine lv_iinc (v := lx3 + 1) (lv' := [(3, .int (lx3 + 1)), (2, .int (z0 + z1)), (0, .ref a0), (1, .int p1)]) hx hb dX0_worksOf_39 hl (k := 3) rfl rfl (by decide) rfl (fun ls hl => ?_)
        refine lv_goto (tgt := 4) hx hb dX0_worksOf_42 (by decide) ?_
        exact ih4 (z0 + z1) (lx3 + 1) G hf H locs hI ls (lv_sub hl [2, 3, 1, 0] rfl)
      have J36 : ∀ (lx3 : Int32) (z0 : Int32) (G : HG), hX0_worksOf_b36 j Λ a0 p1 post (hX0_worksOf_l4 j Λ a0 p1 post n4) lx3 z0 G → ∀ (H : Heap) (locs : List Loc), HI D jC G A0 s.heap H locs → ∀ (ls : Array Slot), lv_has ls 4 [(0, .ref a0), (1, .int p1), (3, .int lx3)] → W p l e (rhX0_worksOf fr lo) s m args below meth c H locs 0 0 Q (F0 m 36 ls [.int z0]) := by
        intro lx3 z0 G hf H locs hI ls hl
        unfold hX0_worksOf_b36 at hf
        refine lv_iconst (v := 0) hx hb dX0_worksOf_36 (by decide) ?_
        exact J37 lx3 z0 (0 : Int32) G hf H locs hI ls (lv_sub hl [0, 1, 2] rfl)
      intro lx2 lx3 G hf H locs hI ls hl
      have hf : hX0_worksOf_b4 j Λ a0 p1 post (hX0_worksOf_l4 j Λ a0 p1 post n4) lx2 lx3 G := hf
      unfold hX0_worksOf_b4 at hf
      refine lv_iload_n hx hb dX0_worksOf_4 rfl (lv_at hl 3 rfl) ?_
      refine lv_aload_n hx hb dX0_worksOf_5 rfl (lv_at hl 0 rfl) ?_
      obtain ⟨_, _, hO, hf⟩ := hf
      refine h_ki X hI (h_runV (As := []) X hI (h_recv X hI hO (show jC.1[0]? = some (RX0, TX0, 20) from rfl)) (mhX0_states0 l Z D j Λ fr lo E a0 G _ hf H.size) (cwV 0 hts (lw_V q1945 q1947 qs41 q167 q1948) rfl rfl rfl (by decide +kernel) (by show fr + 1 + 1 ≤ fr + 2 ∧ 8 + (3 + 11) + (lo + 40) ≤ lo + 63; omega)) rfl hl.1 (Nat.le_of_ble_eq_true rfl) dX0_worksOf_6 ⟨Nat.le_refl _, Nat.le_refl _⟩ rfl) (fun x2 G1 H locs hf hI => ?_)
      clear hO
      refine lv_icmp_ge (tgt := 45) hx hb dX0_worksOf_9 (by decide) (fun c3 => ?_) (fun c3 => ?_)
      · have hf := hf.1 c3
        refine lv_iload_n hx hb dX0_worksOf_45 rfl (lv_at hl 2 rfl) ?_
        exact hret hf hI dX0_worksOf_46 (Nat.le_refl _) (Nat.le_refl _)
      · have hf := hf.2 c3
        refine lv_iload_n hx hb dX0_worksOf_12 rfl (lv_at hl 2 rfl) ?_
        refine lv_aload_n hx hb dX0_worksOf_13 rfl (lv_at hl 0 rfl) ?_
        refine hr_gtQ X hI (rfl : jC.1[0]? = some (RX0, TX0, 20)) in_X0 11 (Nat.le_of_ble_eq_true rfl) hf q664 (fun _ h => h) dX0_worksOf_14 (fun q4 hf => ?_)
        refine lv_iload_n hx hb dX0_worksOf_17 rfl (lv_at hl 3 rfl) ?_
        obtain ⟨a5, ea5, hf⟩ := hf
        revert hl hf
        subst ea5
        intro hl hf
        have hl : lv_has ls 4 [(0, .ref a0), (1, .int p1), (2, .int lx2), (3, .int lx3)] := hl
        refine hr_zld X hI 1 rfl hf dX0_worksOf_18 (fun x6 hf => ?_)
        refine lv_if_eq (tgt := 36) hx hb dX0_worksOf_19 (by decide) (fun c7 => ?_) (fun c7 => ?_)
        · have hf := hf.1 c7
          exact J36 lx3 lx2 G1 hf H locs hI ls (lv_sub hl [0, 1, 3] rfl)
        · have hf := hf.2 c7
          refine lv_aload_n hx hb dX0_worksOf_22 rfl (lv_at hl 0 rfl) ?_
          refine lv_iload_n hx hb dX0_worksOf_23 rfl (lv_at hl 1 rfl) ?_
          refine lv_iload_n hx hb dX0_worksOf_24 rfl (lv_at hl 3 rfl) ?_
          obtain ⟨_, _, hO, hf⟩ := hf
          refine h_ki X hI (h_runV (As := [.int p1, .int lx3]) X hI (h_recv X hI hO (show jC.1[0]? = some (RX0, TX0, 20) from rfl)) (mhX0_stepIn l Z D j Λ fr lo E a0 p1 lx3 G1 _ hf H.size) (cwV 2 hts (lw_V q2037 q2011 qs49 q167 q2012) rfl rfl rfl (by decide +kernel) (by show fr + 1 + 1 ≤ fr + 2 ∧ 8 + (4 + 11) + (lo + 40) ≤ lo + 63; omega)) rfl hl.1 (Nat.le_of_ble_eq_true rfl) dX0_worksOf_25 ⟨Nat.le_refl _, Nat.le_refl _⟩ rfl) (fun x9 G8 H locs hf hI => ?_)
          clear hO
          refine lv_iconst (v := -1) hx hb dX0_worksOf_28 (by decide) ?_
          refine lv_icmp_eq (tgt := 36) hx hb dX0_worksOf_29 (by decide) (fun c10 => ?_) (fun c10 => ?_)
          · have hf := hf.1 c10
            exact J36 lx3 lx2 G8 hf H locs hI ls (lv_sub hl [0, 1, 3] rfl)
          · have hf := hf.2 c10
            refine lv_iconst (v := 1) hx hb dX0_worksOf_32 (by decide) ?_
            refine lv_goto (tgt := 37) hx hb dX0_worksOf_33 (by decide) ?_
            exact J37 lx3 lx2 (1 : Int32) G8 hf H locs hI ls (lv_sub hl [0, 1, 3] rfl)
  have hl : lv_has ls 4 [(0, .ref a0), (1, .int p1)] := by exact hl
  unfold hX0_worksOf at hf
  obtain ⟨H, eH⟩ : ∃ H, H = s.heap := ⟨_, rfl⟩
  obtain ⟨locs, eL⟩ : ∃ locs : List Loc, locs = [] := ⟨_, rfl⟩
  have hI : HI D jC G A0 s.heap H locs := by rw [eH, eL]; exact hI
  rw [← eL]
  suffices h : W p l e (rhX0_worksOf fr lo) s m args below meth c H locs 0 0 Q (F0 m 0 ls []) by rw [eH] at h; exact h
  clear eH eL
  refine lv_iconst (v := 0) hx hb dX0_worksOf_0 (by decide) ?_
  refine lv_istore_n (lv' := [(2, .int 0), (0, .ref a0), (1, .int p1)]) hx hb dX0_worksOf_1 rfl hl (by decide) rfl (fun ls hl => ?_)
  refine lv_iconst (v := 0) hx hb dX0_worksOf_2 (by decide) ?_
  refine lv_istore_n (lv' := [(3, .int 0), (2, .int 0), (0, .ref a0), (1, .int p1)]) hx hb dX0_worksOf_3 rfl hl (by decide) rfl (fun ls hl => ?_)
  obtain ⟨n, hf⟩ := hf
  exact L4 n (0 : Int32) (0 : Int32) G hf H locs hI ls (lv_sub hl [2, 3, 1, 0] rfl)
/-! MergeJudge.works(I)I -/
def hX0_works (j : JX) (Λ : JLam) (a0 : Nat) (p1 : Int32) (G : HG) (post : Int32 → HG → Prop) : Prop :=
  isO G a0 0 (hX0_isOp j Λ a0 p1 G fun x2 G1 => (x2 = 0 → (post ((-2) : Int32) G1)) ∧ (¬ x2 = 0 → (isO G1 a0 0 (hX0_worksOf j Λ a0 p1 G1 fun x5 G4 => post x5 G4))))
abbrev rhX0_works (fr lo : Nat) : Room := { frames := fr + 3, cells := 0, slots := 0, locals := lo + 86 }
theorem mhX0_works (l : Launch) (Z : (Nat → Prop) → State → Heap → Prop) (D : va_G) (j : JX) (Λ : JLam) (fr lo : Nat) (E : JE l Z D j Λ fr lo) (a0 : Nat) (p1 : Int32) (G : HG) (post : Int32 → HG → Prop) (hf : hX0_works j Λ a0 p1 G post) : HMi l yX0_works (ws_ yX0_works cX0_works 2 (some .int)) (rhX0_works fr lo) D jC (jty j.1) Z G [.ref a0, .int p1] post 0 0 := by
  refine h_openi E.1 (by decide) (by exact Nat.le_of_ble_eq_true rfl) (fun p e s m args below meth c ls A0 Q X hI hnd hnm hl hret => ?_)
  have X : XC p s m args meth c cX0_works 2 RX0 D jC (jty j.1) A0 Z := X
  have hx := X.1
  have hb := X.2.1
  have hown := X.2.2.2.1
  have hts := X.2.2.2.2.1
  have hl : lv_has ls 2 [(0, .ref a0), (1, .int p1)] := by exact hl
  unfold hX0_works at hf
  obtain ⟨H, eH⟩ : ∃ H, H = s.heap := ⟨_, rfl⟩
  obtain ⟨locs, eL⟩ : ∃ locs : List Loc, locs = [] := ⟨_, rfl⟩
  have hI : HI D jC G A0 s.heap H locs := by rw [eH, eL]; exact hI
  rw [← eL]
  suffices h : W p l e (rhX0_works fr lo) s m args below meth c H locs 0 0 Q (F0 m 0 ls []) by rw [eH] at h; exact h
  clear eH eL
  refine lv_aload_n hx hb dX0_works_0 rfl (lv_at hl 0 rfl) ?_
  refine lv_iload_n hx hb dX0_works_1 rfl (lv_at hl 1 rfl) ?_
  obtain ⟨_, _, hO, hf⟩ := hf
  refine h_ki X hI (h_runV (As := [.int p1]) X hI (h_recv X hI hO (show jC.1[0]? = some (RX0, TX0, 20) from rfl)) (mhX0_isOp l Z D j Λ fr lo E a0 p1 G _ hf H.size) (cwV 1 hts (lw_V q2047 q2049 qs51 q167 q2050) rfl rfl rfl (by decide +kernel) (by show fr + 2 + 1 ≤ fr + 3 ∧ 8 + (2 + 11) + (lo + 65) ≤ lo + 86; omega)) rfl hl.1 (Nat.le_of_ble_eq_true rfl) dX0_works_2 ⟨Nat.le_refl _, Nat.le_refl _⟩ rfl) (fun x2 G1 H locs hf hI => ?_)
  clear hO
  refine lv_if_eq (tgt := 16) hx hb dX0_works_5 (by decide) (fun c3 => ?_) (fun c3 => ?_)
  · have hf := hf.1 c3
    refine lv_bipush (v := -2) hx hb dX0_works_16 (by decide) ?_
    exact hret hf hI dX0_works_18 (Nat.le_refl _) (Nat.le_refl _)
  · have hf := hf.2 c3
    refine lv_aload_n hx hb dX0_works_8 rfl (lv_at hl 0 rfl) ?_
    refine lv_iload_n hx hb dX0_works_9 rfl (lv_at hl 1 rfl) ?_
    obtain ⟨_, _, hO, hf⟩ := hf
    refine h_ki X hI (h_runV (As := [.int p1]) X hI (h_recv X hI hO (show jC.1[0]? = some (RX0, TX0, 20) from rfl)) (mhX0_worksOf l Z D j Λ fr lo E a0 p1 G1 _ hf H.size) (cwV 1 hts (lw_V q2156 q2158 qs58 q167 q2159) rfl rfl rfl (by decide +kernel) (by show fr + 2 + 1 ≤ fr + 3 ∧ 8 + (4 + 11) + (lo + 63) ≤ lo + 86; omega)) rfl hl.1 (Nat.le_of_ble_eq_true rfl) dX0_works_10 ⟨Nat.le_refl _, Nat.le_refl _⟩ rfl) (fun x5 G4 H locs hf hI => ?_)
    clear hO
    refine lv_goto (tgt := 18) hx hb dX0_works_13 (by decide) ?_
    exact hret hf hI dX0_works_18 (Nat.le_refl _) (Nat.le_refl _)
/-! MergeJudge.isCommuting(II)Z -/
def hX0_isCommuting_b79 (j : JX) (Λ : JLam) (a0 : Nat) (p1 : Int32) (p2 : Int32) (post : Int32 → HG → Prop) (K2 : Int32 → HG → Prop) (lx3 : Int32) (G : HG) : Prop :=
  K2 (lx3 + 1) G
def hX0_isCommuting_b2 (j : JX) (Λ : JLam) (a0 : Nat) (p1 : Int32) (p2 : Int32) (post : Int32 → HG → Prop) (K2 : Int32 → HG → Prop) (lx3 : Int32) (G : HG) : Prop :=
  isO G a0 0 (hX0_states0 j Λ a0 G fun x2 G1 => (x2 ≤ lx3 → (post (1 : Int32) G1)) ∧ (¬ x2 ≤ lx3 → (gtQ G1 a0 0 11 fun q4 => nnq q4 fun a5 => ldI G1 a5 (j.1 1) lx3 fun x6 => (x6 = 0 → (hX0_isCommuting_b79 j Λ a0 p1 p2 post K2 lx3 G1)) ∧ (¬ x6 = 0 → (isO G1 a0 0 (hX0_stepIn j Λ a0 p1 lx3 G1 fun x9 G8 => (x9 = ((-1) : Int32) → (hX0_isCommuting_b79 j Λ a0 p1 p2 post K2 lx3 G8)) ∧ (¬ x9 = ((-1) : Int32) → (isO G8 a0 0 (hX0_stepIn j Λ a0 p2 lx3 G8 fun x12 G11 => (x12 = ((-1) : Int32) → (hX0_isCommuting_b79 j Λ a0 p1 p2 post K2 lx3 G11)) ∧ (¬ x12 = ((-1) : Int32) → (isO G11 a0 0 (hX0_stepIn j Λ a0 p1 lx3 G11 fun x15 G14 => isO G14 a0 0 (hX0_stepIn j Λ a0 p2 x15 G14 fun x17 G16 => (x17 = ((-1) : Int32) → (post (0 : Int32) G16)) ∧ (¬ x17 = ((-1) : Int32) → (isO G16 a0 0 (hX0_stepIn j Λ a0 p2 lx3 G16 fun x20 G19 => isO G19 a0 0 (hX0_stepIn j Λ a0 p1 x20 G19 fun x22 G21 => (x17 = x22 → (hX0_isCommuting_b79 j Λ a0 p1 p2 post K2 lx3 G21)) ∧ (¬ x17 = x22 → (post (0 : Int32) G21)))))))))))))))))))
def hX0_isCommuting_l2 (j : JX) (Λ : JLam) (a0 : Nat) (p1 : Int32) (p2 : Int32) (post : Int32 → HG → Prop) : Nat → Int32 → HG → Prop
  | 0 => fun _ _ => False
  | n + 1 => fun lx3 G => hX0_isCommuting_b2 j Λ a0 p1 p2 post (hX0_isCommuting_l2 j Λ a0 p1 p2 post n) lx3 G
def hX0_isCommuting (j : JX) (Λ : JLam) (a0 : Nat) (p1 : Int32) (p2 : Int32) (G : HG) (post : Int32 → HG → Prop) : Prop :=
  ∃ n, hX0_isCommuting_l2 j Λ a0 p1 p2 post n (0 : Int32) G
abbrev rhX0_isCommuting (fr lo : Nat) : Room := { frames := fr + 2, cells := 0, slots := 0, locals := lo + 63 }
theorem mhX0_isCommuting (l : Launch) (Z : (Nat → Prop) → State → Heap → Prop) (D : va_G) (j : JX) (Λ : JLam) (fr lo : Nat) (E : JE l Z D j Λ fr lo) (a0 : Nat) (p1 : Int32) (p2 : Int32) (G : HG) (post : Int32 → HG → Prop) (hf : hX0_isCommuting j Λ a0 p1 p2 G post) : HMi l yX0_isCommuting (ws_ yX0_isCommuting cX0_isCommuting 5 (some .boolean)) (rhX0_isCommuting fr lo) D jC (jty j.1) Z G [.ref a0, .int p1, .int p2] post 0 0 := by
  refine h_openz E.1 (by decide) (by exact Nat.le_of_ble_eq_true rfl) (fun p e s m args below meth c ls A0 Q X hI hnd hnm hl hret => ?_)
  have X : XC p s m args meth c cX0_isCommuting 5 RX0 D jC (jty j.1) A0 Z := X
  have hx := X.1
  have hb := X.2.1
  have hown := X.2.2.2.1
  have hts := X.2.2.2.2.1
  have L2 : ∀ (n : Nat) (lx3 : Int32) (G : HG), hX0_isCommuting_l2 j Λ a0 p1 p2 post n lx3 G → ∀ (H : Heap) (locs : List Loc), HI D jC G A0 s.heap H locs → ∀ (ls : Array Slot), lv_has ls 5 [(0, .ref a0), (1, .int p1), (2, .int p2), (3, .int lx3)] → W p l e (rhX0_isCommuting fr lo) s m args below meth c H locs 0 0 Q (F0 m 2 ls []) := by
    intro n2
    induction n2 with
    | zero => intro lx3 G hf; exact hf.elim
    | succ n2 ih2 =>
      have J79 : ∀ (lx3 : Int32) (G : HG), hX0_isCommuting_b79 j Λ a0 p1 p2 post (hX0_isCommuting_l2 j Λ a0 p1 p2 post n2) lx3 G → ∀ (H : Heap) (locs : List Loc), HI D jC G A0 s.heap H locs → ∀ (ls : Array Slot), lv_has ls 5 [(0, .ref a0), (1, .int p1), (2, .int p2), (3, .int lx3)] → W p l e (rhX0_isCommuting fr lo) s m args below meth c H locs 0 0 Q (F0 m 79 ls []) := by
        intro lx3 G hf H locs hI ls hl
        unfold hX0_isCommuting_b79 at hf
        refine lv_iinc (v := lx3 + 1) (lv' := [(3, .int (lx3 + 1)), (0, .ref a0), (1, .int p1), (2, .int p2)]) hx hb dX0_isCommuting_79 hl (k := 3) rfl rfl (by decide) rfl (fun ls hl => ?_)
        refine lv_goto (tgt := 2) hx hb dX0_isCommuting_82 (by decide) ?_
        exact ih2 (lx3 + 1) G hf H locs hI ls (lv_sub hl [1, 2, 3, 0] rfl)
      intro lx3 G hf H locs hI ls hl
      have hf : hX0_isCommuting_b2 j Λ a0 p1 p2 post (hX0_isCommuting_l2 j Λ a0 p1 p2 post n2) lx3 G := hf
      unfold hX0_isCommuting_b2 at hf
      refine lv_iload_n hx hb dX0_isCommuting_2 rfl (lv_at hl 3 rfl) ?_
      refine lv_aload_n hx hb dX0_isCommuting_3 rfl (lv_at hl 0 rfl) ?_
      obtain ⟨_, _, hO, hf⟩ := hf
      refine h_ki X hI (h_runV (As := []) X hI (h_recv X hI hO (show jC.1[0]? = some (RX0, TX0, 20) from rfl)) (mhX0_states0 l Z D j Λ fr lo E a0 G _ hf H.size) (cwV 0 hts (lw_V q1945 q1947 qs41 q167 q1948) rfl rfl rfl (by decide +kernel) (by show fr + 1 + 1 ≤ fr + 2 ∧ 8 + (3 + 11) + (lo + 40) ≤ lo + 63; omega)) rfl hl.1 (Nat.le_of_ble_eq_true rfl) dX0_isCommuting_4 ⟨Nat.le_refl _, Nat.le_refl _⟩ rfl) (fun x2 G1 H locs hf hI => ?_)
      clear hO
      refine lv_icmp_ge (tgt := 85) hx hb dX0_isCommuting_7 (by decide) (fun c3 => ?_) (fun c3 => ?_)
      · have hf := hf.1 c3
        refine lv_iconst (v := 1) hx hb dX0_isCommuting_85 (by decide) ?_
        exact hret rfl hf hI dX0_isCommuting_86 (Nat.le_refl _) (Nat.le_refl _)
      · have hf := hf.2 c3
        refine lv_aload_n hx hb dX0_isCommuting_10 rfl (lv_at hl 0 rfl) ?_
        refine hr_gtQ X hI (rfl : jC.1[0]? = some (RX0, TX0, 20)) in_X0 11 (Nat.le_of_ble_eq_true rfl) hf q664 (fun _ h => h) dX0_isCommuting_11 (fun q4 hf => ?_)
        refine lv_iload_n hx hb dX0_isCommuting_14 rfl (lv_at hl 3 rfl) ?_
        obtain ⟨a5, ea5, hf⟩ := hf
        revert hl hf
        subst ea5
        intro hl hf
        have hl : lv_has ls 5 [(0, .ref a0), (1, .int p1), (2, .int p2), (3, .int lx3)] := hl
        refine hr_zld X hI 1 rfl hf dX0_isCommuting_15 (fun x6 hf => ?_)
        refine lv_if_eq (tgt := 79) hx hb dX0_isCommuting_16 (by decide) (fun c7 => ?_) (fun c7 => ?_)
        · have hf := hf.1 c7
          exact J79 lx3 G1 hf H locs hI ls (lv_sub hl [0, 1, 2, 3] rfl)
        · have hf := hf.2 c7
          refine lv_aload_n hx hb dX0_isCommuting_19 rfl (lv_at hl 0 rfl) ?_
          refine lv_iload_n hx hb dX0_isCommuting_20 rfl (lv_at hl 1 rfl) ?_
          refine lv_iload_n hx hb dX0_isCommuting_21 rfl (lv_at hl 3 rfl) ?_
          obtain ⟨_, _, hO, hf⟩ := hf
          refine h_ki X hI (h_runV (As := [.int p1, .int lx3]) X hI (h_recv X hI hO (show jC.1[0]? = some (RX0, TX0, 20) from rfl)) (mhX0_stepIn l Z D j Λ fr lo E a0 p1 lx3 G1 _ hf H.size) (cwV 2 hts (lw_V q2037 q2011 qs49 q167 q2012) rfl rfl rfl (by decide +kernel) (by show fr + 1 + 1 ≤ fr + 2 ∧ 8 + (4 + 11) + (lo + 40) ≤ lo + 63; omega)) rfl hl.1 (Nat.le_of_ble_eq_true rfl) dX0_isCommuting_22 ⟨Nat.le_refl _, Nat.le_refl _⟩ rfl) (fun x9 G8 H locs hf hI => ?_)
          clear hO
          refine lv_iconst (v := -1) hx hb dX0_isCommuting_25 (by decide) ?_
          refine lv_icmp_eq (tgt := 79) hx hb dX0_isCommuting_26 (by decide) (fun c10 => ?_) (fun c10 => ?_)
          · have hf := hf.1 c10
            exact J79 lx3 G8 hf H locs hI ls (lv_sub hl [0, 1, 2, 3] rfl)
          · have hf := hf.2 c10
            refine lv_aload_n hx hb dX0_isCommuting_29 rfl (lv_at hl 0 rfl) ?_
            refine lv_iload_n hx hb dX0_isCommuting_30 rfl (lv_at hl 2 rfl) ?_
            refine lv_iload_n hx hb dX0_isCommuting_31 rfl (lv_at hl 3 rfl) ?_
            obtain ⟨_, _, hO, hf⟩ := hf
            refine h_ki X hI (h_runV (As := [.int p2, .int lx3]) X hI (h_recv X hI hO (show jC.1[0]? = some (RX0, TX0, 20) from rfl)) (mhX0_stepIn l Z D j Λ fr lo E a0 p2 lx3 G8 _ hf H.size) (cwV 2 hts (lw_V q2037 q2011 qs49 q167 q2012) rfl rfl rfl (by decide +kernel) (by show fr + 1 + 1 ≤ fr + 2 ∧ 8 + (4 + 11) + (lo + 40) ≤ lo + 63; omega)) rfl hl.1 (Nat.le_of_ble_eq_true rfl) dX0_isCommuting_32 ⟨Nat.le_refl _, Nat.le_refl _⟩ rfl) (fun x12 G11 H locs hf hI => ?_)
            clear hO
            refine lv_iconst (v := -1) hx hb dX0_isCommuting_35 (by decide) ?_
            refine lv_icmp_ne (tgt := 42) hx hb dX0_isCommuting_36 (by decide) (fun c13 => ?_) (fun c13 => ?_)
            · have hf := hf.2 c13
              refine lv_aload_n hx hb dX0_isCommuting_42 rfl (lv_at hl 0 rfl) ?_
              refine lv_iload_n hx hb dX0_isCommuting_43 rfl (lv_at hl 2 rfl) ?_
              refine lv_aload_n hx hb dX0_isCommuting_44 rfl (lv_at hl 0 rfl) ?_
              refine lv_iload_n hx hb dX0_isCommuting_45 rfl (lv_at hl 1 rfl) ?_
              refine lv_iload_n hx hb dX0_isCommuting_46 rfl (lv_at hl 3 rfl) ?_
              obtain ⟨_, _, hO, hf⟩ := hf
              refine h_ki X hI (h_runV (As := [.int p1, .int lx3]) X hI (h_recv X hI hO (show jC.1[0]? = some (RX0, TX0, 20) from rfl)) (mhX0_stepIn l Z D j Λ fr lo E a0 p1 lx3 G11 _ hf H.size) (cwV 2 hts (lw_V q2037 q2011 qs49 q167 q2012) rfl rfl rfl (by decide +kernel) (by show fr + 1 + 1 ≤ fr + 2 ∧ 8 + (4 + 11) + (lo + 40) ≤ lo + 63; omega)) rfl hl.1 (Nat.le_of_ble_eq_true rfl) dX0_isCommuting_47 ⟨Nat.le_refl _, Nat.le_refl _⟩ rfl) (fun x15 G14 H locs hf hI => ?_)
              clear hO
              obtain ⟨_, _, hO, hf⟩ := hf
              refine h_ki X hI (h_runV (As := [.int p2, .int x15]) X hI (h_recv X hI hO (show jC.1[0]? = some (RX0, TX0, 20) from rfl)) (mhX0_stepIn l Z D j Λ fr lo E a0 p2 x15 G14 _ hf H.size) (cwV 2 hts (lw_V q2037 q2011 qs49 q167 q2012) rfl rfl rfl (by decide +kernel) (by show fr + 1 + 1 ≤ fr + 2 ∧ 8 + (4 + 11) + (lo + 40) ≤ lo + 63; omega)) rfl hl.1 (Nat.le_of_ble_eq_true rfl) dX0_isCommuting_50 ⟨Nat.le_refl _, Nat.le_refl _⟩ rfl) (fun x17 G16 H locs hf hI => ?_)
              clear hO
              refine lv_istore (lv' := [(4, .int x17), (0, .ref a0), (1, .int p1), (2, .int p2), (3, .int lx3)]) hx hb dX0_isCommuting_53 hl (by decide) rfl (fun ls hl => ?_)
              refine lv_iload hx hb dX0_isCommuting_55 (lv_at hl 0 rfl) ?_
              refine lv_iconst (v := -1) hx hb dX0_isCommuting_57 (by decide) ?_
              refine lv_icmp_eq (tgt := 77) hx hb dX0_isCommuting_58 (by decide) (fun c18 => ?_) (fun c18 => ?_)
              · have hf := hf.1 c18
                refine lv_iconst (v := 0) hx hb dX0_isCommuting_77 (by decide) ?_
                exact hret rfl hf hI dX0_isCommuting_78 (Nat.le_refl _) (Nat.le_refl _)
              · have hf := hf.2 c18
                refine lv_iload hx hb dX0_isCommuting_61 (lv_at hl 0 rfl) ?_
                refine lv_aload_n hx hb dX0_isCommuting_63 rfl (lv_at hl 1 rfl) ?_
                refine lv_iload_n hx hb dX0_isCommuting_64 rfl (lv_at hl 2 rfl) ?_
                refine lv_aload_n hx hb dX0_isCommuting_65 rfl (lv_at hl 1 rfl) ?_
                refine lv_iload_n hx hb dX0_isCommuting_66 rfl (lv_at hl 3 rfl) ?_
                refine lv_iload_n hx hb dX0_isCommuting_67 rfl (lv_at hl 4 rfl) ?_
                obtain ⟨_, _, hO, hf⟩ := hf
                refine h_ki X hI (h_runV (As := [.int p2, .int lx3]) X hI (h_recv X hI hO (show jC.1[0]? = some (RX0, TX0, 20) from rfl)) (mhX0_stepIn l Z D j Λ fr lo E a0 p2 lx3 G16 _ hf H.size) (cwV 2 hts (lw_V q2037 q2011 qs49 q167 q2012) rfl rfl rfl (by decide +kernel) (by show fr + 1 + 1 ≤ fr + 2 ∧ 8 + (4 + 11) + (lo + 40) ≤ lo + 63; omega)) rfl hl.1 (Nat.le_of_ble_eq_true rfl) dX0_isCommuting_68 ⟨Nat.le_refl _, Nat.le_refl _⟩ rfl) (fun x20 G19 H locs hf hI => ?_)
                clear hO
                obtain ⟨_, _, hO, hf⟩ := hf
                refine h_ki X hI (h_runV (As := [.int p1, .int x20]) X hI (h_recv X hI hO (show jC.1[0]? = some (RX0, TX0, 20) from rfl)) (mhX0_stepIn l Z D j Λ fr lo E a0 p1 x20 G19 _ hf H.size) (cwV 2 hts (lw_V q2037 q2011 qs49 q167 q2012) rfl rfl rfl (by decide +kernel) (by show fr + 1 + 1 ≤ fr + 2 ∧ 8 + (4 + 11) + (lo + 40) ≤ lo + 63; omega)) rfl hl.1 (Nat.le_of_ble_eq_true rfl) dX0_isCommuting_71 ⟨Nat.le_refl _, Nat.le_refl _⟩ rfl) (fun x22 G21 H locs hf hI => ?_)
                clear hO
                refine lv_icmp_eq (tgt := 79) hx hb dX0_isCommuting_74 (by decide) (fun c23 => ?_) (fun c23 => ?_)
                · have hf := hf.1 c23
                  exact J79 lx3 G21 hf H locs hI ls (lv_sub hl [1, 2, 3, 4] rfl)
                · have hf := hf.2 c23
                  refine lv_iconst (v := 0) hx hb dX0_isCommuting_77 (by decide) ?_
                  exact hret rfl hf hI dX0_isCommuting_78 (Nat.le_refl _) (Nat.le_refl _)
            · have hf := hf.1 c13
              refine lv_goto (tgt := 79) hx hb dX0_isCommuting_39 (by decide) ?_
              exact J79 lx3 G11 hf H locs hI ls (lv_sub hl [0, 1, 2, 3] rfl)
  have hl : lv_has ls 5 [(0, .ref a0), (1, .int p1), (2, .int p2)] := by exact hl
  unfold hX0_isCommuting at hf
  obtain ⟨H, eH⟩ : ∃ H, H = s.heap := ⟨_, rfl⟩
  obtain ⟨locs, eL⟩ : ∃ locs : List Loc, locs = [] := ⟨_, rfl⟩
  have hI : HI D jC G A0 s.heap H locs := by rw [eH, eL]; exact hI
  rw [← eL]
  suffices h : W p l e (rhX0_isCommuting fr lo) s m args below meth c H locs 0 0 Q (F0 m 0 ls []) by rw [eH] at h; exact h
  clear eH eL
  refine lv_iconst (v := 0) hx hb dX0_isCommuting_0 (by decide) ?_
  refine lv_istore_n (lv' := [(3, .int 0), (0, .ref a0), (1, .int p1), (2, .int p2)]) hx hb dX0_isCommuting_1 rfl hl (by decide) rfl (fun ls hl => ?_)
  obtain ⟨n, hf⟩ := hf
  exact L2 n (0 : Int32) G hf H locs hI ls (lv_sub hl [1, 2, 3, 0] rfl)
/-! MergeJudge.commute(II)I -/
def hX0_commute (j : JX) (Λ : JLam) (a0 : Nat) (p1 : Int32) (p2 : Int32) (G : HG) (post : Int32 → HG → Prop) : Prop :=
  isO G a0 0 (hX0_isOp j Λ a0 p1 G fun x2 G1 => (x2 = 0 → (post ((-2) : Int32) G1)) ∧ (¬ x2 = 0 → (isO G1 a0 0 (hX0_isOp j Λ a0 p2 G1 fun x5 G4 => (x5 = 0 → (post ((-2) : Int32) G4)) ∧ (¬ x5 = 0 → (isO G4 a0 0 (hX0_isCommuting j Λ a0 p1 p2 G4 fun x8 G7 => (x8 = 0 → (post (0 : Int32) G7)) ∧ (¬ x8 = 0 → (post (1 : Int32) G7)))))))))
abbrev rhX0_commute (fr lo : Nat) : Room := { frames := fr + 3, cells := 0, slots := 0, locals := lo + 87 }
theorem mhX0_commute (l : Launch) (Z : (Nat → Prop) → State → Heap → Prop) (D : va_G) (j : JX) (Λ : JLam) (fr lo : Nat) (E : JE l Z D j Λ fr lo) (a0 : Nat) (p1 : Int32) (p2 : Int32) (G : HG) (post : Int32 → HG → Prop) (hf : hX0_commute j Λ a0 p1 p2 G post) : HMi l yX0_commute (ws_ yX0_commute cX0_commute 3 (some .int)) (rhX0_commute fr lo) D jC (jty j.1) Z G [.ref a0, .int p1, .int p2] post 0 0 := by
  refine h_openi E.1 (by decide) (by exact Nat.le_of_ble_eq_true rfl) (fun p e s m args below meth c ls A0 Q X hI hnd hnm hl hret => ?_)
  have X : XC p s m args meth c cX0_commute 3 RX0 D jC (jty j.1) A0 Z := X
  have hx := X.1
  have hb := X.2.1
  have hown := X.2.2.2.1
  have hts := X.2.2.2.2.1
  have hl : lv_has ls 3 [(0, .ref a0), (1, .int p1), (2, .int p2)] := by exact hl
  unfold hX0_commute at hf
  obtain ⟨H, eH⟩ : ∃ H, H = s.heap := ⟨_, rfl⟩
  obtain ⟨locs, eL⟩ : ∃ locs : List Loc, locs = [] := ⟨_, rfl⟩
  have hI : HI D jC G A0 s.heap H locs := by rw [eH, eL]; exact hI
  rw [← eL]
  suffices h : W p l e (rhX0_commute fr lo) s m args below meth c H locs 0 0 Q (F0 m 0 ls []) by rw [eH] at h; exact h
  clear eH eL
  refine lv_aload_n hx hb dX0_commute_0 rfl (lv_at hl 0 rfl) ?_
  refine lv_iload_n hx hb dX0_commute_1 rfl (lv_at hl 1 rfl) ?_
  obtain ⟨_, _, hO, hf⟩ := hf
  refine h_ki X hI (h_runV (As := [.int p1]) X hI (h_recv X hI hO (show jC.1[0]? = some (RX0, TX0, 20) from rfl)) (mhX0_isOp l Z D j Λ fr lo E a0 p1 G _ hf H.size) (cwV 1 hts (lw_V q2047 q2049 qs51 q167 q2050) rfl rfl rfl (by decide +kernel) (by show fr + 2 + 1 ≤ fr + 3 ∧ 8 + (2 + 11) + (lo + 65) ≤ lo + 87; omega)) rfl hl.1 (Nat.le_of_ble_eq_true rfl) dX0_commute_2 ⟨Nat.le_refl _, Nat.le_refl _⟩ rfl) (fun x2 G1 H locs hf hI => ?_)
  clear hO
  refine lv_if_eq (tgt := 33) hx hb dX0_commute_5 (by decide) (fun c3 => ?_) (fun c3 => ?_)
  · have hf := hf.1 c3
    refine lv_bipush (v := -2) hx hb dX0_commute_33 (by decide) ?_
    exact hret hf hI dX0_commute_35 (Nat.le_refl _) (Nat.le_refl _)
  · have hf := hf.2 c3
    refine lv_aload_n hx hb dX0_commute_8 rfl (lv_at hl 0 rfl) ?_
    refine lv_iload_n hx hb dX0_commute_9 rfl (lv_at hl 2 rfl) ?_
    obtain ⟨_, _, hO, hf⟩ := hf
    refine h_ki X hI (h_runV (As := [.int p2]) X hI (h_recv X hI hO (show jC.1[0]? = some (RX0, TX0, 20) from rfl)) (mhX0_isOp l Z D j Λ fr lo E a0 p2 G1 _ hf H.size) (cwV 1 hts (lw_V q2047 q2049 qs51 q167 q2050) rfl rfl rfl (by decide +kernel) (by show fr + 2 + 1 ≤ fr + 3 ∧ 8 + (2 + 11) + (lo + 65) ≤ lo + 87; omega)) rfl hl.1 (Nat.le_of_ble_eq_true rfl) dX0_commute_10 ⟨Nat.le_refl _, Nat.le_refl _⟩ rfl) (fun x5 G4 H locs hf hI => ?_)
    clear hO
    refine lv_if_eq (tgt := 33) hx hb dX0_commute_13 (by decide) (fun c6 => ?_) (fun c6 => ?_)
    · have hf := hf.1 c6
      refine lv_bipush (v := -2) hx hb dX0_commute_33 (by decide) ?_
      exact hret hf hI dX0_commute_35 (Nat.le_refl _) (Nat.le_refl _)
    · have hf := hf.2 c6
      refine lv_aload_n hx hb dX0_commute_16 rfl (lv_at hl 0 rfl) ?_
      refine lv_iload_n hx hb dX0_commute_17 rfl (lv_at hl 1 rfl) ?_
      refine lv_iload_n hx hb dX0_commute_18 rfl (lv_at hl 2 rfl) ?_
      obtain ⟨_, _, hO, hf⟩ := hf
      refine h_ki X hI (h_runV (As := [.int p1, .int p2]) X hI (h_recv X hI hO (show jC.1[0]? = some (RX0, TX0, 20) from rfl)) (mhX0_isCommuting l Z D j Λ fr lo E a0 p1 p2 G4 _ hf H.size) (cwV 2 hts (lw_V q2164 q2166 qs59 q167 q2167) rfl rfl rfl (by decide +kernel) (by show fr + 2 + 1 ≤ fr + 3 ∧ 8 + (5 + 11) + (lo + 63) ≤ lo + 87; omega)) rfl hl.1 (Nat.le_of_ble_eq_true rfl) dX0_commute_19 ⟨Nat.le_refl _, Nat.le_refl _⟩ rfl) (fun x8 G7 H locs hf hI => ?_)
      clear hO
      refine lv_if_eq (tgt := 29) hx hb dX0_commute_22 (by decide) (fun c9 => ?_) (fun c9 => ?_)
      · have hf := hf.1 c9
        refine lv_iconst (v := 0) hx hb dX0_commute_29 (by decide) ?_
        refine lv_goto (tgt := 35) hx hb dX0_commute_30 (by decide) ?_
        exact hret hf hI dX0_commute_35 (Nat.le_refl _) (Nat.le_refl _)
      · have hf := hf.2 c9
        refine lv_iconst (v := 1) hx hb dX0_commute_25 (by decide) ?_
        refine lv_goto (tgt := 35) hx hb dX0_commute_26 (by decide) ?_
        exact hret hf hI dX0_commute_35 (Nat.le_refl _) (Nat.le_refl _)
/-! MergeJudge.table()I -/
def hX0_table_b68 (j : JX) (Λ : JLam) (a0 : Nat) (post : Int32 → HG → Prop) (K17 : Int32 → Int32 → HG → Prop) (K37 : Int32 → Int32 → Int32 → HG → Prop) (lx2 : Int32) (lx3 : Int32) (z0 : Int32) (z1 : Int32) (G : HG) : Prop :=
  K37 (z0 + z1) lx2 (lx3 + 1) G
def hX0_table_b37 (j : JX) (Λ : JLam) (a0 : Nat) (post : Int32 → HG → Prop) (K17 : Int32 → Int32 → HG → Prop) (K37 : Int32 → Int32 → Int32 → HG → Prop) (lx1 : Int32) (lx2 : Int32) (lx3 : Int32) (G : HG) : Prop :=
  gtQ G a0 0 1 fun q13 => nnq q13 fun a14 => gtQ G a14 2 1 fun q15 => nnq q15 fun a16 => isO G a16 15 (hJ2_size j Λ a16 G fun x18 G17 => (x18 ≤ lx3 → (K17 lx1 (lx2 + 1) G17)) ∧ (¬ x18 ≤ lx3 → (isO G17 a0 0 (hX0_isCommuting j Λ a0 lx2 lx3 G17 fun x21 G20 => (x21 = 0 → (hX0_table_b68 j Λ a0 post K17 K37 lx2 lx3 lx1 (0 : Int32) G20)) ∧ (¬ x21 = 0 → (hX0_table_b68 j Λ a0 post K17 K37 lx2 lx3 lx1 (1 : Int32) G20))))))
def hX0_table_l37 (j : JX) (Λ : JLam) (a0 : Nat) (post : Int32 → HG → Prop) (K17 : Int32 → Int32 → HG → Prop) : Nat → Int32 → Int32 → Int32 → HG → Prop
  | 0 => fun _ _ _ _ => False
  | n + 1 => fun lx1 lx2 lx3 G => hX0_table_b37 j Λ a0 post K17 (hX0_table_l37 j Λ a0 post K17 n) lx1 lx2 lx3 G
def hX0_table_b17 (j : JX) (Λ : JLam) (a0 : Nat) (post : Int32 → HG → Prop) (K17 : Int32 → Int32 → HG → Prop) (lx1 : Int32) (lx2 : Int32) (G : HG) : Prop :=
  gtQ G a0 0 1 fun q6 => nnq q6 fun a7 => gtQ G a7 2 1 fun q8 => nnq q8 fun a9 => isO G a9 15 (hJ2_size j Λ a9 G fun x11 G10 => (x11 ≤ lx2 → (post lx1 G10)) ∧ (¬ x11 ≤ lx2 → (∃ n, hX0_table_l37 j Λ a0 post K17 n lx1 lx2 (lx2 + 1) G10)))
def hX0_table_l17 (j : JX) (Λ : JLam) (a0 : Nat) (post : Int32 → HG → Prop) : Nat → Int32 → Int32 → HG → Prop
  | 0 => fun _ _ _ => False
  | n + 1 => fun lx1 lx2 G => hX0_table_b17 j Λ a0 post (hX0_table_l17 j Λ a0 post n) lx1 lx2 G
def hX0_table (j : JX) (Λ : JLam) (a0 : Nat) (G : HG) (post : Int32 → HG → Prop) : Prop :=
  gtQ G a0 0 1 fun q1 => nnq q1 fun a2 => isO G a2 2 (hX2_is j Λ a2 G fun x4 G3 => (x4 = 0 → (post ((-2) : Int32) G3)) ∧ (¬ x4 = 0 → (∃ n, hX0_table_l17 j Λ a0 post n (0 : Int32) (0 : Int32) G3)))
abbrev rhX0_table (fr lo : Nat) : Room := { frames := fr + 3, cells := 0, slots := 0, locals := lo + 87 }
theorem mhX0_table (l : Launch) (Z : (Nat → Prop) → State → Heap → Prop) (D : va_G) (j : JX) (Λ : JLam) (fr lo : Nat) (E : JE l Z D j Λ fr lo) (a0 : Nat) (G : HG) (post : Int32 → HG → Prop) (hf : hX0_table j Λ a0 G post) : HMi l yX0_table (ws_ yX0_table cX0_table 4 (some .int)) (rhX0_table fr lo) D jC (jty j.1) Z G [.ref a0] post 0 0 := by
  refine h_openi E.1 (by decide) (by exact Nat.le_of_ble_eq_true rfl) (fun p e s m args below meth c ls A0 Q X hI hnd hnm hl hret => ?_)
  have X : XC p s m args meth c cX0_table 4 RX0 D jC (jty j.1) A0 Z := X
  have hx := X.1
  have hb := X.2.1
  have hown := X.2.2.2.1
  have hts := X.2.2.2.2.1
  have L17 : ∀ (n : Nat) (lx1 : Int32) (lx2 : Int32) (G : HG), hX0_table_l17 j Λ a0 post n lx1 lx2 G → ∀ (H : Heap) (locs : List Loc), HI D jC G A0 s.heap H locs → ∀ (ls : Array Slot), lv_has ls 4 [(0, .ref a0), (1, .int lx1), (2, .int lx2)] → W p l e (rhX0_table fr lo) s m args below meth c H locs 0 0 Q (F0 m 17 ls []) := by
    intro n17
    induction n17 with
    | zero => intro lx1 lx2 G hf; exact hf.elim
    | succ n17 ih17 =>
      have L37 : ∀ (n : Nat) (lx1 : Int32) (lx2 : Int32) (lx3 : Int32) (G : HG), hX0_table_l37 j Λ a0 post (hX0_table_l17 j Λ a0 post n17) n lx1 lx2 lx3 G → ∀ (H : Heap) (locs : List Loc), HI D jC G A0 s.heap H locs → ∀ (ls : Array Slot), lv_has ls 4 [(0, .ref a0), (1, .int lx1), (2, .int lx2), (3, .int lx3)] → W p l e (rhX0_table fr lo) s m args below meth c H locs 0 0 Q (F0 m 37 ls []) := by
        intro n37
        induction n37 with
        | zero => intro lx1 lx2 lx3 G hf; exact hf.elim
        | succ n37 ih37 =>
          have J68 : ∀ (lx2 : Int32) (lx3 : Int32) (z0 : Int32) (z1 : Int32) (G : HG), hX0_table_b68 j Λ a0 post (hX0_table_l17 j Λ a0 post n17) (hX0_table_l37 j Λ a0 post (hX0_table_l17 j Λ a0 post n17) n37) lx2 lx3 z0 z1 G → ∀ (H : Heap) (locs : List Loc), HI D jC G A0 s.heap H locs → ∀ (ls : Array Slot), lv_has ls 4 [(0, .ref a0), (2, .int lx2), (3, .int lx3)] → W p l e (rhX0_table fr lo) s m args below meth c H locs 0 0 Q (F0 m 68 ls [.int z1, .int z0]) := by
            intro lx2 lx3 z0 z1 G hf H locs hI ls hl
            unfold hX0_table_b68 at hf
            refine lv_iadd hx hb dX0_table_68 ?_
            refine lv_istore_n (lv' := [(1, .int (z0 + z1)), (0, .ref a0), (2, .int lx2), (3, .int lx3)]) hx hb dX0_table_69 rfl hl (by decide) rfl (fun ls hl => ?_)
            refine lv_iinc (v := lx3 + 1) (lv' := [(3, .int (lx3 + 1)), (1, .int (z0 + z1)), (0, .ref a0), (2, .int lx2)]) hx hb dX0_table_70 hl (k := 3) rfl rfl (by decide) rfl (fun ls hl => ?_)
            refine lv_goto (tgt := 37) hx hb dX0_table_73 (by decide) ?_
            exact ih37 (z0 + z1) lx2 (lx3 + 1) G hf H locs hI ls (lv_sub hl [2, 1, 3, 0] rfl)
          intro lx1 lx2 lx3 G hf H locs hI ls hl
          have hf : hX0_table_b37 j Λ a0 post (hX0_table_l17 j Λ a0 post n17) (hX0_table_l37 j Λ a0 post (hX0_table_l17 j Λ a0 post n17) n37) lx1 lx2 lx3 G := hf
          unfold hX0_table_b37 at hf
          refine lv_iload_n hx hb dX0_table_37 rfl (lv_at hl 3 rfl) ?_
          refine lv_aload_n hx hb dX0_table_38 rfl (lv_at hl 0 rfl) ?_
          refine hr_gtQ X hI (rfl : jC.1[0]? = some (RX0, TX0, 20)) in_X0 1 (Nat.le_of_ble_eq_true rfl) hf q653 (fun _ h => h) dX0_table_39 (fun q13 hf => ?_)
          obtain ⟨a14, ea14, hf⟩ := hf
          revert hl hf
          subst ea14
          intro hl hf
          have hl : lv_has ls 4 [(0, .ref a0), (1, .int lx1), (2, .int lx2), (3, .int lx3)] := hl
          refine hr_gtQN X hI (rfl : jC.1[2]? = some (RX2, TX2, 11)) in_X2 1 (Nat.le_of_ble_eq_true rfl) hf (E.nw X q483 rfl) (fun _ h => h) dX0_table_42 (fun q15 hf => ?_)
          obtain ⟨a16, ea16, hf⟩ := hf
          revert hl hf
          subst ea16
          intro hl hf
          have hl : lv_has ls 4 [(0, .ref a0), (1, .int lx1), (2, .int lx2), (3, .int lx3)] := hl
          obtain ⟨_, _, hO, hf⟩ := hf
          refine h_Fki X hI (h_runF (As := []) X hI (X.2.2.2.2.2.1.1 15 _ (show jC.1[15]? = some (RJ2, TJ2, 3) from rfl)).2 (h_recv X hI hO (show jC.1[15]? = some (RJ2, TJ2, 3) from rfl)) (mhJ2_size l Z D j Λ fr lo E a16 G _ hf H.size) (cwF 0 hts q1848 q1771 q1773 q172 q1775 ((E.w X).2.2.1 _ (List.mem_of_getElem? (show jFw[0]? = _ from rfl))) rfl rfl (by decide +kernel) (by show fr + 1 + 1 ≤ fr + 3 ∧ 8 + (1 + 11) + (lo + 40) ≤ lo + 87; omega)) rfl hl.1 (Nat.le_of_ble_eq_true rfl) dX0_table_45 ⟨Nat.le_refl _, Nat.le_refl _⟩ rfl) (fun x18 G17 H locs hf hI => ?_)
          clear hO
          refine lv_icmp_ge (tgt := 76) hx hb dX0_table_50 (by decide) (fun c19 => ?_) (fun c19 => ?_)
          · have hf := hf.1 c19
            refine lv_iinc (v := lx2 + 1) (lv' := [(2, .int (lx2 + 1)), (0, .ref a0), (1, .int lx1), (3, .int lx3)]) hx hb dX0_table_76 hl (k := 2) rfl rfl (by decide) rfl (fun ls hl => ?_)
            refine lv_goto (tgt := 17) hx hb dX0_table_79 (by decide) ?_
            exact ih17 lx1 (lx2 + 1) G17 hf H locs hI ls (lv_sub hl [1, 2, 0] rfl)
          · have hf := hf.2 c19
            refine lv_iload_n hx hb dX0_table_53 rfl (lv_at hl 1 rfl) ?_
            refine lv_aload_n hx hb dX0_table_54 rfl (lv_at hl 0 rfl) ?_
            refine lv_iload_n hx hb dX0_table_55 rfl (lv_at hl 2 rfl) ?_
            refine lv_iload_n hx hb dX0_table_56 rfl (lv_at hl 3 rfl) ?_
            obtain ⟨_, _, hO, hf⟩ := hf
            refine h_ki X hI (h_runV (As := [.int lx2, .int lx3]) X hI (h_recv X hI hO (show jC.1[0]? = some (RX0, TX0, 20) from rfl)) (mhX0_isCommuting l Z D j Λ fr lo E a0 lx2 lx3 G17 _ hf H.size) (cwV 2 hts (lw_V q2164 q2166 qs59 q167 q2167) rfl rfl rfl (by decide +kernel) (by show fr + 2 + 1 ≤ fr + 3 ∧ 8 + (5 + 11) + (lo + 63) ≤ lo + 87; omega)) rfl hl.1 (Nat.le_of_ble_eq_true rfl) dX0_table_57 ⟨Nat.le_refl _, Nat.le_refl _⟩ rfl) (fun x21 G20 H locs hf hI => ?_)
            clear hO
            refine lv_if_eq (tgt := 67) hx hb dX0_table_60 (by decide) (fun c22 => ?_) (fun c22 => ?_)
            · have hf := hf.1 c22
              refine lv_iconst (v := 0) hx hb dX0_table_67 (by decide) ?_
              exact J68 lx2 lx3 lx1 (0 : Int32) G20 hf H locs hI ls (lv_sub hl [0, 2, 3] rfl)
            · have hf := hf.2 c22
              refine lv_iconst (v := 1) hx hb dX0_table_63 (by decide) ?_
              refine lv_goto (tgt := 68) hx hb dX0_table_64 (by decide) ?_
              exact J68 lx2 lx3 lx1 (1 : Int32) G20 hf H locs hI ls (lv_sub hl [0, 2, 3] rfl)
      intro lx1 lx2 G hf H locs hI ls hl
      have hf : hX0_table_b17 j Λ a0 post (hX0_table_l17 j Λ a0 post n17) lx1 lx2 G := hf
      unfold hX0_table_b17 at hf
      refine lv_iload_n hx hb dX0_table_17 rfl (lv_at hl 2 rfl) ?_
      refine lv_aload_n hx hb dX0_table_18 rfl (lv_at hl 0 rfl) ?_
      refine hr_gtQ X hI (rfl : jC.1[0]? = some (RX0, TX0, 20)) in_X0 1 (Nat.le_of_ble_eq_true rfl) hf q653 (fun _ h => h) dX0_table_19 (fun q6 hf => ?_)
      obtain ⟨a7, ea7, hf⟩ := hf
      revert hl hf
      subst ea7
      intro hl hf
      have hl : lv_has ls 4 [(0, .ref a0), (1, .int lx1), (2, .int lx2)] := hl
      refine hr_gtQN X hI (rfl : jC.1[2]? = some (RX2, TX2, 11)) in_X2 1 (Nat.le_of_ble_eq_true rfl) hf (E.nw X q483 rfl) (fun _ h => h) dX0_table_22 (fun q8 hf => ?_)
      obtain ⟨a9, ea9, hf⟩ := hf
      revert hl hf
      subst ea9
      intro hl hf
      have hl : lv_has ls 4 [(0, .ref a0), (1, .int lx1), (2, .int lx2)] := hl
      obtain ⟨_, _, hO, hf⟩ := hf
      refine h_Fki X hI (h_runF (As := []) X hI (X.2.2.2.2.2.1.1 15 _ (show jC.1[15]? = some (RJ2, TJ2, 3) from rfl)).2 (h_recv X hI hO (show jC.1[15]? = some (RJ2, TJ2, 3) from rfl)) (mhJ2_size l Z D j Λ fr lo E a9 G _ hf H.size) (cwF 0 hts q1848 q1771 q1773 q172 q1775 ((E.w X).2.2.1 _ (List.mem_of_getElem? (show jFw[0]? = _ from rfl))) rfl rfl (by decide +kernel) (by show fr + 1 + 1 ≤ fr + 3 ∧ 8 + (1 + 11) + (lo + 40) ≤ lo + 87; omega)) rfl hl.1 (Nat.le_of_ble_eq_true rfl) dX0_table_25 ⟨Nat.le_refl _, Nat.le_refl _⟩ rfl) (fun x11 G10 H locs hf hI => ?_)
      clear hO
      refine lv_icmp_ge (tgt := 82) hx hb dX0_table_30 (by decide) (fun c12 => ?_) (fun c12 => ?_)
      · have hf := hf.1 c12
        refine lv_iload_n hx hb dX0_table_82 rfl (lv_at hl 1 rfl) ?_
        exact hret hf hI dX0_table_83 (Nat.le_refl _) (Nat.le_refl _)
      · have hf := hf.2 c12
        refine lv_iload_n hx hb dX0_table_33 rfl (lv_at hl 2 rfl) ?_
        refine lv_iconst (v := 1) hx hb dX0_table_34 (by decide) ?_
        refine lv_iadd hx hb dX0_table_35 ?_
        refine lv_istore_n (lv' := [(3, .int (lx2 + 1)), (0, .ref a0), (1, .int lx1), (2, .int lx2)]) hx hb dX0_table_36 rfl hl (by decide) rfl (fun ls hl => ?_)
        obtain ⟨n, hf⟩ := hf
        exact L37 n lx1 lx2 (lx2 + 1) G10 hf H locs hI ls (lv_sub hl [1, 2, 3, 0] rfl)
  have hl : lv_has ls 4 [(0, .ref a0)] := by exact hl
  unfold hX0_table at hf
  obtain ⟨H, eH⟩ : ∃ H, H = s.heap := ⟨_, rfl⟩
  obtain ⟨locs, eL⟩ : ∃ locs : List Loc, locs = [] := ⟨_, rfl⟩
  have hI : HI D jC G A0 s.heap H locs := by rw [eH, eL]; exact hI
  rw [← eL]
  suffices h : W p l e (rhX0_table fr lo) s m args below meth c H locs 0 0 Q (F0 m 0 ls []) by rw [eH] at h; exact h
  clear eH eL
  refine lv_aload_n hx hb dX0_table_0 rfl (lv_at hl 0 rfl) ?_
  refine hr_gtQ X hI (rfl : jC.1[0]? = some (RX0, TX0, 20)) in_X0 1 (Nat.le_of_ble_eq_true rfl) hf q653 (fun _ h => h) dX0_table_1 (fun q1 hf => ?_)
  obtain ⟨a2, ea2, hf⟩ := hf
  revert hl hf
  subst ea2
  intro hl hf
  have hl : lv_has ls 4 [(0, .ref a0)] := hl
  obtain ⟨_, _, hO, hf⟩ := hf
  refine h_ki X hI (h_runV (As := []) X hI (h_recv X hI hO (show jC.1[2]? = some (RX2, TX2, 11) from rfl)) (mhX2_is l Z D j Λ fr lo E a2 G _ hf H.size) (cwV 0 hts (lw_V q1839 q1840 q1841 q169 q1842) rfl rfl rfl (by decide +kernel) (by show fr + 1 + 1 ≤ fr + 3 ∧ 8 + (1 + 11) + (lo + 40) ≤ lo + 87; omega)) rfl hl.1 (Nat.le_of_ble_eq_true rfl) dX0_table_4 ⟨Nat.le_refl _, Nat.le_refl _⟩ rfl) (fun x4 G3 H locs hf hI => ?_)
  clear hO
  refine lv_if_ne (tgt := 13) hx hb dX0_table_7 (by decide) (fun c5 => ?_) (fun c5 => ?_)
  · have hf := hf.2 c5
    refine lv_iconst (v := 0) hx hb dX0_table_13 (by decide) ?_
    refine lv_istore_n (lv' := [(1, .int 0), (0, .ref a0)]) hx hb dX0_table_14 rfl hl (by decide) rfl (fun ls hl => ?_)
    refine lv_iconst (v := 0) hx hb dX0_table_15 (by decide) ?_
    refine lv_istore_n (lv' := [(2, .int 0), (1, .int 0), (0, .ref a0)]) hx hb dX0_table_16 rfl hl (by decide) rfl (fun ls hl => ?_)
    obtain ⟨n, hf⟩ := hf
    exact L17 n (0 : Int32) (0 : Int32) G3 hf H locs hI ls (lv_sub hl [2, 1, 0] rfl)
  · have hf := hf.1 c5
    refine lv_bipush (v := -2) hx hb dX0_table_10 (by decide) ?_
    exact hret hf hI dX0_table_12 (Nat.le_refl _) (Nat.le_refl _)
/-! MergeJudge.merge(III)I -/
def hX0_merge (j : JX) (Λ : JLam) (a0 : Nat) (p1 : Int32) (p2 : Int32) (p3 : Int32) (G : HG) (post : Int32 → HG → Prop) : Prop :=
  isO G a0 0 (hX0_isState j Λ a0 p1.toInt64 G fun x2 G1 => (x2 = 0 → (post ((-2) : Int32) G1)) ∧ (¬ x2 = 0 → (isO G1 a0 0 (hX0_isState j Λ a0 p2.toInt64 G1 fun x5 G4 => (x5 = 0 → (post ((-2) : Int32) G4)) ∧ (¬ x5 = 0 → (isO G4 a0 0 (hX0_isState j Λ a0 p3.toInt64 G4 fun x8 G7 => (x8 = 0 → (post ((-2) : Int32) G7)) ∧ (¬ x8 = 0 → (isO G7 a0 0 (hX0_mergeOf j Λ a0 p1 p2 p3 G7 fun x11 G10 => post x11 G10))))))))))
abbrev rhX0_merge (fr lo : Nat) : Room := { frames := fr + 4, cells := 0, slots := 0, locals := lo + 110 }
theorem mhX0_merge (l : Launch) (Z : (Nat → Prop) → State → Heap → Prop) (D : va_G) (j : JX) (Λ : JLam) (fr lo : Nat) (E : JE l Z D j Λ fr lo) (a0 : Nat) (p1 : Int32) (p2 : Int32) (p3 : Int32) (G : HG) (post : Int32 → HG → Prop) (hf : hX0_merge j Λ a0 p1 p2 p3 G post) : HMi l yX0_merge (ws_ yX0_merge cX0_merge 4 (some .int)) (rhX0_merge fr lo) D jC (jty j.1) Z G [.ref a0, .int p1, .int p2, .int p3] post 0 0 := by
  refine h_openi E.1 (by decide) (by exact Nat.le_of_ble_eq_true rfl) (fun p e s m args below meth c ls A0 Q X hI hnd hnm hl hret => ?_)
  have X : XC p s m args meth c cX0_merge 4 RX0 D jC (jty j.1) A0 Z := X
  have hx := X.1
  have hb := X.2.1
  have hown := X.2.2.2.1
  have hts := X.2.2.2.2.1
  have hl : lv_has ls 4 [(0, .ref a0), (1, .int p1), (2, .int p2), (3, .int p3)] := by exact hl
  unfold hX0_merge at hf
  obtain ⟨H, eH⟩ : ∃ H, H = s.heap := ⟨_, rfl⟩
  obtain ⟨locs, eL⟩ : ∃ locs : List Loc, locs = [] := ⟨_, rfl⟩
  have hI : HI D jC G A0 s.heap H locs := by rw [eH, eL]; exact hI
  rw [← eL]
  suffices h : W p l e (rhX0_merge fr lo) s m args below meth c H locs 0 0 Q (F0 m 0 ls []) by rw [eH] at h; exact h
  clear eH eL
  refine lv_aload_n hx hb dX0_merge_0 rfl (lv_at hl 0 rfl) ?_
  refine lv_iload_n hx hb dX0_merge_1 rfl (lv_at hl 1 rfl) ?_
  refine lv_i2l hx hb dX0_merge_2 rfl ?_
  obtain ⟨_, _, hO, hf⟩ := hf
  refine h_ki X hI (h_runV (As := [.long p1.toInt64]) X hI (h_recv X hI hO (show jC.1[0]? = some (RX0, TX0, 20) from rfl)) (mhX0_isState l Z D j Λ fr lo E a0 p1.toInt64 G _ hf H.size) (cwV 1 hts (lw_V q1968 q1970 qs43 q167 q1971) rfl rfl rfl (by decide +kernel) (by show fr + 2 + 1 ≤ fr + 4 ∧ 8 + (3 + 11) + (lo + 65) ≤ lo + 110; omega)) rfl hl.1 (Nat.le_of_ble_eq_true rfl) dX0_merge_3 ⟨Nat.le_refl _, Nat.le_refl _⟩ rfl) (fun x2 G1 H locs hf hI => ?_)
  clear hO
  refine lv_if_eq (tgt := 37) hx hb dX0_merge_6 (by decide) (fun c3 => ?_) (fun c3 => ?_)
  · have hf := hf.1 c3
    refine lv_bipush (v := -2) hx hb dX0_merge_37 (by decide) ?_
    exact hret hf hI dX0_merge_39 (Nat.le_refl _) (Nat.le_refl _)
  · have hf := hf.2 c3
    refine lv_aload_n hx hb dX0_merge_9 rfl (lv_at hl 0 rfl) ?_
    refine lv_iload_n hx hb dX0_merge_10 rfl (lv_at hl 2 rfl) ?_
    refine lv_i2l hx hb dX0_merge_11 rfl ?_
    obtain ⟨_, _, hO, hf⟩ := hf
    refine h_ki X hI (h_runV (As := [.long p2.toInt64]) X hI (h_recv X hI hO (show jC.1[0]? = some (RX0, TX0, 20) from rfl)) (mhX0_isState l Z D j Λ fr lo E a0 p2.toInt64 G1 _ hf H.size) (cwV 1 hts (lw_V q1968 q1970 qs43 q167 q1971) rfl rfl rfl (by decide +kernel) (by show fr + 2 + 1 ≤ fr + 4 ∧ 8 + (3 + 11) + (lo + 65) ≤ lo + 110; omega)) rfl hl.1 (Nat.le_of_ble_eq_true rfl) dX0_merge_12 ⟨Nat.le_refl _, Nat.le_refl _⟩ rfl) (fun x5 G4 H locs hf hI => ?_)
    clear hO
    refine lv_if_eq (tgt := 37) hx hb dX0_merge_15 (by decide) (fun c6 => ?_) (fun c6 => ?_)
    · have hf := hf.1 c6
      refine lv_bipush (v := -2) hx hb dX0_merge_37 (by decide) ?_
      exact hret hf hI dX0_merge_39 (Nat.le_refl _) (Nat.le_refl _)
    · have hf := hf.2 c6
      refine lv_aload_n hx hb dX0_merge_18 rfl (lv_at hl 0 rfl) ?_
      refine lv_iload_n hx hb dX0_merge_19 rfl (lv_at hl 3 rfl) ?_
      refine lv_i2l hx hb dX0_merge_20 rfl ?_
      obtain ⟨_, _, hO, hf⟩ := hf
      refine h_ki X hI (h_runV (As := [.long p3.toInt64]) X hI (h_recv X hI hO (show jC.1[0]? = some (RX0, TX0, 20) from rfl)) (mhX0_isState l Z D j Λ fr lo E a0 p3.toInt64 G4 _ hf H.size) (cwV 1 hts (lw_V q1968 q1970 qs43 q167 q1971) rfl rfl rfl (by decide +kernel) (by show fr + 2 + 1 ≤ fr + 4 ∧ 8 + (3 + 11) + (lo + 65) ≤ lo + 110; omega)) rfl hl.1 (Nat.le_of_ble_eq_true rfl) dX0_merge_21 ⟨Nat.le_refl _, Nat.le_refl _⟩ rfl) (fun x8 G7 H locs hf hI => ?_)
      clear hO
      refine lv_if_eq (tgt := 37) hx hb dX0_merge_24 (by decide) (fun c9 => ?_) (fun c9 => ?_)
      · have hf := hf.1 c9
        refine lv_bipush (v := -2) hx hb dX0_merge_37 (by decide) ?_
        exact hret hf hI dX0_merge_39 (Nat.le_refl _) (Nat.le_refl _)
      · have hf := hf.2 c9
        refine lv_aload_n hx hb dX0_merge_27 rfl (lv_at hl 0 rfl) ?_
        refine lv_iload_n hx hb dX0_merge_28 rfl (lv_at hl 1 rfl) ?_
        refine lv_iload_n hx hb dX0_merge_29 rfl (lv_at hl 2 rfl) ?_
        refine lv_iload_n hx hb dX0_merge_30 rfl (lv_at hl 3 rfl) ?_
        obtain ⟨_, _, hO, hf⟩ := hf
        refine h_ki X hI (h_runV (As := [.int p1, .int p2, .int p3]) X hI (h_recv X hI hO (show jC.1[0]? = some (RX0, TX0, 20) from rfl)) (mhX0_mergeOf l Z D j Λ fr lo E a0 p1 p2 p3 G7 _ hf H.size) (cwV 3 hts (lw_V q2017 q2019 qs50 q167 q2020) rfl rfl rfl (by decide +kernel) (by show fr + 3 + 1 ≤ fr + 4 ∧ 8 + (6 + 11) + (lo + 85) ≤ lo + 110; omega)) rfl hl.1 (Nat.le_of_ble_eq_true rfl) dX0_merge_31 ⟨Nat.le_refl _, Nat.le_refl _⟩ rfl) (fun x11 G10 H locs hf hI => ?_)
        clear hO
        refine lv_goto (tgt := 39) hx hb dX0_merge_34 (by decide) ?_
        exact hret hf hI dX0_merge_39 (Nat.le_refl _) (Nat.le_refl _)
/-! MergeJudge.even(III)I -/
def hX0_even (j : JX) (Λ : JLam) (a0 : Nat) (p1 : Int32) (p2 : Int32) (p3 : Int32) (G : HG) (post : Int32 → HG → Prop) : Prop :=
  isO G a0 0 (hX0_isState j Λ a0 p1.toInt64 G fun x2 G1 => (x2 = 0 → (post ((-2) : Int32) G1)) ∧ (¬ x2 = 0 → (isO G1 a0 0 (hX0_isState j Λ a0 p2.toInt64 G1 fun x5 G4 => (x5 = 0 → (post ((-2) : Int32) G4)) ∧ (¬ x5 = 0 → (isO G4 a0 0 (hX0_isState j Λ a0 p3.toInt64 G4 fun x8 G7 => (x8 = 0 → (post ((-2) : Int32) G7)) ∧ (¬ x8 = 0 → (isO G7 a0 0 (hX0_mergeOf j Λ a0 p1 p2 p3 G7 fun x11 G10 => isO G10 a0 0 (hX0_mergeOf j Λ a0 p1 p3 p2 G10 fun x13 G12 => (x11 = x13 → (post (1 : Int32) G12)) ∧ (¬ x11 = x13 → (post (0 : Int32) G12)))))))))))))
abbrev rhX0_even (fr lo : Nat) : Room := { frames := fr + 4, cells := 0, slots := 0, locals := lo + 110 }
theorem mhX0_even (l : Launch) (Z : (Nat → Prop) → State → Heap → Prop) (D : va_G) (j : JX) (Λ : JLam) (fr lo : Nat) (E : JE l Z D j Λ fr lo) (a0 : Nat) (p1 : Int32) (p2 : Int32) (p3 : Int32) (G : HG) (post : Int32 → HG → Prop) (hf : hX0_even j Λ a0 p1 p2 p3 G post) : HMi l yX0_even (ws_ yX0_even cX0_even 4 (some .int)) (rhX0_even fr lo) D jC (jty j.1) Z G [.ref a0, .int p1, .int p2, .int p3] post 0 0 := by
  refine h_openi E.1 (by decide) (by exact Nat.le_of_ble_eq_true rfl) (fun p e s m args below meth c ls A0 Q X hI hnd hnm hl hret => ?_)
  have X : XC p s m args meth c cX0_even 4 RX0 D jC (jty j.1) A0 Z := X
  have hx := X.1
  have hb := X.2.1
  have hown := X.2.2.2.1
  have hts := X.2.2.2.2.1
  have hl : lv_has ls 4 [(0, .ref a0), (1, .int p1), (2, .int p2), (3, .int p3)] := by exact hl
  unfold hX0_even at hf
  obtain ⟨H, eH⟩ : ∃ H, H = s.heap := ⟨_, rfl⟩
  obtain ⟨locs, eL⟩ : ∃ locs : List Loc, locs = [] := ⟨_, rfl⟩
  have hI : HI D jC G A0 s.heap H locs := by rw [eH, eL]; exact hI
  rw [← eL]
  suffices h : W p l e (rhX0_even fr lo) s m args below meth c H locs 0 0 Q (F0 m 0 ls []) by rw [eH] at h; exact h
  clear eH eL
  refine lv_aload_n hx hb dX0_even_0 rfl (lv_at hl 0 rfl) ?_
  refine lv_iload_n hx hb dX0_even_1 rfl (lv_at hl 1 rfl) ?_
  refine lv_i2l hx hb dX0_even_2 rfl ?_
  obtain ⟨_, _, hO, hf⟩ := hf
  refine h_ki X hI (h_runV (As := [.long p1.toInt64]) X hI (h_recv X hI hO (show jC.1[0]? = some (RX0, TX0, 20) from rfl)) (mhX0_isState l Z D j Λ fr lo E a0 p1.toInt64 G _ hf H.size) (cwV 1 hts (lw_V q1968 q1970 qs43 q167 q1971) rfl rfl rfl (by decide +kernel) (by show fr + 2 + 1 ≤ fr + 4 ∧ 8 + (3 + 11) + (lo + 65) ≤ lo + 110; omega)) rfl hl.1 (Nat.le_of_ble_eq_true rfl) dX0_even_3 ⟨Nat.le_refl _, Nat.le_refl _⟩ rfl) (fun x2 G1 H locs hf hI => ?_)
  clear hO
  refine lv_if_eq (tgt := 52) hx hb dX0_even_6 (by decide) (fun c3 => ?_) (fun c3 => ?_)
  · have hf := hf.1 c3
    refine lv_bipush (v := -2) hx hb dX0_even_52 (by decide) ?_
    exact hret hf hI dX0_even_54 (Nat.le_refl _) (Nat.le_refl _)
  · have hf := hf.2 c3
    refine lv_aload_n hx hb dX0_even_9 rfl (lv_at hl 0 rfl) ?_
    refine lv_iload_n hx hb dX0_even_10 rfl (lv_at hl 2 rfl) ?_
    refine lv_i2l hx hb dX0_even_11 rfl ?_
    obtain ⟨_, _, hO, hf⟩ := hf
    refine h_ki X hI (h_runV (As := [.long p2.toInt64]) X hI (h_recv X hI hO (show jC.1[0]? = some (RX0, TX0, 20) from rfl)) (mhX0_isState l Z D j Λ fr lo E a0 p2.toInt64 G1 _ hf H.size) (cwV 1 hts (lw_V q1968 q1970 qs43 q167 q1971) rfl rfl rfl (by decide +kernel) (by show fr + 2 + 1 ≤ fr + 4 ∧ 8 + (3 + 11) + (lo + 65) ≤ lo + 110; omega)) rfl hl.1 (Nat.le_of_ble_eq_true rfl) dX0_even_12 ⟨Nat.le_refl _, Nat.le_refl _⟩ rfl) (fun x5 G4 H locs hf hI => ?_)
    clear hO
    refine lv_if_eq (tgt := 52) hx hb dX0_even_15 (by decide) (fun c6 => ?_) (fun c6 => ?_)
    · have hf := hf.1 c6
      refine lv_bipush (v := -2) hx hb dX0_even_52 (by decide) ?_
      exact hret hf hI dX0_even_54 (Nat.le_refl _) (Nat.le_refl _)
    · have hf := hf.2 c6
      refine lv_aload_n hx hb dX0_even_18 rfl (lv_at hl 0 rfl) ?_
      refine lv_iload_n hx hb dX0_even_19 rfl (lv_at hl 3 rfl) ?_
      refine lv_i2l hx hb dX0_even_20 rfl ?_
      obtain ⟨_, _, hO, hf⟩ := hf
      refine h_ki X hI (h_runV (As := [.long p3.toInt64]) X hI (h_recv X hI hO (show jC.1[0]? = some (RX0, TX0, 20) from rfl)) (mhX0_isState l Z D j Λ fr lo E a0 p3.toInt64 G4 _ hf H.size) (cwV 1 hts (lw_V q1968 q1970 qs43 q167 q1971) rfl rfl rfl (by decide +kernel) (by show fr + 2 + 1 ≤ fr + 4 ∧ 8 + (3 + 11) + (lo + 65) ≤ lo + 110; omega)) rfl hl.1 (Nat.le_of_ble_eq_true rfl) dX0_even_21 ⟨Nat.le_refl _, Nat.le_refl _⟩ rfl) (fun x8 G7 H locs hf hI => ?_)
      clear hO
      refine lv_if_eq (tgt := 52) hx hb dX0_even_24 (by decide) (fun c9 => ?_) (fun c9 => ?_)
      · have hf := hf.1 c9
        refine lv_bipush (v := -2) hx hb dX0_even_52 (by decide) ?_
        exact hret hf hI dX0_even_54 (Nat.le_refl _) (Nat.le_refl _)
      · have hf := hf.2 c9
        refine lv_aload_n hx hb dX0_even_27 rfl (lv_at hl 0 rfl) ?_
        refine lv_iload_n hx hb dX0_even_28 rfl (lv_at hl 1 rfl) ?_
        refine lv_iload_n hx hb dX0_even_29 rfl (lv_at hl 2 rfl) ?_
        refine lv_iload_n hx hb dX0_even_30 rfl (lv_at hl 3 rfl) ?_
        obtain ⟨_, _, hO, hf⟩ := hf
        refine h_ki X hI (h_runV (As := [.int p1, .int p2, .int p3]) X hI (h_recv X hI hO (show jC.1[0]? = some (RX0, TX0, 20) from rfl)) (mhX0_mergeOf l Z D j Λ fr lo E a0 p1 p2 p3 G7 _ hf H.size) (cwV 3 hts (lw_V q2017 q2019 qs50 q167 q2020) rfl rfl rfl (by decide +kernel) (by show fr + 3 + 1 ≤ fr + 4 ∧ 8 + (6 + 11) + (lo + 85) ≤ lo + 110; omega)) rfl hl.1 (Nat.le_of_ble_eq_true rfl) dX0_even_31 ⟨Nat.le_refl _, Nat.le_refl _⟩ rfl) (fun x11 G10 H locs hf hI => ?_)
        clear hO
        refine lv_aload_n hx hb dX0_even_34 rfl (lv_at hl 0 rfl) ?_
        refine lv_iload_n hx hb dX0_even_35 rfl (lv_at hl 1 rfl) ?_
        refine lv_iload_n hx hb dX0_even_36 rfl (lv_at hl 3 rfl) ?_
        refine lv_iload_n hx hb dX0_even_37 rfl (lv_at hl 2 rfl) ?_
        obtain ⟨_, _, hO, hf⟩ := hf
        refine h_ki X hI (h_runV (As := [.int p1, .int p3, .int p2]) X hI (h_recv X hI hO (show jC.1[0]? = some (RX0, TX0, 20) from rfl)) (mhX0_mergeOf l Z D j Λ fr lo E a0 p1 p3 p2 G10 _ hf H.size) (cwV 3 hts (lw_V q2017 q2019 qs50 q167 q2020) rfl rfl rfl (by decide +kernel) (by show fr + 3 + 1 ≤ fr + 4 ∧ 8 + (6 + 11) + (lo + 85) ≤ lo + 110; omega)) rfl hl.1 (Nat.le_of_ble_eq_true rfl) dX0_even_38 ⟨Nat.le_refl _, Nat.le_refl _⟩ rfl) (fun x13 G12 H locs hf hI => ?_)
        clear hO
        refine lv_icmp_ne (tgt := 48) hx hb dX0_even_41 (by decide) (fun c14 => ?_) (fun c14 => ?_)
        · have hf := hf.2 c14
          refine lv_iconst (v := 0) hx hb dX0_even_48 (by decide) ?_
          refine lv_goto (tgt := 54) hx hb dX0_even_49 (by decide) ?_
          exact hret hf hI dX0_even_54 (Nat.le_refl _) (Nat.le_refl _)
        · have hf := hf.1 c14
          refine lv_iconst (v := 1) hx hb dX0_even_44 (by decide) ?_
          refine lv_goto (tgt := 54) hx hb dX0_even_45 (by decide) ?_
          exact hret hf hI dX0_even_54 (Nat.le_refl _) (Nat.le_refl _)
/-! MergeJudge.reach(II)I -/
def hX0_reach (j : JX) (Λ : JLam) (a0 : Nat) (p1 : Int32) (p2 : Int32) (G : HG) (post : Int32 → HG → Prop) : Prop :=
  isO G a0 0 (hX0_isState j Λ a0 p1.toInt64 G fun x2 G1 => (x2 = 0 → (post ((-2) : Int32) G1)) ∧ (¬ x2 = 0 → (isO G1 a0 0 (hX0_isDeep j Λ a0 p2 G1 fun x5 G4 => (x5 = 0 → (post ((-2) : Int32) G4)) ∧ (¬ x5 = 0 → (gtQ G4 a0 0 11 fun q7 => nnq q7 fun a8 => ldI G4 a8 (j.1 1) p1 fun x9 => (x9 = 0 → (post ((-1) : Int32) G4)) ∧ (¬ x9 = 0 → (gtQ G4 a0 0 14 fun q11 => nnq q11 fun a12 => isO G4 a12 3 (hX3_of j Λ a12 p1 p2 (0 : Int32) G4 fun q14 G13 => nnq q14 fun a15 => gtI G13 a15 3 3 fun x16 => post x16 G13)))))))))
abbrev rhX0_reach (fr lo : Nat) : Room := { frames := fr + 3, cells := 0, slots := 0, locals := lo + 89 }
theorem mhX0_reach (l : Launch) (Z : (Nat → Prop) → State → Heap → Prop) (D : va_G) (j : JX) (Λ : JLam) (fr lo : Nat) (E : JE l Z D j Λ fr lo) (a0 : Nat) (p1 : Int32) (p2 : Int32) (G : HG) (post : Int32 → HG → Prop) (hf : hX0_reach j Λ a0 p1 p2 G post) : HMi l yX0_reach (ws_ yX0_reach cX0_reach 3 (some .int)) (rhX0_reach fr lo) D jC (jty j.1) Z G [.ref a0, .int p1, .int p2] post 0 0 := by
  refine h_openi E.1 (by decide) (by exact Nat.le_of_ble_eq_true rfl) (fun p e s m args below meth c ls A0 Q X hI hnd hnm hl hret => ?_)
  have X : XC p s m args meth c cX0_reach 3 RX0 D jC (jty j.1) A0 Z := X
  have hx := X.1
  have hb := X.2.1
  have hown := X.2.2.2.1
  have hts := X.2.2.2.2.1
  have hl : lv_has ls 3 [(0, .ref a0), (1, .int p1), (2, .int p2)] := by exact hl
  unfold hX0_reach at hf
  obtain ⟨H, eH⟩ : ∃ H, H = s.heap := ⟨_, rfl⟩
  obtain ⟨locs, eL⟩ : ∃ locs : List Loc, locs = [] := ⟨_, rfl⟩
  have hI : HI D jC G A0 s.heap H locs := by rw [eH, eL]; exact hI
  rw [← eL]
  suffices h : W p l e (rhX0_reach fr lo) s m args below meth c H locs 0 0 Q (F0 m 0 ls []) by rw [eH] at h; exact h
  clear eH eL
  refine lv_aload_n hx hb dX0_reach_0 rfl (lv_at hl 0 rfl) ?_
  refine lv_iload_n hx hb dX0_reach_1 rfl (lv_at hl 1 rfl) ?_
  refine lv_i2l hx hb dX0_reach_2 rfl ?_
  obtain ⟨_, _, hO, hf⟩ := hf
  refine h_ki X hI (h_runV (As := [.long p1.toInt64]) X hI (h_recv X hI hO (show jC.1[0]? = some (RX0, TX0, 20) from rfl)) (mhX0_isState l Z D j Λ fr lo E a0 p1.toInt64 G _ hf H.size) (cwV 1 hts (lw_V q1968 q1970 qs43 q167 q1971) rfl rfl rfl (by decide +kernel) (by show fr + 2 + 1 ≤ fr + 3 ∧ 8 + (3 + 11) + (lo + 65) ≤ lo + 89; omega)) rfl hl.1 (Nat.le_of_ble_eq_true rfl) dX0_reach_3 ⟨Nat.le_refl _, Nat.le_refl _⟩ rfl) (fun x2 G1 H locs hf hI => ?_)
  clear hO
  refine lv_if_eq (tgt := 17) hx hb dX0_reach_6 (by decide) (fun c3 => ?_) (fun c3 => ?_)
  · have hf := hf.1 c3
    refine lv_bipush (v := -2) hx hb dX0_reach_17 (by decide) ?_
    exact hret hf hI dX0_reach_19 (Nat.le_refl _) (Nat.le_refl _)
  · have hf := hf.2 c3
    refine lv_aload_n hx hb dX0_reach_9 rfl (lv_at hl 0 rfl) ?_
    refine lv_iload_n hx hb dX0_reach_10 rfl (lv_at hl 2 rfl) ?_
    obtain ⟨_, _, hO, hf⟩ := hf
    refine h_ki X hI (h_runV (As := [.int p2]) X hI (h_recv X hI hO (show jC.1[0]? = some (RX0, TX0, 20) from rfl)) (mhX0_isDeep l Z D j Λ fr lo E a0 p2 G1 _ hf H.size) (cwV 1 hts (lw_V q1976 q1978 qs44 q167 q1979) rfl rfl rfl (by decide +kernel) (by show fr + 2 + 1 ≤ fr + 3 ∧ 8 + (2 + 11) + (lo + 65) ≤ lo + 89; omega)) rfl hl.1 (Nat.le_of_ble_eq_true rfl) dX0_reach_11 ⟨Nat.le_refl _, Nat.le_refl _⟩ rfl) (fun x5 G4 H locs hf hI => ?_)
    clear hO
    refine lv_if_ne (tgt := 20) hx hb dX0_reach_14 (by decide) (fun c6 => ?_) (fun c6 => ?_)
    · have hf := hf.2 c6
      refine lv_aload_n hx hb dX0_reach_20 rfl (lv_at hl 0 rfl) ?_
      refine hr_gtQ X hI (rfl : jC.1[0]? = some (RX0, TX0, 20)) in_X0 11 (Nat.le_of_ble_eq_true rfl) hf q664 (fun _ h => h) dX0_reach_21 (fun q7 hf => ?_)
      refine lv_iload_n hx hb dX0_reach_24 rfl (lv_at hl 1 rfl) ?_
      obtain ⟨a8, ea8, hf⟩ := hf
      revert hl hf
      subst ea8
      intro hl hf
      have hl : lv_has ls 3 [(0, .ref a0), (1, .int p1), (2, .int p2)] := hl
      refine hr_zld X hI 1 rfl hf dX0_reach_25 (fun x9 hf => ?_)
      refine lv_if_eq (tgt := 45) hx hb dX0_reach_26 (by decide) (fun c10 => ?_) (fun c10 => ?_)
      · have hf := hf.1 c10
        refine lv_iconst (v := -1) hx hb dX0_reach_45 (by decide) ?_
        exact hret hf hI dX0_reach_46 (Nat.le_refl _) (Nat.le_refl _)
      · have hf := hf.2 c10
        refine lv_aload_n hx hb dX0_reach_29 rfl (lv_at hl 0 rfl) ?_
        refine hr_gtQ X hI (rfl : jC.1[0]? = some (RX0, TX0, 20)) in_X0 14 (Nat.le_of_ble_eq_true rfl) hf q669 (fun _ h => h) dX0_reach_30 (fun q11 hf => ?_)
        refine lv_iload_n hx hb dX0_reach_33 rfl (lv_at hl 1 rfl) ?_
        refine lv_iload_n hx hb dX0_reach_34 rfl (lv_at hl 2 rfl) ?_
        refine lv_iconst (v := 0) hx hb dX0_reach_35 (by decide) ?_
        obtain ⟨a12, ea12, hf⟩ := hf
        revert hl hf
        subst ea12
        intro hl hf
        have hl : lv_has ls 3 [(0, .ref a0), (1, .int p1), (2, .int p2)] := hl
        obtain ⟨_, _, hO, hf⟩ := hf
        refine h_kq X hI (h_runV (As := [.int p1, .int p2, .int 0]) X hI (h_recv X hI hO (show jC.1[3]? = some (RX3, TX3, 5) from rfl)) (mhX3_of l Z D j Λ fr lo E a12 p1 p2 (0 : Int32) G4 _ hf H.size) (cwV 3 hts (lw_V q1995 q1996 q1997 q174 q1998) rfl rfl rfl (by decide +kernel) (by show fr + 2 + 1 ≤ fr + 3 ∧ 8 + (7 + 11) + (lo + 63) ≤ lo + 89; omega)) rfl hl.1 (Nat.le_of_ble_eq_true rfl) dX0_reach_36 ⟨Nat.le_refl _, Nat.le_refl _⟩ rfl) (fun q14 G13 H locs hf hI => ?_)
        clear hO
        obtain ⟨a15, ea15, hf⟩ := hf
        revert hl hf
        subst ea15
        intro hl hf
        have hl : lv_has ls 3 [(0, .ref a0), (1, .int p1), (2, .int p2)] := hl
        refine hr_gtIN X hI (rfl : jC.1[3]? = some (RX3, TX3, 5)) in_X3 3 (Nat.le_of_ble_eq_true rfl) hf (E.nw X q567 rfl) (fun _ h => h) dX0_reach_39 (fun x16 hf => ?_)
        refine lv_goto (tgt := 46) hx hb dX0_reach_42 (by decide) ?_
        exact hret hf hI dX0_reach_46 (Nat.le_refl _) (Nat.le_refl _)
    · have hf := hf.1 c6
      refine lv_bipush (v := -2) hx hb dX0_reach_17 (by decide) ?_
      exact hret hf hI dX0_reach_19 (Nat.le_refl _) (Nat.le_refl _)
/-! MergeJudge.far(II)I -/
def hX0_far (j : JX) (Λ : JLam) (a0 : Nat) (p1 : Int32) (p2 : Int32) (G : HG) (post : Int32 → HG → Prop) : Prop :=
  isO G a0 0 (hX0_isState j Λ a0 p1.toInt64 G fun x2 G1 => (x2 = 0 → (post ((-2) : Int32) G1)) ∧ (¬ x2 = 0 → (isO G1 a0 0 (hX0_isState j Λ a0 p2.toInt64 G1 fun x5 G4 => (x5 = 0 → (post ((-2) : Int32) G4)) ∧ (¬ x5 = 0 → (gtQ G4 a0 0 14 fun q7 => nnq q7 fun a8 => isO G4 a8 3 (hX3_of j Λ a8 p1 (3 : Int32) (0 : Int32) G4 fun q10 G9 => nnq q10 fun a11 => gtQ G9 a11 3 0 fun q12 => nnq q12 fun a13 => ldI G9 a13 (j.1 0) p2 fun x14 => post x14 G9)))))))
abbrev rhX0_far (fr lo : Nat) : Room := { frames := fr + 3, cells := 0, slots := 0, locals := lo + 89 }
theorem mhX0_far (l : Launch) (Z : (Nat → Prop) → State → Heap → Prop) (D : va_G) (j : JX) (Λ : JLam) (fr lo : Nat) (E : JE l Z D j Λ fr lo) (a0 : Nat) (p1 : Int32) (p2 : Int32) (G : HG) (post : Int32 → HG → Prop) (hf : hX0_far j Λ a0 p1 p2 G post) : HMi l yX0_far (ws_ yX0_far cX0_far 3 (some .int)) (rhX0_far fr lo) D jC (jty j.1) Z G [.ref a0, .int p1, .int p2] post 0 0 := by
  refine h_openi E.1 (by decide) (by exact Nat.le_of_ble_eq_true rfl) (fun p e s m args below meth c ls A0 Q X hI hnd hnm hl hret => ?_)
  have X : XC p s m args meth c cX0_far 3 RX0 D jC (jty j.1) A0 Z := X
  have hx := X.1
  have hb := X.2.1
  have hown := X.2.2.2.1
  have hts := X.2.2.2.2.1
  have hl : lv_has ls 3 [(0, .ref a0), (1, .int p1), (2, .int p2)] := by exact hl
  unfold hX0_far at hf
  obtain ⟨H, eH⟩ : ∃ H, H = s.heap := ⟨_, rfl⟩
  obtain ⟨locs, eL⟩ : ∃ locs : List Loc, locs = [] := ⟨_, rfl⟩
  have hI : HI D jC G A0 s.heap H locs := by rw [eH, eL]; exact hI
  rw [← eL]
  suffices h : W p l e (rhX0_far fr lo) s m args below meth c H locs 0 0 Q (F0 m 0 ls []) by rw [eH] at h; exact h
  clear eH eL
  refine lv_aload_n hx hb dX0_far_0 rfl (lv_at hl 0 rfl) ?_
  refine lv_iload_n hx hb dX0_far_1 rfl (lv_at hl 1 rfl) ?_
  refine lv_i2l hx hb dX0_far_2 rfl ?_
  obtain ⟨_, _, hO, hf⟩ := hf
  refine h_ki X hI (h_runV (As := [.long p1.toInt64]) X hI (h_recv X hI hO (show jC.1[0]? = some (RX0, TX0, 20) from rfl)) (mhX0_isState l Z D j Λ fr lo E a0 p1.toInt64 G _ hf H.size) (cwV 1 hts (lw_V q1968 q1970 qs43 q167 q1971) rfl rfl rfl (by decide +kernel) (by show fr + 2 + 1 ≤ fr + 3 ∧ 8 + (3 + 11) + (lo + 65) ≤ lo + 89; omega)) rfl hl.1 (Nat.le_of_ble_eq_true rfl) dX0_far_3 ⟨Nat.le_refl _, Nat.le_refl _⟩ rfl) (fun x2 G1 H locs hf hI => ?_)
  clear hO
  refine lv_if_eq (tgt := 36) hx hb dX0_far_6 (by decide) (fun c3 => ?_) (fun c3 => ?_)
  · have hf := hf.1 c3
    refine lv_bipush (v := -2) hx hb dX0_far_36 (by decide) ?_
    exact hret hf hI dX0_far_38 (Nat.le_refl _) (Nat.le_refl _)
  · have hf := hf.2 c3
    refine lv_aload_n hx hb dX0_far_9 rfl (lv_at hl 0 rfl) ?_
    refine lv_iload_n hx hb dX0_far_10 rfl (lv_at hl 2 rfl) ?_
    refine lv_i2l hx hb dX0_far_11 rfl ?_
    obtain ⟨_, _, hO, hf⟩ := hf
    refine h_ki X hI (h_runV (As := [.long p2.toInt64]) X hI (h_recv X hI hO (show jC.1[0]? = some (RX0, TX0, 20) from rfl)) (mhX0_isState l Z D j Λ fr lo E a0 p2.toInt64 G1 _ hf H.size) (cwV 1 hts (lw_V q1968 q1970 qs43 q167 q1971) rfl rfl rfl (by decide +kernel) (by show fr + 2 + 1 ≤ fr + 3 ∧ 8 + (3 + 11) + (lo + 65) ≤ lo + 89; omega)) rfl hl.1 (Nat.le_of_ble_eq_true rfl) dX0_far_12 ⟨Nat.le_refl _, Nat.le_refl _⟩ rfl) (fun x5 G4 H locs hf hI => ?_)
    clear hO
    refine lv_if_eq (tgt := 36) hx hb dX0_far_15 (by decide) (fun c6 => ?_) (fun c6 => ?_)
    · have hf := hf.1 c6
      refine lv_bipush (v := -2) hx hb dX0_far_36 (by decide) ?_
      exact hret hf hI dX0_far_38 (Nat.le_refl _) (Nat.le_refl _)
    · have hf := hf.2 c6
      refine lv_aload_n hx hb dX0_far_18 rfl (lv_at hl 0 rfl) ?_
      refine hr_gtQ X hI (rfl : jC.1[0]? = some (RX0, TX0, 20)) in_X0 14 (Nat.le_of_ble_eq_true rfl) hf q669 (fun _ h => h) dX0_far_19 (fun q7 hf => ?_)
      refine lv_iload_n hx hb dX0_far_22 rfl (lv_at hl 1 rfl) ?_
      refine lv_iconst (v := 3) hx hb dX0_far_23 (by decide) ?_
      refine lv_iconst (v := 0) hx hb dX0_far_24 (by decide) ?_
      obtain ⟨a8, ea8, hf⟩ := hf
      revert hl hf
      subst ea8
      intro hl hf
      have hl : lv_has ls 3 [(0, .ref a0), (1, .int p1), (2, .int p2)] := hl
      obtain ⟨_, _, hO, hf⟩ := hf
      refine h_kq X hI (h_runV (As := [.int p1, .int 3, .int 0]) X hI (h_recv X hI hO (show jC.1[3]? = some (RX3, TX3, 5) from rfl)) (mhX3_of l Z D j Λ fr lo E a8 p1 (3 : Int32) (0 : Int32) G4 _ hf H.size) (cwV 3 hts (lw_V q1995 q1996 q1997 q174 q1998) rfl rfl rfl (by decide +kernel) (by show fr + 2 + 1 ≤ fr + 3 ∧ 8 + (7 + 11) + (lo + 63) ≤ lo + 89; omega)) rfl hl.1 (Nat.le_of_ble_eq_true rfl) dX0_far_25 ⟨Nat.le_refl _, Nat.le_refl _⟩ rfl) (fun q10 G9 H locs hf hI => ?_)
      clear hO
      obtain ⟨a11, ea11, hf⟩ := hf
      revert hl hf
      subst ea11
      intro hl hf
      have hl : lv_has ls 3 [(0, .ref a0), (1, .int p1), (2, .int p2)] := hl
      refine hr_gtQN X hI (rfl : jC.1[3]? = some (RX3, TX3, 5)) in_X3 0 (Nat.le_of_ble_eq_true rfl) hf (E.nw X q562 rfl) (fun _ h => h) dX0_far_28 (fun q12 hf => ?_)
      refine lv_iload_n hx hb dX0_far_31 rfl (lv_at hl 2 rfl) ?_
      obtain ⟨a13, ea13, hf⟩ := hf
      revert hl hf
      subst ea13
      intro hl hf
      have hl : lv_has ls 3 [(0, .ref a0), (1, .int p1), (2, .int p2)] := hl
      refine hr_ild X hI 0 rfl hf dX0_far_32 (fun x14 hf => ?_)
      refine lv_goto (tgt := 38) hx hb dX0_far_33 (by decide) ?_
      exact hret hf hI dX0_far_38 (Nat.le_refl _) (Nat.le_refl _)
