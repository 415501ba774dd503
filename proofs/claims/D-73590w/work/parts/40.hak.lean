/-! THE COMPONENT as transformers over its heap, and the walks (printed by gen/genh.py) -/
/-! MergeJudge.undo()I -/
def hX0_undo (j : JX) (Λ : JLam) (a0 : Nat) (mc ms : Nat) (G : HG) (post : Int32 → HG → Prop) : Prop :=
  gtQ G a0 0 1 fun q1 => nnq q1 fun a2 => isO G a2 2 (hX2_is j Λ a2 G fun x4 G3 => (x4 = 0 → (post ((-2) : Int32) G3)) ∧ (¬ x4 = 0 → (gtQ G3 a0 0 1 fun q6 => nnq q6 fun a7 => gtQ G3 a7 2 2 fun q8 => nnq q8 fun a9 => isO G3 a9 15 (hJ2_isEmpty j Λ a9 G3 fun x11 G10 => (x11 = 0 → (isO G10 a0 0 (∃ m13 m14 : Nat, m13 ≤ mc ∧ m14 ≤ ms ∧ hX0_takesBack j Λ a0 m13 m14 G10 fun x16 G15 => post x16 G15))) ∧ (¬ x11 = 0 → (post ((-5) : Int32) G10))))))
abbrev rhX0_undo (fr lo mc ms : Nat) : Room := { frames := fr + 5, cells := mc, slots := ms, locals := lo + 126 }
theorem mhX0_undo (l : Launch) (Z : (Nat → Prop) → State → Heap → Prop) (D : va_G) (j : JX) (Λ : JLam) (fr lo : Nat) (E : JE l Z D j Λ fr lo) (a0 : Nat) (mc ms : Nat) (G : HG) (post : Int32 → HG → Prop) (hf : hX0_undo j Λ a0 mc ms G post) : HMi l yX0_undo (ws_ yX0_undo cX0_undo 1 (some .int)) (rhX0_undo fr lo mc ms) D jC (jty j.1) Z G [.ref a0] post mc ms := by
  obtain ⟨MC, eMC⟩ : ∃ MC, MC = mc := ⟨_, rfl⟩
  obtain ⟨MS, eMS⟩ : ∃ MS, MS = ms := ⟨_, rfl⟩
  suffices goal : HMi l yX0_undo (ws_ yX0_undo cX0_undo 1 (some .int)) (rhX0_undo fr lo MC MS) D jC (jty j.1) Z G [.ref a0] post MC MS by rw [eMC, eMS] at goal; exact goal
  have hm0_ : 0 + mc ≤ MC ∧ 0 + ms ≤ MS := by omega
  clear eMC eMS
  refine h_openi E.1 (by decide) (by exact Nat.le_of_ble_eq_true rfl) (fun p e s m args below meth c ls A0 Q X hI hnd hnm hl hret => ?_)
  have X : XC p s m args meth c cX0_undo 1 RX0 D jC (jty j.1) A0 Z := X
  have hx := X.1
  have hb := X.2.1
  have hown := X.2.2.2.1
  have hts := X.2.2.2.2.1
  have hl : lv_has ls 1 [(0, .ref a0)] := by exact hl
  unfold hX0_undo at hf
  obtain ⟨H, eH⟩ : ∃ H, H = s.heap := ⟨_, rfl⟩
  obtain ⟨locs, eL⟩ : ∃ locs : List Loc, locs = [] := ⟨_, rfl⟩
  have hI : HI D jC G A0 s.heap H locs := by rw [eH, eL]; exact hI
  rw [← eL]
  obtain ⟨cells, eC⟩ : ∃ n : Nat, n = 0 := ⟨_, rfl⟩
  obtain ⟨slots, eS⟩ : ∃ n : Nat, n = 0 := ⟨_, rfl⟩
  have hm : cells + mc ≤ MC ∧ slots + ms ≤ MS := by rw [eC, eS]; exact hm0_
  suffices h : W p l e (rhX0_undo fr lo MC MS) s m args below meth c H locs cells slots Q (F0 m 0 ls []) by rw [eH, eC, eS] at h; exact h
  clear eH eL eC eS
  refine lv_aload_n hx hb dX0_undo_0 rfl (lv_at hl 0 rfl) ?_
  refine hr_gtQ X hI (rfl : jC.1[0]? = some (RX0, TX0, 20)) in_X0 1 (Nat.le_of_ble_eq_true rfl) hf q653 (fun _ h => h) dX0_undo_1 (fun q1 hf => ?_)
  obtain ⟨a2, ea2, hf⟩ := hf
  revert hl hf
  subst ea2
  intro hl hf
  have hl : lv_has ls 1 [(0, .ref a0)] := hl
  obtain ⟨_, _, hO, hf⟩ := hf
  refine h_ki X hI (h_runV (As := []) X hI (h_recv X hI hO (show jC.1[2]? = some (RX2, TX2, 11) from rfl)) (mhX2_is l Z D j Λ fr lo E a2 G _ hf H.size) (cwV 0 hts (lw_V q1839 q1840 q1841 q169 q1842) rfl rfl rfl (by decide +kernel) (by show fr + 1 + 1 ≤ fr + 5 ∧ 8 + (1 + 11) + (lo + 40) ≤ lo + 126; omega)) rfl hl.1 (Nat.le_of_ble_eq_true rfl) dX0_undo_4 ⟨hm0 hm.1, hm0 hm.2⟩ rfl) (fun x4 G3 H locs hf hI => ?_)
  clear hO
  refine lv_if_ne (tgt := 13) hx hb dX0_undo_7 (by decide) (fun c5 => ?_) (fun c5 => ?_)
  · have hf := hf.2 c5
    refine lv_aload_n hx hb dX0_undo_13 rfl (lv_at hl 0 rfl) ?_
    refine hr_gtQ X hI (rfl : jC.1[0]? = some (RX0, TX0, 20)) in_X0 1 (Nat.le_of_ble_eq_true rfl) hf q653 (fun _ h => h) dX0_undo_14 (fun q6 hf => ?_)
    obtain ⟨a7, ea7, hf⟩ := hf
    revert hl hf
    subst ea7
    intro hl hf
    have hl : lv_has ls 1 [(0, .ref a0)] := hl
    refine hr_gtQN X hI (rfl : jC.1[2]? = some (RX2, TX2, 11)) in_X2 2 (Nat.le_of_ble_eq_true rfl) hf (E.nw X q485 rfl) (fun _ h => h) dX0_undo_17 (fun q8 hf => ?_)
    obtain ⟨a9, ea9, hf⟩ := hf
    revert hl hf
    subst ea9
    intro hl hf
    have hl : lv_has ls 1 [(0, .ref a0)] := hl
    obtain ⟨_, _, hO, hf⟩ := hf
    refine h_Fki X hI (h_runF (As := []) X hI (X.2.2.2.2.2.1.1 15 _ (show jC.1[15]? = some (RJ2, TJ2, 3) from rfl)).2 (h_recv X hI hO (show jC.1[15]? = some (RJ2, TJ2, 3) from rfl)) (mhJ2_isEmpty l Z D j Λ fr lo E a9 G3 _ hf H.size) (cwF 0 hts q2565 q2568 q2570 q172 q2572 ((E.w X).2.2.1 _ (List.mem_of_getElem? (show jFw[3]? = _ from rfl))) rfl rfl (by decide +kernel) (by show fr + 1 + 1 ≤ fr + 5 ∧ 8 + (1 + 11) + (lo + 40) ≤ lo + 126; omega)) rfl hl.1 (Nat.le_of_ble_eq_true rfl) dX0_undo_20 ⟨hm0 hm.1, hm0 hm.2⟩ rfl) (fun x11 G10 H locs hf hI => ?_)
    clear hO
    refine lv_if_eq (tgt := 33) hx hb dX0_undo_25 (by decide) (fun c12 => ?_) (fun c12 => ?_)
    · have hf := hf.1 c12
      refine lv_aload_n hx hb dX0_undo_33 rfl (lv_at hl 0 rfl) ?_
      obtain ⟨_, _, hO, hf⟩ := hf
      obtain ⟨m13, m14, hb1, hb2, hf⟩ := hf
      refine h_ki X hI (h_runV (As := []) X hI (h_recv X hI hO (show jC.1[0]? = some (RX0, TX0, 20) from rfl)) (mhX0_takesBack l Z D j Λ fr lo E a0 m13 m14 G10 _ hf H.size) (cwV 0 hts (lw_V q2573 q2575 qs89 q167 q2576) rfl rfl rfl (by decide +kernel) (by show fr + 4 + 1 ≤ fr + 5 ∧ 8 + (1 + 11) + (lo + 106) ≤ lo + 126; omega)) rfl hl.1 (Nat.le_of_ble_eq_true rfl) dX0_undo_34 ⟨hmA hm.1 hb1, hmA hm.2 hb2⟩ rfl) (fun x16 G15 H locs hf hI => ?_)
      have hm := And.intro (hmB hm.1 hb1) (hmB hm.2 hb2)
      clear hb1 hb2
      clear hO
      exact hret hf hI dX0_undo_37 (hmC hm.1) (hmC hm.2)
    · have hf := hf.2 c12
      refine lv_bipush (v := -5) hx hb dX0_undo_28 (by decide) ?_
      refine lv_goto (tgt := 37) hx hb dX0_undo_30 (by decide) ?_
      exact hret hf hI dX0_undo_37 (hmC hm.1) (hmC hm.2)
  · have hf := hf.1 c5
    refine lv_bipush (v := -2) hx hb dX0_undo_10 (by decide) ?_
    exact hret hf hI dX0_undo_12 (hmC hm.1) (hmC hm.2)
/-! MergeJudge.anew()I -/
def hX0_anew_b26 (j : JX) (Λ : JLam) (a0 : Nat) (post : Int32 → HG → Prop) (K26 : Int32 → Nat → Nat → HG → Prop) (lx1 : Int32) (mc ms : Nat) (G : HG) : Prop :=
  gtQ G a0 0 1 fun q12 => nnq q12 fun a13 => gtQ G a13 2 2 fun q14 => nnq q14 fun a15 => isO G a15 15 (hJ2_isEmpty j Λ a15 G fun x17 G16 => (x17 = 0 → (isO G16 a0 0 (∃ m19 m20 : Nat, m19 ≤ mc ∧ m20 ≤ ms ∧ hX0_takesBack j Λ a0 m19 m20 G16 fun x22 G21 => K26 lx1 (mc - m19) (ms - m20) G21))) ∧ (¬ x17 = 0 → (post lx1 G16)))
def hX0_anew_l26 (j : JX) (Λ : JLam) (a0 : Nat) (post : Int32 → HG → Prop) : Nat → Int32 → Nat → Nat → HG → Prop
  | 0 => fun _ _ _ _ => False
  | n + 1 => fun lx1 mc ms G => hX0_anew_b26 j Λ a0 post (hX0_anew_l26 j Λ a0 post n) lx1 mc ms G
def hX0_anew (j : JX) (Λ : JLam) (a0 : Nat) (mc ms : Nat) (G : HG) (post : Int32 → HG → Prop) : Prop :=
  gtQ G a0 0 1 fun q1 => nnq q1 fun a2 => isO G a2 2 (hX2_is j Λ a2 G fun x4 G3 => (x4 = 0 → (post ((-2) : Int32) G3)) ∧ (¬ x4 = 0 → (gtQ G3 a0 0 1 fun q6 => nnq q6 fun a7 => gtQ G3 a7 2 2 fun q8 => nnq q8 fun a9 => isO G3 a9 15 (hJ2_size j Λ a9 G3 fun x11 G10 => ∃ n, hX0_anew_l26 j Λ a0 post n x11 mc ms G10))))
abbrev rhX0_anew (fr lo mc ms : Nat) : Room := { frames := fr + 5, cells := mc, slots := ms, locals := lo + 126 }
theorem mhX0_anew (l : Launch) (Z : (Nat → Prop) → State → Heap → Prop) (D : va_G) (j : JX) (Λ : JLam) (fr lo : Nat) (E : JE l Z D j Λ fr lo) (a0 : Nat) (mc ms : Nat) (G : HG) (post : Int32 → HG → Prop) (hf : hX0_anew j Λ a0 mc ms G post) : HMi l yX0_anew (ws_ yX0_anew cX0_anew 2 (some .int)) (rhX0_anew fr lo mc ms) D jC (jty j.1) Z G [.ref a0] post mc ms := by
  obtain ⟨MC, eMC⟩ : ∃ MC, MC = mc := ⟨_, rfl⟩
  obtain ⟨MS, eMS⟩ : ∃ MS, MS = ms := ⟨_, rfl⟩
  suffices goal : HMi l yX0_anew (ws_ yX0_anew cX0_anew 2 (some .int)) (rhX0_anew fr lo MC MS) D jC (jty j.1) Z G [.ref a0] post MC MS by rw [eMC, eMS] at goal; exact goal
  have hm0_ : 0 + mc ≤ MC ∧ 0 + ms ≤ MS := by omega
  clear eMC eMS
  refine h_openi E.1 (by decide) (by exact Nat.le_of_ble_eq_true rfl) (fun p e s m args below meth c ls A0 Q X hI hnd hnm hl hret => ?_)
  have X : XC p s m args meth c cX0_anew 2 RX0 D jC (jty j.1) A0 Z := X
  have hx := X.1
  have hb := X.2.1
  have hown := X.2.2.2.1
  have hts := X.2.2.2.2.1
  have L26 : ∀ (n : Nat) (lx1 : Int32) (mc ms : Nat) (G : HG), hX0_anew_l26 j Λ a0 post n lx1 mc ms G → ∀ (cells slots : Nat), cells + mc ≤ MC ∧ slots + ms ≤ MS → ∀ (H : Heap) (locs : List Loc), HI D jC G A0 s.heap H locs → ∀ (ls : Array Slot), lv_has ls 2 [(0, .ref a0), (1, .int lx1)] → W p l e (rhX0_anew fr lo MC MS) s m args below meth c H locs cells slots Q (F0 m 26 ls []) := by
    intro n26
    induction n26 with
    | zero => intro lx1 mc ms G hf; exact hf.elim
    | succ n26 ih26 =>
      intro lx1 mc ms G hf cells slots hm H locs hI ls hl
      have hf : hX0_anew_b26 j Λ a0 post (hX0_anew_l26 j Λ a0 post n26) lx1 mc ms G := hf
      unfold hX0_anew_b26 at hf
      refine lv_aload_n hx hb dX0_anew_26 rfl (lv_at hl 0 rfl) ?_
      refine hr_gtQ X hI (rfl : jC.1[0]? = some (RX0, TX0, 20)) in_X0 1 (Nat.le_of_ble_eq_true rfl) hf q653 (fun _ h => h) dX0_anew_27 (fun q12 hf => ?_)
      obtain ⟨a13, ea13, hf⟩ := hf
      revert hl hf
      subst ea13
      intro hl hf
      have hl : lv_has ls 2 [(0, .ref a0), (1, .int lx1)] := hl
      refine hr_gtQN X hI (rfl : jC.1[2]? = some (RX2, TX2, 11)) in_X2 2 (Nat.le_of_ble_eq_true rfl) hf (E.nw X q485 rfl) (fun _ h => h) dX0_anew_30 (fun q14 hf => ?_)
      obtain ⟨a15, ea15, hf⟩ := hf
      revert hl hf
      subst ea15
      intro hl hf
      have hl : lv_has ls 2 [(0, .ref a0), (1, .int lx1)] := hl
      obtain ⟨_, _, hO, hf⟩ := hf
      refine h_Fki X hI (h_runF (As := []) X hI (X.2.2.2.2.2.1.1 15 _ (show jC.1[15]? = some (RJ2, TJ2, 3) from rfl)).2 (h_recv X hI hO (show jC.1[15]? = some (RJ2, TJ2, 3) from rfl)) (mhJ2_isEmpty l Z D j Λ fr lo E a15 G _ hf H.size) (cwF 0 hts q2565 q2568 q2570 q172 q2572 ((E.w X).2.2.1 _ (List.mem_of_getElem? (show jFw[3]? = _ from rfl))) rfl rfl (by decide +kernel) (by show fr + 1 + 1 ≤ fr + 5 ∧ 8 + (1 + 11) + (lo + 40) ≤ lo + 126; omega)) rfl hl.1 (Nat.le_of_ble_eq_true rfl) dX0_anew_33 ⟨hm0 hm.1, hm0 hm.2⟩ rfl) (fun x17 G16 H locs hf hI => ?_)
      clear hO
      refine lv_if_ne (tgt := 49) hx hb dX0_anew_38 (by decide) (fun c18 => ?_) (fun c18 => ?_)
      · have hf := hf.2 c18
        refine lv_iload_n hx hb dX0_anew_49 rfl (lv_at hl 1 rfl) ?_
        exact hret hf hI dX0_anew_50 (hmC hm.1) (hmC hm.2)
      · have hf := hf.1 c18
        refine lv_aload_n hx hb dX0_anew_41 rfl (lv_at hl 0 rfl) ?_
        obtain ⟨_, _, hO, hf⟩ := hf
        obtain ⟨m19, m20, hb1, hb2, hf⟩ := hf
        refine h_ki X hI (h_runV (As := []) X hI (h_recv X hI hO (show jC.1[0]? = some (RX0, TX0, 20) from rfl)) (mhX0_takesBack l Z D j Λ fr lo E a0 m19 m20 G16 _ hf H.size) (cwV 0 hts (lw_V q2573 q2575 qs89 q167 q2576) rfl rfl rfl (by decide +kernel) (by show fr + 4 + 1 ≤ fr + 5 ∧ 8 + (1 + 11) + (lo + 106) ≤ lo + 126; omega)) rfl hl.1 (Nat.le_of_ble_eq_true rfl) dX0_anew_42 ⟨hmA hm.1 hb1, hmA hm.2 hb2⟩ rfl) (fun x22 G21 H locs hf hI => ?_)
        have hm := And.intro (hmB hm.1 hb1) (hmB hm.2 hb2)
        clear hb1 hb2
        clear hO
        refine lv_pop hx hb dX0_anew_45 rfl ?_
        refine lv_goto (tgt := 26) hx hb dX0_anew_46 (by decide) ?_
        exact ih26 lx1 (mc - m19) (ms - m20) G21 hf _ _ hm H locs hI ls (lv_sub hl [0, 1] rfl)
  have hl : lv_has ls 2 [(0, .ref a0)] := by exact hl
  unfold hX0_anew at hf
  obtain ⟨H, eH⟩ : ∃ H, H = s.heap := ⟨_, rfl⟩
  obtain ⟨locs, eL⟩ : ∃ locs : List Loc, locs = [] := ⟨_, rfl⟩
  have hI : HI D jC G A0 s.heap H locs := by rw [eH, eL]; exact hI
  rw [← eL]
  obtain ⟨cells, eC⟩ : ∃ n : Nat, n = 0 := ⟨_, rfl⟩
  obtain ⟨slots, eS⟩ : ∃ n : Nat, n = 0 := ⟨_, rfl⟩
  have hm : cells + mc ≤ MC ∧ slots + ms ≤ MS := by rw [eC, eS]; exact hm0_
  suffices h : W p l e (rhX0_anew fr lo MC MS) s m args below meth c H locs cells slots Q (F0 m 0 ls []) by rw [eH, eC, eS] at h; exact h
  clear eH eL eC eS
  refine lv_aload_n hx hb dX0_anew_0 rfl (lv_at hl 0 rfl) ?_
  refine hr_gtQ X hI (rfl : jC.1[0]? = some (RX0, TX0, 20)) in_X0 1 (Nat.le_of_ble_eq_true rfl) hf q653 (fun _ h => h) dX0_anew_1 (fun q1 hf => ?_)
  obtain ⟨a2, ea2, hf⟩ := hf
  revert hl hf
  subst ea2
  intro hl hf
  have hl : lv_has ls 2 [(0, .ref a0)] := hl
  obtain ⟨_, _, hO, hf⟩ := hf
  refine h_ki X hI (h_runV (As := []) X hI (h_recv X hI hO (show jC.1[2]? = some (RX2, TX2, 11) from rfl)) (mhX2_is l Z D j Λ fr lo E a2 G _ hf H.size) (cwV 0 hts (lw_V q1839 q1840 q1841 q169 q1842) rfl rfl rfl (by decide +kernel) (by show fr + 1 + 1 ≤ fr + 5 ∧ 8 + (1 + 11) + (lo + 40) ≤ lo + 126; omega)) rfl hl.1 (Nat.le_of_ble_eq_true rfl) dX0_anew_4 ⟨hm0 hm.1, hm0 hm.2⟩ rfl) (fun x4 G3 H locs hf hI => ?_)
  clear hO
  refine lv_if_ne (tgt := 13) hx hb dX0_anew_7 (by decide) (fun c5 => ?_) (fun c5 => ?_)
  · have hf := hf.2 c5
    refine lv_aload_n hx hb dX0_anew_13 rfl (lv_at hl 0 rfl) ?_
    refine hr_gtQ X hI (rfl : jC.1[0]? = some (RX0, TX0, 20)) in_X0 1 (Nat.le_of_ble_eq_true rfl) hf q653 (fun _ h => h) dX0_anew_14 (fun q6 hf => ?_)
    obtain ⟨a7, ea7, hf⟩ := hf
    revert hl hf
    subst ea7
    intro hl hf
    have hl : lv_has ls 2 [(0, .ref a0)] := hl
    refine hr_gtQN X hI (rfl : jC.1[2]? = some (RX2, TX2, 11)) in_X2 2 (Nat.le_of_ble_eq_true rfl) hf (E.nw X q485 rfl) (fun _ h => h) dX0_anew_17 (fun q8 hf => ?_)
    obtain ⟨a9, ea9, hf⟩ := hf
    revert hl hf
    subst ea9
    intro hl hf
    have hl : lv_has ls 2 [(0, .ref a0)] := hl
    obtain ⟨_, _, hO, hf⟩ := hf
    refine h_Fki X hI (h_runF (As := []) X hI (X.2.2.2.2.2.1.1 15 _ (show jC.1[15]? = some (RJ2, TJ2, 3) from rfl)).2 (h_recv X hI hO (show jC.1[15]? = some (RJ2, TJ2, 3) from rfl)) (mhJ2_size l Z D j Λ fr lo E a9 G3 _ hf H.size) (cwF 0 hts q1848 q1771 q1773 q172 q1775 ((E.w X).2.2.1 _ (List.mem_of_getElem? (show jFw[0]? = _ from rfl))) rfl rfl (by decide +kernel) (by show fr + 1 + 1 ≤ fr + 5 ∧ 8 + (1 + 11) + (lo + 40) ≤ lo + 126; omega)) rfl hl.1 (Nat.le_of_ble_eq_true rfl) dX0_anew_20 ⟨hm0 hm.1, hm0 hm.2⟩ rfl) (fun x11 G10 H locs hf hI => ?_)
    clear hO
    refine lv_istore_n (lv' := [(1, .int x11), (0, .ref a0)]) hx hb dX0_anew_25 rfl hl (by decide) rfl (fun ls hl => ?_)
    obtain ⟨n, hf⟩ := hf
    exact L26 n x11 mc ms G10 hf _ _ hm H locs hI ls (lv_sub hl [1, 0] rfl)
  · have hf := hf.1 c5
    refine lv_bipush (v := -2) hx hb dX0_anew_10 (by decide) ?_
    exact hret hf hI dX0_anew_12 (hmC hm.1) (hmC hm.2)
/-! MergeJudge$Base.same()LMergeJudge$Base; -/
def hX2_same (j : JX) (Λ : JLam) (a0 : Nat) (mc ms : Nat) (G : HG) (post : Option Nat → HG → Prop) : Prop :=
  1 ≤ mc ∧ 11 ≤ ms ∧ mkO G (.inr (2, [.null, .null, .null, .null, .int 0, .int 0, .int 0, .int 0, .int 0, .int 0, .int 0])) fun a1 G2 => ∃ m3 m4 : Nat, m3 ≤ mc - 1 ∧ m4 ≤ ms - 11 ∧ hX2_init j Λ a1 m3 m4 G2 fun G5 => gtQ G5 a1 2 0 fun q6 => gtQ G5 a0 2 0 fun q7 => nnq q6 fun a8 => isO G5 a8 15 (∃ m9 m10 : Nat, m9 ≤ mc - 1 - m3 ∧ m10 ≤ ms - 11 - m4 ∧ hJ2_addAll j Λ a8 q7 m9 m10 G5 fun x12 G11 => gtQ G11 a1 2 1 fun q13 => gtQ G11 a0 2 1 fun q14 => nnq q13 fun a15 => isO G11 a15 15 (∃ m16 m17 : Nat, m16 ≤ mc - 1 - m3 - m9 ∧ m17 ≤ ms - 11 - m4 - m10 ∧ hJ2_addAll j Λ a15 q14 m16 m17 G11 fun x19 G18 => gtQ G18 a1 2 2 fun q20 => gtQ G18 a0 2 2 fun q21 => nnq q20 fun a22 => isO G18 a22 15 (∃ m23 m24 : Nat, m23 ≤ mc - 1 - m3 - m9 - m16 ∧ m24 ≤ ms - 11 - m4 - m10 - m17 ∧ hJ2_addAll j Λ a22 q21 m23 m24 G18 fun x26 G25 => gtQ G25 a0 2 3 fun q27 => gtQ G25 a1 2 3 fun q28 => nnq q27 fun a29 => nnq q28 fun a30 => cpI .int G25 a29 (j.1 0) (0 : Int32) a30 (0 : Int32) (3 : Int32) fun G31 => gtI G31 a0 2 4 fun x32 => ptV G31 a1 2 4 (.int x32) fun G33 => gtI G33 a0 2 5 fun x34 => ptV G33 a1 2 5 (.int x34) fun G35 => gtI G35 a0 2 6 fun x36 => ptV G35 a1 2 6 (.int x36) fun G37 => gtI G37 a0 2 7 fun x38 => ptV G37 a1 2 7 (.int x38) fun G39 => gtI G39 a0 2 8 fun x40 => ptV G39 a1 2 8 (.int x40) fun G41 => gtI G41 a0 2 9 fun x42 => ptV G41 a1 2 9 (.int x42) fun G43 => gtI G43 a0 2 10 fun x44 => ptV G43 a1 2 10 (.int x44) fun G45 => post (some a1) G45)))
abbrev rhX2_same (fr lo mc ms : Nat) : Room := { frames := fr + 5, cells := mc, slots := ms, locals := lo + 132 }
theorem mhX2_same (l : Launch) (Z : (Nat → Prop) → State → Heap → Prop) (D : va_G) (j : JX) (Λ : JLam) (fr lo : Nat) (E : JE l Z D j Λ fr lo) (a0 : Nat) (mc ms : Nat) (G : HG) (post : Option Nat → HG → Prop) (hf : hX2_same j Λ a0 mc ms G post) : HMq l yX2_same (ws_ yX2_same cX2_same 2 (some (.object "MergeJudge$Base"))) (rhX2_same fr lo mc ms) D jC (jty j.1) Z G [.ref a0] post mc ms := by
  obtain ⟨MC, eMC⟩ : ∃ MC, MC = mc := ⟨_, rfl⟩
  obtain ⟨MS, eMS⟩ : ∃ MS, MS = ms := ⟨_, rfl⟩
  suffices goal : HMq l yX2_same (ws_ yX2_same cX2_same 2 (some (.object "MergeJudge$Base"))) (rhX2_same fr lo MC MS) D jC (jty j.1) Z G [.ref a0] post MC MS by rw [eMC, eMS] at goal; exact goal
  have hm0_ : 0 + mc ≤ MC ∧ 0 + ms ≤ MS := by omega
  clear eMC eMS
  refine h_openq (Or.inl ⟨_, rfl⟩) E.1 (by decide) (by exact Nat.le_of_ble_eq_true rfl) (fun p e s m args below meth c ls A0 Q X hI hnd hnm hl hret => ?_)
  have X : XC p s m args meth c cX2_same 2 RX2 D jC (jty j.1) A0 Z := X
  have hx := X.1
  have hb := X.2.1
  have hown := X.2.2.2.1
  have hts := X.2.2.2.2.1
  have hl : lv_has ls 2 [(0, .ref a0)] := by exact hl
  unfold hX2_same at hf
  obtain ⟨H, eH⟩ : ∃ H, H = s.heap := ⟨_, rfl⟩
  obtain ⟨locs, eL⟩ : ∃ locs : List Loc, locs = [] := ⟨_, rfl⟩
  have hI : HI D jC G A0 s.heap H locs := by rw [eH, eL]; exact hI
  rw [← eL]
  obtain ⟨cells, eC⟩ : ∃ n : Nat, n = 0 := ⟨_, rfl⟩
  obtain ⟨slots, eS⟩ : ∃ n : Nat, n = 0 := ⟨_, rfl⟩
  have hm : cells + mc ≤ MC ∧ slots + ms ≤ MS := by rw [eC, eS]; exact hm0_
  suffices h : W p l e (rhX2_same fr lo MC MS) s m args below meth c H locs cells slots Q (F0 m 0 ls []) by rw [eH, eC, eS] at h; exact h
  clear eH eL eC eS
  obtain ⟨hb1, hb2, hf⟩ := hf
  refine hr_new X hI (rfl : jC.1[2]? = some (RX2, TX2, 11)) in_X2 tyX2 tyX2_ok hf q2616 q438 q169 (by decide) (hmA hm.1 hb1) (hmA hm.2 hb2) dX2_same_0 (fun a1 G2 H hf hI => ?_)
  have hm := And.intro (hmB hm.1 hb1) (hmB hm.2 hb2)
  clear hb1 hb2
  refine lv_dup hx hb dX2_same_3 rfl ?_
  obtain ⟨m3, m4, hb1, hb2, hf⟩ := hf
  refine h_kv X hI (h_runI (As := []) X hI (mhX2_init l Z D j Λ fr lo E a1 m3 m4 G2 _ hf H.size) (cwIn 0 hts q2617 q440 q169 q441 rfl rfl rfl (by decide +kernel) (by show fr + 4 + 1 ≤ fr + 5 ∧ 8 + (1 + 11) + (lo + 101) ≤ lo + 132; omega)) rfl hl.1 (Nat.le_of_ble_eq_true rfl) dX2_same_4 ⟨hmA hm.1 hb1, hmA hm.2 hb2⟩ rfl) (fun G5 H locs hf hI => ?_)
  have hm := And.intro (hmB hm.1 hb1) (hmB hm.2 hb2)
  clear hb1 hb2
  refine lv_astore_n (lv' := [(1, .ref a1), (0, .ref a0)]) hx hb dX2_same_7 rfl hl (by decide) rfl (fun ls hl => ?_)
  refine lv_aload_n hx hb dX2_same_8 rfl (lv_at hl 0 rfl) ?_
  refine hr_gtQ X hI (rfl : jC.1[2]? = some (RX2, TX2, 11)) in_X2 0 (Nat.le_of_ble_eq_true rfl) hf q476 (fun _ h => h) dX2_same_9 (fun q6 hf => ?_)
  refine lv_aload_n hx hb dX2_same_12 rfl (lv_at hl 1 rfl) ?_
  refine hr_gtQ X hI (rfl : jC.1[2]? = some (RX2, TX2, 11)) in_X2 0 (Nat.le_of_ble_eq_true rfl) hf q476 (fun _ h => h) dX2_same_13 (fun q7 hf => ?_)
  obtain ⟨a8, ea8, hf⟩ := hf
  revert hl hf
  subst ea8
  intro hl hf
  have hl : lv_has ls 2 [(1, .ref a1), (0, .ref a0)] := hl
  obtain ⟨_, _, hO, hf⟩ := hf
  obtain ⟨m9, m10, hb1, hb2, hf⟩ := hf
  refine h_Fki X hI (h_runF (As := [va_rf q7]) X hI (X.2.2.2.2.2.1.1 15 _ (show jC.1[15]? = some (RJ2, TJ2, 3) from rfl)).2 (h_recv X hI hO (show jC.1[15]? = some (RJ2, TJ2, 3) from rfl)) (mhJ2_addAll l Z D j Λ fr lo E a8 q7 m9 m10 G5 _ hf H.size) (cwF 1 hts q2619 q2622 q2624 q172 q2626 ((E.w X).2.2.1 _ (List.mem_of_getElem? (show jFw[5]? = _ from rfl))) rfl rfl (by decide +kernel) (by show fr + 4 + 1 ≤ fr + 5 ∧ 8 + (6 + 11) + (lo + 107) ≤ lo + 132; omega)) rfl hl.1 (Nat.le_of_ble_eq_true rfl) dX2_same_16 ⟨hmA hm.1 hb1, hmA hm.2 hb2⟩ rfl) (fun x12 G11 H locs hf hI => ?_)
  have hm := And.intro (hmB hm.1 hb1) (hmB hm.2 hb2)
  clear hb1 hb2
  clear hO
  refine lv_pop hx hb dX2_same_21 rfl ?_
  refine lv_aload_n hx hb dX2_same_22 rfl (lv_at hl 0 rfl) ?_
  refine hr_gtQ X hI (rfl : jC.1[2]? = some (RX2, TX2, 11)) in_X2 1 (Nat.le_of_ble_eq_true rfl) hf q479 (fun _ h => h) dX2_same_23 (fun q13 hf => ?_)
  refine lv_aload_n hx hb dX2_same_26 rfl (lv_at hl 1 rfl) ?_
  refine hr_gtQ X hI (rfl : jC.1[2]? = some (RX2, TX2, 11)) in_X2 1 (Nat.le_of_ble_eq_true rfl) hf q479 (fun _ h => h) dX2_same_27 (fun q14 hf => ?_)
  obtain ⟨a15, ea15, hf⟩ := hf
  revert hl hf
  subst ea15
  intro hl hf
  have hl : lv_has ls 2 [(1, .ref a1), (0, .ref a0)] := hl
  obtain ⟨_, _, hO, hf⟩ := hf
  obtain ⟨m16, m17, hb1, hb2, hf⟩ := hf
  refine h_Fki X hI (h_runF (As := [va_rf q14]) X hI (X.2.2.2.2.2.1.1 15 _ (show jC.1[15]? = some (RJ2, TJ2, 3) from rfl)).2 (h_recv X hI hO (show jC.1[15]? = some (RJ2, TJ2, 3) from rfl)) (mhJ2_addAll l Z D j Λ fr lo E a15 q14 m16 m17 G11 _ hf H.size) (cwF 1 hts q2619 q2622 q2624 q172 q2626 ((E.w X).2.2.1 _ (List.mem_of_getElem? (show jFw[5]? = _ from rfl))) rfl rfl (by decide +kernel) (by show fr + 4 + 1 ≤ fr + 5 ∧ 8 + (6 + 11) + (lo + 107) ≤ lo + 132; omega)) rfl hl.1 (Nat.le_of_ble_eq_true rfl) dX2_same_30 ⟨hmA hm.1 hb1, hmA hm.2 hb2⟩ rfl) (fun x19 G18 H locs hf hI => ?_)
  have hm := And.intro (hmB hm.1 hb1) (hmB hm.2 hb2)
  clear hb1 hb2
  clear hO
  refine lv_pop hx hb dX2_same_35 rfl ?_
  refine lv_aload_n hx hb dX2_same_36 rfl (lv_at hl 0 rfl) ?_
  refine hr_gtQ X hI (rfl : jC.1[2]? = some (RX2, TX2, 11)) in_X2 2 (Nat.le_of_ble_eq_true rfl) hf q484 (fun _ h => h) dX2_same_37 (fun q20 hf => ?_)
  refine lv_aload_n hx hb dX2_same_40 rfl (lv_at hl 1 rfl) ?_
  refine hr_gtQ X hI (rfl : jC.1[2]? = some (RX2, TX2, 11)) in_X2 2 (Nat.le_of_ble_eq_true rfl) hf q484 (fun _ h => h) dX2_same_41 (fun q21 hf => ?_)
  obtain ⟨a22, ea22, hf⟩ := hf
  revert hl hf
  subst ea22
  intro hl hf
  have hl : lv_has ls 2 [(1, .ref a1), (0, .ref a0)] := hl
  obtain ⟨_, _, hO, hf⟩ := hf
  obtain ⟨m23, m24, hb1, hb2, hf⟩ := hf
  refine h_Fki X hI (h_runF (As := [va_rf q21]) X hI (X.2.2.2.2.2.1.1 15 _ (show jC.1[15]? = some (RJ2, TJ2, 3) from rfl)).2 (h_recv X hI hO (show jC.1[15]? = some (RJ2, TJ2, 3) from rfl)) (mhJ2_addAll l Z D j Λ fr lo E a22 q21 m23 m24 G18 _ hf H.size) (cwF 1 hts q2619 q2622 q2624 q172 q2626 ((E.w X).2.2.1 _ (List.mem_of_getElem? (show jFw[5]? = _ from rfl))) rfl rfl (by decide +kernel) (by show fr + 4 + 1 ≤ fr + 5 ∧ 8 + (6 + 11) + (lo + 107) ≤ lo + 132; omega)) rfl hl.1 (Nat.le_of_ble_eq_true rfl) dX2_same_44 ⟨hmA hm.1 hb1, hmA hm.2 hb2⟩ rfl) (fun x26 G25 H locs hf hI => ?_)
  have hm := And.intro (hmB hm.1 hb1) (hmB hm.2 hb2)
  clear hb1 hb2
  clear hO
  refine lv_pop hx hb dX2_same_49 rfl ?_
  refine lv_aload_n hx hb dX2_same_50 rfl (lv_at hl 1 rfl) ?_
  refine hr_gtQ X hI (rfl : jC.1[2]? = some (RX2, TX2, 11)) in_X2 3 (Nat.le_of_ble_eq_true rfl) hf q486 (fun _ h => h) dX2_same_51 (fun q27 hf => ?_)
  refine lv_iconst (v := 0) hx hb dX2_same_54 (by decide) ?_
  refine lv_aload_n hx hb dX2_same_55 rfl (lv_at hl 0 rfl) ?_
  refine hr_gtQ X hI (rfl : jC.1[2]? = some (RX2, TX2, 11)) in_X2 3 (Nat.le_of_ble_eq_true rfl) hf q486 (fun _ h => h) dX2_same_56 (fun q28 hf => ?_)
  refine lv_iconst (v := 0) hx hb dX2_same_59 (by decide) ?_
  refine lv_iconst (v := 3) hx hb dX2_same_60 (by decide) ?_
  obtain ⟨a29, ea29, hf⟩ := hf
  revert hl hf
  subst ea29
  intro hl hf
  have hl : lv_has ls 2 [(1, .ref a1), (0, .ref a0)] := hl
  obtain ⟨a30, ea30, hf⟩ := hf
  revert hl hf
  subst ea30
  intro hl hf
  have hl : lv_has ls 2 [(1, .ref a1), (0, .ref a0)] := hl
  refine hr_cpI E X hI 0 rfl rfl hf q2648 hl.1 (Nat.le_of_ble_eq_true rfl) (by show 1 ≤ fr + 5 ∧ 40 ≤ lo + 132; omega) dX2_same_61 (fun G31 H locs hf hI => ?_)
  refine lv_aload_n hx hb dX2_same_64 rfl (lv_at hl 0 rfl) ?_
  refine lv_aload_n hx hb dX2_same_65 rfl (lv_at hl 1 rfl) ?_
  refine hr_gtI X hI (rfl : jC.1[2]? = some (RX2, TX2, 11)) in_X2 4 (Nat.le_of_ble_eq_true rfl) hf q489 (fun _ h => h) dX2_same_66 (fun x32 hf => ?_)
  refine hr_pt X hI (rfl : jC.1[2]? = some (RX2, TX2, 11)) in_X2 4 (Nat.le_of_ble_eq_true rfl) tyX2 tyX2_ok nmX2 hf q489 (fun _ h => h) rfl rfl rfl dX2_same_69 (fun G33 H locs hf hI => ?_)
  refine lv_aload_n hx hb dX2_same_72 rfl (lv_at hl 0 rfl) ?_
  refine lv_aload_n hx hb dX2_same_73 rfl (lv_at hl 1 rfl) ?_
  refine hr_gtI X hI (rfl : jC.1[2]? = some (RX2, TX2, 11)) in_X2 5 (Nat.le_of_ble_eq_true rfl) hf q492 (fun _ h => h) dX2_same_74 (fun x34 hf => ?_)
  refine hr_pt X hI (rfl : jC.1[2]? = some (RX2, TX2, 11)) in_X2 5 (Nat.le_of_ble_eq_true rfl) tyX2 tyX2_ok nmX2 hf q492 (fun _ h => h) rfl rfl rfl dX2_same_77 (fun G35 H locs hf hI => ?_)
  refine lv_aload_n hx hb dX2_same_80 rfl (lv_at hl 0 rfl) ?_
  refine lv_aload_n hx hb dX2_same_81 rfl (lv_at hl 1 rfl) ?_
  refine hr_gtI X hI (rfl : jC.1[2]? = some (RX2, TX2, 11)) in_X2 6 (Nat.le_of_ble_eq_true rfl) hf q495 (fun _ h => h) dX2_same_82 (fun x36 hf => ?_)
  refine hr_pt X hI (rfl : jC.1[2]? = some (RX2, TX2, 11)) in_X2 6 (Nat.le_of_ble_eq_true rfl) tyX2 tyX2_ok nmX2 hf q495 (fun _ h => h) rfl rfl rfl dX2_same_85 (fun G37 H locs hf hI => ?_)
  refine lv_aload_n hx hb dX2_same_88 rfl (lv_at hl 0 rfl) ?_
  refine lv_aload_n hx hb dX2_same_89 rfl (lv_at hl 1 rfl) ?_
  refine hr_gtI X hI (rfl : jC.1[2]? = some (RX2, TX2, 11)) in_X2 7 (Nat.le_of_ble_eq_true rfl) hf q498 (fun _ h => h) dX2_same_90 (fun x38 hf => ?_)
  refine hr_pt X hI (rfl : jC.1[2]? = some (RX2, TX2, 11)) in_X2 7 (Nat.le_of_ble_eq_true rfl) tyX2 tyX2_ok nmX2 hf q498 (fun _ h => h) rfl rfl rfl dX2_same_93 (fun G39 H locs hf hI => ?_)
  refine lv_aload_n hx hb dX2_same_96 rfl (lv_at hl 0 rfl) ?_
  refine lv_aload_n hx hb dX2_same_97 rfl (lv_at hl 1 rfl) ?_
  refine hr_gtI X hI (rfl : jC.1[2]? = some (RX2, TX2, 11)) in_X2 8 (Nat.le_of_ble_eq_true rfl) hf q501 (fun _ h => h) dX2_same_98 (fun x40 hf => ?_)
  refine hr_pt X hI (rfl : jC.1[2]? = some (RX2, TX2, 11)) in_X2 8 (Nat.le_of_ble_eq_true rfl) tyX2 tyX2_ok nmX2 hf q501 (fun _ h => h) rfl rfl rfl dX2_same_101 (fun G41 H locs hf hI => ?_)
  refine lv_aload_n hx hb dX2_same_104 rfl (lv_at hl 0 rfl) ?_
  refine lv_aload_n hx hb dX2_same_105 rfl (lv_at hl 1 rfl) ?_
  refine hr_gtI X hI (rfl : jC.1[2]? = some (RX2, TX2, 11)) in_X2 9 (Nat.le_of_ble_eq_true rfl) hf q504 (fun _ h => h) dX2_same_106 (fun x42 hf => ?_)
  refine hr_pt X hI (rfl : jC.1[2]? = some (RX2, TX2, 11)) in_X2 9 (Nat.le_of_ble_eq_true rfl) tyX2 tyX2_ok nmX2 hf q504 (fun _ h => h) rfl rfl rfl dX2_same_109 (fun G43 H locs hf hI => ?_)
  refine lv_aload_n hx hb dX2_same_112 rfl (lv_at hl 0 rfl) ?_
  refine lv_aload_n hx hb dX2_same_113 rfl (lv_at hl 1 rfl) ?_
  refine hr_gtI X hI (rfl : jC.1[2]? = some (RX2, TX2, 11)) in_X2 10 (Nat.le_of_ble_eq_true rfl) hf q506 (fun _ h => h) dX2_same_114 (fun x44 hf => ?_)
  refine hr_pt X hI (rfl : jC.1[2]? = some (RX2, TX2, 11)) in_X2 10 (Nat.le_of_ble_eq_true rfl) tyX2 tyX2_ok nmX2 hf q506 (fun _ h => h) rfl rfl rfl dX2_same_117 (fun G45 H locs hf hI => ?_)
  refine lv_aload_n hx hb dX2_same_120 rfl (lv_at hl 0 rfl) ?_
  exact hret (v := (some a1)) hf hI dX2_same_121 (hmC hm.1) (hmC hm.2)
/-! MergeJudge.image(I)I -/
def hX0_image (j : JX) (Λ : JLam) (a0 : Nat) (p1 : Int32) (mc ms : Nat) (G : HG) (post : Int32 → HG → Prop) : Prop :=
  hX0_in j Λ p1.toInt64 (0 : Int64) (2 : Int64) G fun x2 G1 => (x2 = 0 → (post ((-2) : Int32) G1)) ∧ (¬ x2 = 0 → (gtQ G1 a0 0 2 fun q4 => gtQ G1 a0 0 1 fun q5 => nnq q5 fun a6 => isO G1 a6 2 (∃ m7 m8 : Nat, m7 ≤ mc ∧ m8 ≤ ms ∧ hX2_same j Λ a6 m7 m8 G1 fun q10 G9 => nnq q4 fun a11 => stQ jOk (jty j.1) G9 a11 p1 q10 fun G12 => post (0 : Int32) G12)))
abbrev rhX0_image (fr lo mc ms : Nat) : Room := { frames := fr + 6, cells := mc, slots := ms, locals := lo + 153 }
theorem mhX0_image (l : Launch) (Z : (Nat → Prop) → State → Heap → Prop) (D : va_G) (j : JX) (Λ : JLam) (fr lo : Nat) (E : JE l Z D j Λ fr lo) (a0 : Nat) (p1 : Int32) (mc ms : Nat) (G : HG) (post : Int32 → HG → Prop) (hf : hX0_image j Λ a0 p1 mc ms G post) : HMi l yX0_image (ws_ yX0_image cX0_image 2 (some .int)) (rhX0_image fr lo mc ms) D jC (jty j.1) Z G [.ref a0, .int p1] post mc ms := by
  obtain ⟨MC, eMC⟩ : ∃ MC, MC = mc := ⟨_, rfl⟩
  obtain ⟨MS, eMS⟩ : ∃ MS, MS = ms := ⟨_, rfl⟩
  suffices goal : HMi l yX0_image (ws_ yX0_image cX0_image 2 (some .int)) (rhX0_image fr lo MC MS) D jC (jty j.1) Z G [.ref a0, .int p1] post MC MS by rw [eMC, eMS] at goal; exact goal
  have hm0_ : 0 + mc ≤ MC ∧ 0 + ms ≤ MS := by omega
  clear eMC eMS
  refine h_openi E.1 (by decide) (by exact Nat.le_of_ble_eq_true rfl) (fun p e s m args below meth c ls A0 Q X hI hnd hnm hl hret => ?_)
  have X : XC p s m args meth c cX0_image 2 RX0 D jC (jty j.1) A0 Z := X
  have hx := X.1
  have hb := X.2.1
  have hown := X.2.2.2.1
  have hts := X.2.2.2.2.1
  have hl : lv_has ls 2 [(0, .ref a0), (1, .int p1)] := by exact hl
  unfold hX0_image at hf
  obtain ⟨H, eH⟩ : ∃ H, H = s.heap := ⟨_, rfl⟩
  obtain ⟨locs, eL⟩ : ∃ locs : List Loc, locs = [] := ⟨_, rfl⟩
  have hI : HI D jC G A0 s.heap H locs := by rw [eH, eL]; exact hI
  rw [← eL]
  obtain ⟨cells, eC⟩ : ∃ n : Nat, n = 0 := ⟨_, rfl⟩
  obtain ⟨slots, eS⟩ : ∃ n : Nat, n = 0 := ⟨_, rfl⟩
  have hm : cells + mc ≤ MC ∧ slots + ms ≤ MS := by rw [eC, eS]; exact hm0_
  suffices h : W p l e (rhX0_image fr lo MC MS) s m args below meth c H locs cells slots Q (F0 m 0 ls []) by rw [eH, eC, eS] at h; exact h
  clear eH eL eC eS
  refine lv_iload_n hx hb dX0_image_0 rfl (lv_at hl 1 rfl) ?_
  refine lv_i2l hx hb dX0_image_1 rfl ?_
  refine lv_lconst (v := 0) hx hb dX0_image_2 (by decide) ?_
  refine lv_ldc2 (v := 2) hx hb hown (hts _ q2611) dX0_image_3 ?_
  refine h_ki X hI (h_runS (As := [.long p1.toInt64, .long 0, .long 2]) X hI (mhX0_in l Z D j Λ fr lo E p1.toInt64 (0 : Int64) (2 : Int64) G _ hf H.size) (va_cwS 3 hts (lw_S q226 q227 q167 q228) rfl rfl rfl (by decide +kernel) (by show fr + 1 + 1 ≤ fr + 6 ∧ 8 + (6 + 11) + (lo + 40) ≤ lo + 153; omega)) rfl hl.1 (Nat.le_of_ble_eq_true rfl) dX0_image_6 ⟨hm0 hm.1, hm0 hm.2⟩ rfl) (fun x2 G1 H locs hf hI => ?_)
  refine lv_if_ne (tgt := 15) hx hb dX0_image_9 (by decide) (fun c3 => ?_) (fun c3 => ?_)
  · have hf := hf.2 c3
    refine lv_aload_n hx hb dX0_image_15 rfl (lv_at hl 0 rfl) ?_
    refine hr_gtQ X hI (rfl : jC.1[0]? = some (RX0, TX0, 20)) in_X0 2 (Nat.le_of_ble_eq_true rfl) hf q654 (fun _ h => h) dX0_image_16 (fun q4 hf => ?_)
    refine lv_iload_n hx hb dX0_image_19 rfl (lv_at hl 1 rfl) ?_
    refine lv_aload_n hx hb dX0_image_20 rfl (lv_at hl 0 rfl) ?_
    refine hr_gtQ X hI (rfl : jC.1[0]? = some (RX0, TX0, 20)) in_X0 1 (Nat.le_of_ble_eq_true rfl) hf q653 (fun _ h => h) dX0_image_21 (fun q5 hf => ?_)
    obtain ⟨a6, ea6, hf⟩ := hf
    revert hl hf
    subst ea6
    intro hl hf
    have hl : lv_has ls 2 [(0, .ref a0), (1, .int p1)] := hl
    obtain ⟨_, _, hO, hf⟩ := hf
    obtain ⟨m7, m8, hb1, hb2, hf⟩ := hf
    refine h_kq X hI (h_runV (As := []) X hI (h_recv X hI hO (show jC.1[2]? = some (RX2, TX2, 11) from rfl)) (mhX2_same l Z D j Λ fr lo E a6 m7 m8 G1 _ hf H.size) (cwV 0 hts (lw_V q2612 q2613 q2614 q169 q2615) rfl rfl rfl (by decide +kernel) (by show fr + 5 + 1 ≤ fr + 6 ∧ 8 + (2 + 11) + (lo + 132) ≤ lo + 153; omega)) rfl hl.1 (by cases q4 <;> exact Nat.le_of_ble_eq_true rfl) dX0_image_24 ⟨hmA hm.1 hb1, hmA hm.2 hb2⟩ rfl) (fun q10 G9 H locs hf hI => ?_)
    have hm := And.intro (hmB hm.1 hb1) (hmB hm.2 hb2)
    clear hb1 hb2
    clear hO
    obtain ⟨a11, ea11, hf⟩ := hf
    revert hl hf
    subst ea11
    intro hl hf
    have hl : lv_has ls 2 [(0, .ref a0), (1, .int p1)] := hl
    refine hr_qst (v := q10) X hI (jOk_asg (E.w X)) hf dX0_image_27 (fun G12 H locs hf hI => ?_)
    refine lv_iconst (v := 0) hx hb dX0_image_28 (by decide) ?_
    exact hret hf hI dX0_image_29 (hmC hm.1) (hmC hm.2)
  · have hf := hf.1 c3
    refine lv_bipush (v := -2) hx hb dX0_image_12 (by decide) ?_
    exact hret hf hI dX0_image_14 (hmC hm.1) (hmC hm.2)
/-! MergeJudge.back(I)I -/
def hX0_back (j : JX) (Λ : JLam) (a0 : Nat) (p1 : Int32) (mc ms : Nat) (G : HG) (post : Int32 → HG → Prop) : Prop :=
  hX0_in j Λ p1.toInt64 (0 : Int64) (2 : Int64) G fun x2 G1 => (x2 = 0 → (post ((-2) : Int32) G1)) ∧ (¬ x2 = 0 → (gtQ G1 a0 0 2 fun q4 => nnq q4 fun a5 => ldQ (jty j.1) G1 a5 p1 fun q6 => (q6 = none → (post ((-6) : Int32) G1)) ∧ (∀ a8, q6 = some a8 → (gtQ G1 a0 0 2 fun q9 => nnq q9 fun a10 => ldQ (jty j.1) G1 a10 p1 fun q11 => nnq q11 fun a12 => isO G1 a12 2 (∃ m13 m14 : Nat, m13 ≤ mc ∧ m14 ≤ ms ∧ hX2_same j Λ a12 m13 m14 G1 fun q16 G15 => ptV G15 a0 0 1 (va_rf q16) fun G17 => isO G17 a0 0 (∃ m18 m19 : Nat, m18 ≤ mc - m13 ∧ m19 ≤ ms - m14 ∧ hX0_lays j Λ a0 m18 m19 G17 fun G20 => post (0 : Int32) G20))))))
abbrev rhX0_back (fr lo mc ms : Nat) : Room := { frames := fr + 6, cells := mc, slots := ms, locals := lo + 3246 }
theorem mhX0_back (l : Launch) (Z : (Nat → Prop) → State → Heap → Prop) (D : va_G) (j : JX) (Λ : JLam) (fr lo : Nat) (E : JE l Z D j Λ fr lo) (a0 : Nat) (p1 : Int32) (mc ms : Nat) (G : HG) (post : Int32 → HG → Prop) (hf : hX0_back j Λ a0 p1 mc ms G post) : HMi l yX0_back (ws_ yX0_back cX0_back 2 (some .int)) (rhX0_back fr lo mc ms) D jC (jty j.1) Z G [.ref a0, .int p1] post mc ms := by
  obtain ⟨MC, eMC⟩ : ∃ MC, MC = mc := ⟨_, rfl⟩
  obtain ⟨MS, eMS⟩ : ∃ MS, MS = ms := ⟨_, rfl⟩
  suffices goal : HMi l yX0_back (ws_ yX0_back cX0_back 2 (some .int)) (rhX0_back fr lo MC MS) D jC (jty j.1) Z G [.ref a0, .int p1] post MC MS by rw [eMC, eMS] at goal; exact goal
  have hm0_ : 0 + mc ≤ MC ∧ 0 + ms ≤ MS := by omega
  clear eMC eMS
  refine h_openi E.1 (by decide) (by exact Nat.le_of_ble_eq_true rfl) (fun p e s m args below meth c ls A0 Q X hI hnd hnm hl hret => ?_)
  have X : XC p s m args meth c cX0_back 2 RX0 D jC (jty j.1) A0 Z := X
  have hx := X.1
  have hb := X.2.1
  have hown := X.2.2.2.1
  have hts := X.2.2.2.2.1
  have hl : lv_has ls 2 [(0, .ref a0), (1, .int p1)] := by exact hl
  unfold hX0_back at hf
  obtain ⟨H, eH⟩ : ∃ H, H = s.heap := ⟨_, rfl⟩
  obtain ⟨locs, eL⟩ : ∃ locs : List Loc, locs = [] := ⟨_, rfl⟩
  have hI : HI D jC G A0 s.heap H locs := by rw [eH, eL]; exact hI
  rw [← eL]
  obtain ⟨cells, eC⟩ : ∃ n : Nat, n = 0 := ⟨_, rfl⟩
  obtain ⟨slots, eS⟩ : ∃ n : Nat, n = 0 := ⟨_, rfl⟩
  have hm : cells + mc ≤ MC ∧ slots + ms ≤ MS := by rw [eC, eS]; exact hm0_
  suffices h : W p l e (rhX0_back fr lo MC MS) s m args below meth c H locs cells slots Q (F0 m 0 ls []) by rw [eH, eC, eS] at h; exact h
  clear eH eL eC eS
  refine lv_iload_n hx hb dX0_back_0 rfl (lv_at hl 1 rfl) ?_
  refine lv_i2l hx hb dX0_back_1 rfl ?_
  refine lv_lconst (v := 0) hx hb dX0_back_2 (by decide) ?_
  refine lv_ldc2 (v := 2) hx hb hown (hts _ q2611) dX0_back_3 ?_
  refine h_ki X hI (h_runS (As := [.long p1.toInt64, .long 0, .long 2]) X hI (mhX0_in l Z D j Λ fr lo E p1.toInt64 (0 : Int64) (2 : Int64) G _ hf H.size) (va_cwS 3 hts (lw_S q226 q227 q167 q228) rfl rfl rfl (by decide +kernel) (by show fr + 1 + 1 ≤ fr + 6 ∧ 8 + (6 + 11) + (lo + 40) ≤ lo + 3246; omega)) rfl hl.1 (Nat.le_of_ble_eq_true rfl) dX0_back_6 ⟨hm0 hm.1, hm0 hm.2⟩ rfl) (fun x2 G1 H locs hf hI => ?_)
  refine lv_if_ne (tgt := 15) hx hb dX0_back_9 (by decide) (fun c3 => ?_) (fun c3 => ?_)
  · have hf := hf.2 c3
    refine lv_aload_n hx hb dX0_back_15 rfl (lv_at hl 0 rfl) ?_
    refine hr_gtQ X hI (rfl : jC.1[0]? = some (RX0, TX0, 20)) in_X0 2 (Nat.le_of_ble_eq_true rfl) hf q654 (fun _ h => h) dX0_back_16 (fun q4 hf => ?_)
    refine lv_iload_n hx hb dX0_back_19 rfl (lv_at hl 1 rfl) ?_
    obtain ⟨a5, ea5, hf⟩ := hf
    revert hl hf
    subst ea5
    intro hl hf
    have hl : lv_has ls 2 [(0, .ref a0), (1, .int p1)] := hl
    refine hr_qld X hI hf dX0_back_20 (fun q6 hf => ?_)
    refine h_ifnonnull (tgt := 27) hx hb dX0_back_21 (by decide) (fun a8 c7 => ?_) (fun c7 => ?_)
    · have hf := hf.2 a8 c7
      revert hl hf
      subst c7
      intro hl hf
      have hl : lv_has ls 2 [(0, .ref a0), (1, .int p1)] := hl
      refine lv_aload_n hx hb dX0_back_27 rfl (lv_at hl 0 rfl) ?_
      refine lv_aload_n hx hb dX0_back_28 rfl (lv_at hl 0 rfl) ?_
      refine hr_gtQ X hI (rfl : jC.1[0]? = some (RX0, TX0, 20)) in_X0 2 (Nat.le_of_ble_eq_true rfl) hf q654 (fun _ h => h) dX0_back_29 (fun q9 hf => ?_)
      refine lv_iload_n hx hb dX0_back_32 rfl (lv_at hl 1 rfl) ?_
      obtain ⟨a10, ea10, hf⟩ := hf
      revert hl hf
      subst ea10
      intro hl hf
      have hl : lv_has ls 2 [(0, .ref a0), (1, .int p1)] := hl
      refine hr_qld X hI hf dX0_back_33 (fun q11 hf => ?_)
      obtain ⟨a12, ea12, hf⟩ := hf
      revert hl hf
      subst ea12
      intro hl hf
      have hl : lv_has ls 2 [(0, .ref a0), (1, .int p1)] := hl
      obtain ⟨_, _, hO, hf⟩ := hf
      obtain ⟨m13, m14, hb1, hb2, hf⟩ := hf
      refine h_kq X hI (h_runV (As := []) X hI (h_recv X hI hO (show jC.1[2]? = some (RX2, TX2, 11) from rfl)) (mhX2_same l Z D j Λ fr lo E a12 m13 m14 G1 _ hf H.size) (cwV 0 hts (lw_V q2612 q2613 q2614 q169 q2615) rfl rfl rfl (by decide +kernel) (by show fr + 5 + 1 ≤ fr + 6 ∧ 8 + (2 + 11) + (lo + 132) ≤ lo + 3246; omega)) rfl hl.1 (Nat.le_of_ble_eq_true rfl) dX0_back_34 ⟨hmA hm.1 hb1, hmA hm.2 hb2⟩ rfl) (fun q16 G15 H locs hf hI => ?_)
      have hm := And.intro (hmB hm.1 hb1) (hmB hm.2 hb2)
      clear hb1 hb2
      clear hO
      refine hr_pt X hI (rfl : jC.1[0]? = some (RX0, TX0, 20)) in_X0 1 (Nat.le_of_ble_eq_true rfl) tyX0 tyX0_ok nmX0 hf q653 (fun _ h => h) rfl (nar_o _ _) (fit_o _ _) dX0_back_37 (fun G17 H locs hf hI => ?_)
      refine lv_aload_n hx hb dX0_back_40 rfl (lv_at hl 0 rfl) ?_
      obtain ⟨_, _, hO, hf⟩ := hf
      obtain ⟨m18, m19, hb1, hb2, hf⟩ := hf
      refine h_kv X hI (h_runV (As := []) X hI (h_recv X hI hO (show jC.1[0]? = some (RX0, TX0, 20) from rfl)) (mhX0_lays l Z D j Λ fr lo E a0 m18 m19 G17 _ hf H.size) (cwV 0 hts (lw_V q1843 q1845 qs24 q167 q1846) rfl rfl rfl (by decide +kernel) (by show fr + 4 + 1 ≤ fr + 6 ∧ 8 + (2 + 11) + (lo + 3225) ≤ lo + 3246; omega)) rfl hl.1 (Nat.le_of_ble_eq_true rfl) dX0_back_41 ⟨hmA hm.1 hb1, hmA hm.2 hb2⟩ rfl) (fun G20 H locs hf hI => ?_)
      have hm := And.intro (hmB hm.1 hb1) (hmB hm.2 hb2)
      clear hb1 hb2
      clear hO
      refine lv_iconst (v := 0) hx hb dX0_back_44 (by decide) ?_
      exact hret hf hI dX0_back_45 (hmC hm.1) (hmC hm.2)
    · have hf := hf.1 c7
      revert hl hf
      subst c7
      intro hl hf
      have hl : lv_has ls 2 [(0, .ref a0), (1, .int p1)] := hl
      refine lv_bipush (v := -6) hx hb dX0_back_24 (by decide) ?_
      exact hret hf hI dX0_back_26 (hmC hm.1) (hmC hm.2)
  · have hf := hf.1 c3
    refine lv_bipush (v := -2) hx hb dX0_back_12 (by decide) ?_
    exact hret hf hI dX0_back_14 (hmC hm.1) (hmC hm.2)
/-! MergeJudge$Reader.lays(Ljava/util/HashMap;[Ljava/lang/String;)V -/
def hX8_lays_b2 (j : JX) (Λ : JLam) (p0 : Nat) (p1 : Nat) (post : HG → Prop) (K2 : Int32 → Nat → Nat → HG → Prop) (lx2 : Int32) (mc ms : Nat) (G : HG) : Prop :=
  aln (jty j.1) G p1 fun x1 => (x1 ≤ lx2 → (post G)) ∧ (¬ x1 ≤ lx2 → (ldQ (jty j.1) G p1 lx2 fun q3 => ∃ m4 m5 : Nat, m4 ≤ mc ∧ m5 ≤ ms ∧ hJ15_valueOf j Λ lx2 m4 m5 G fun q7 G6 => isO G6 p0 16 (∃ m8 m9 : Nat, m8 ≤ mc - m4 ∧ m9 ≤ ms - m5 ∧ hJ5_put j Λ p0 q3 q7 m8 m9 G6 fun q11 G10 => K2 (lx2 + 1) (mc - m4 - m8) (ms - m5 - m9) G10)))
def hX8_lays_l2 (j : JX) (Λ : JLam) (p0 : Nat) (p1 : Nat) (post : HG → Prop) : Nat → Int32 → Nat → Nat → HG → Prop
  | 0 => fun _ _ _ _ => False
  | n + 1 => fun lx2 mc ms G => hX8_lays_b2 j Λ p0 p1 post (hX8_lays_l2 j Λ p0 p1 post n) lx2 mc ms G
def hX8_lays (j : JX) (Λ : JLam) (p0 : Nat) (p1 : Nat) (mc ms : Nat) (G : HG) (post : HG → Prop) : Prop :=
  ∃ n, hX8_lays_l2 j Λ p0 p1 post n (0 : Int32) mc ms G
abbrev rhX8_lays (fr lo mc ms : Nat) : Room := { frames := fr + 9, cells := mc, slots := ms, locals := lo + 269 }
theorem mhX8_lays (l : Launch) (Z : (Nat → Prop) → State → Heap → Prop) (D : va_G) (j : JX) (Λ : JLam) (fr lo : Nat) (E : JE l Z D j Λ fr lo) (p0 : Nat) (p1 : Nat) (mc ms : Nat) (G : HG) (post : HG → Prop) (hf : hX8_lays j Λ p0 p1 mc ms G post) : HMv l yX8_lays (ws_ yX8_lays cX8_lays 3 none) (rhX8_lays fr lo mc ms) D jC (jty j.1) Z G [.ref p0, .ref p1] post mc ms := by
  obtain ⟨MC, eMC⟩ : ∃ MC, MC = mc := ⟨_, rfl⟩
  obtain ⟨MS, eMS⟩ : ∃ MS, MS = ms := ⟨_, rfl⟩
  suffices goal : HMv l yX8_lays (ws_ yX8_lays cX8_lays 3 none) (rhX8_lays fr lo MC MS) D jC (jty j.1) Z G [.ref p0, .ref p1] post MC MS by rw [eMC, eMS] at goal; exact goal
  have hm0_ : 0 + mc ≤ MC ∧ 0 + ms ≤ MS := by omega
  clear eMC eMS
  refine h_openv E.1 (by decide) (by exact Nat.le_of_ble_eq_true rfl) (fun p e s m args below meth c ls A0 Q X hI hnd hnm hl hret => ?_)
  have X : XC p s m args meth c cX8_lays 3 RX8 D jC (jty j.1) A0 Z := X
  have hx := X.1
  have hb := X.2.1
  have hown := X.2.2.2.1
  have hts := X.2.2.2.2.1
  have L2 : ∀ (n : Nat) (lx2 : Int32) (mc ms : Nat) (G : HG), hX8_lays_l2 j Λ p0 p1 post n lx2 mc ms G → ∀ (cells slots : Nat), cells + mc ≤ MC ∧ slots + ms ≤ MS → ∀ (H : Heap) (locs : List Loc), HI D jC G A0 s.heap H locs → ∀ (ls : Array Slot), lv_has ls 3 [(0, .ref p0), (1, .ref p1), (2, .int lx2)] → W p l e (rhX8_lays fr lo MC MS) s m args below meth c H locs cells slots Q (F0 m 2 ls []) := by
    intro n2
    induction n2 with
    | zero => intro lx2 mc ms G hf; exact hf.elim
    | succ n2 ih2 =>
      intro lx2 mc ms G hf cells slots hm H locs hI ls hl
      have hf : hX8_lays_b2 j Λ p0 p1 post (hX8_lays_l2 j Λ p0 p1 post n2) lx2 mc ms G := hf
      unfold hX8_lays_b2 at hf
      refine lv_iload_n hx hb dX8_lays_2 rfl (lv_at hl 2 rfl) ?_
      refine lv_aload_n hx hb dX8_lays_3 rfl (lv_at hl 1 rfl) ?_
      refine hr_aln X hI hf dX8_lays_4 (fun x1 hf => ?_)
      refine lv_icmp_ge (tgt := 26) hx hb dX8_lays_5 (by decide) (fun c2 => ?_) (fun c2 => ?_)
      · have hf := hf.1 c2
        exact hret hf hI dX8_lays_26 (hmC hm.1) (hmC hm.2)
      · have hf := hf.2 c2
        refine lv_aload_n hx hb dX8_lays_8 rfl (lv_at hl 0 rfl) ?_
        refine lv_aload_n hx hb dX8_lays_9 rfl (lv_at hl 1 rfl) ?_
        refine lv_iload_n hx hb dX8_lays_10 rfl (lv_at hl 2 rfl) ?_
        refine hr_qld X hI hf dX8_lays_11 (fun q3 hf => ?_)
        refine lv_iload_n hx hb dX8_lays_12 rfl (lv_at hl 2 rfl) ?_
        obtain ⟨m4, m5, hb1, hb2, hf⟩ := hf
        refine h_kq X hI (h_runS (As := [.int lx2]) X hI (mhJ15_valueOf l Z D j Λ fr lo E lx2 m4 m5 G _ hf H.size) (va_cwS 1 hts (lw_S q816 q817 q191 q818) rfl rfl rfl (by decide +kernel) (by show fr + 3 + 1 ≤ fr + 9 ∧ 8 + (1 + 11) + (lo + 81) ≤ lo + 269; omega)) rfl hl.1 (by cases q3 <;> exact Nat.le_of_ble_eq_true rfl) dX8_lays_13 ⟨hmA hm.1 hb1, hmA hm.2 hb2⟩ rfl) (fun q7 G6 H locs hf hI => ?_)
        have hm := And.intro (hmB hm.1 hb1) (hmB hm.2 hb2)
        clear hb1 hb2
        obtain ⟨_, _, hO, hf⟩ := hf
        obtain ⟨m8, m9, hb1, hb2, hf⟩ := hf
        refine h_kq X hI (h_runV (As := [va_rf q3, va_rf q7]) X hI (h_recv X hI hO (show jC.1[16]? = some (RJ5, TJ5, 8) from rfl)) (mhJ5_put l Z D j Λ fr lo E p0 q3 q7 m8 m9 G6 _ hf H.size) (cwV 2 hts (lw_V q836 q837 q838 q181 q839) rfl rfl rfl (by decide +kernel) (by show fr + 8 + 1 ≤ fr + 9 ∧ 8 + (3 + 11) + (lo + 247) ≤ lo + 269; omega)) rfl hl.1 (Nat.le_of_ble_eq_true rfl) dX8_lays_16 ⟨hmA hm.1 hb1, hmA hm.2 hb2⟩ rfl) (fun q11 G10 H locs hf hI => ?_)
        have hm := And.intro (hmB hm.1 hb1) (hmB hm.2 hb2)
        clear hb1 hb2
        clear hO
        refine lv_pop hx hb dX8_lays_19 (h_catq _) ?_
        refine lv_iinc (v := lx2 + 1) (lv' := [(2, .int (lx2 + 1)), (0, .ref p0), (1, .ref p1)]) hx hb dX8_lays_20 hl (k := 2) rfl rfl (by decide) rfl (fun ls hl => ?_)
        refine lv_goto (tgt := 2) hx hb dX8_lays_23 (by decide) ?_
        exact ih2 (lx2 + 1) (mc - m4 - m8) (ms - m5 - m9) G10 hf _ _ hm H locs hI ls (lv_sub hl [1, 2, 0] rfl)
  have hl : lv_has ls 3 [(0, .ref p0), (1, .ref p1)] := by exact hl
  unfold hX8_lays at hf
  obtain ⟨H, eH⟩ : ∃ H, H = s.heap := ⟨_, rfl⟩
  obtain ⟨locs, eL⟩ : ∃ locs : List Loc, locs = [] := ⟨_, rfl⟩
  have hI : HI D jC G A0 s.heap H locs := by rw [eH, eL]; exact hI
  rw [← eL]
  obtain ⟨cells, eC⟩ : ∃ n : Nat, n = 0 := ⟨_, rfl⟩
  obtain ⟨slots, eS⟩ : ∃ n : Nat, n = 0 := ⟨_, rfl⟩
  have hm : cells + mc ≤ MC ∧ slots + ms ≤ MS := by rw [eC, eS]; exact hm0_
  suffices h : W p l e (rhX8_lays fr lo MC MS) s m args below meth c H locs cells slots Q (F0 m 0 ls []) by rw [eH, eC, eS] at h; exact h
  clear eH eL eC eS
  refine lv_iconst (v := 0) hx hb dX8_lays_0 (by decide) ?_
  refine lv_istore_n (lv' := [(2, .int 0), (0, .ref p0), (1, .ref p1)]) hx hb dX8_lays_1 rfl hl (by decide) rfl (fun ls hl => ?_)
  obtain ⟨n, hf⟩ := hf
  exact L2 n (0 : Int32) mc ms G hf _ _ hm H locs hI ls (lv_sub hl [1, 2, 0] rfl)
/-! MergeJudge$Reader.next()V -/
def hX8_next_b22 (j : JX) (Λ : JLam) (a0 : Nat) (post : HG → Prop) (K0 : Nat → Nat → HG → Prop) (mc ms : Nat) (G : HG) : Prop :=
  gtI G a0 8 8 fun x31 => ptV G a0 8 8 (.int (x31 + 1)) fun G32 => K0 mc ms G32
def hX8_next_b239 (j : JX) (Λ : JLam) (a0 : Nat) (post : HG → Prop) (z0 : Nat) (z1 : Int32) (mc ms : Nat) (G : HG) : Prop :=
  ptV G z0 8 10 (.int z1) fun G33 => gtI G33 a0 8 8 fun x34 => ptV G33 a0 8 8 (.int (x34 + 1)) fun G35 => post G35
def hX8_next_b169 (j : JX) (Λ : JLam) (a0 : Nat) (post : HG → Prop) (K169 : Nat → Nat → HG → Prop) (mc ms : Nat) (G : HG) : Prop :=
  isO G a0 8 (hX8_isAt j Λ a0 (48 : Int32) (57 : Int32) G fun x37 G36 => (x37 = 0 → (post G36)) ∧ (¬ x37 = 0 → (gtI G36 a0 8 11 fun x39 => gtQ G36 a0 8 0 fun q40 => gtI G36 a0 8 8 fun x41 => nnq q40 fun a42 => ldI G36 a42 (j.1 2) x41 fun x43 => ptV G36 a0 8 11 (.int (if ((((10 : Int32) * x39) + x43) - 48) < (99999 : Int32) then ((((10 : Int32) * x39) + x43) - 48) else (99999 : Int32))) fun G44 => gtI G44 a0 8 8 fun x45 => ptV G44 a0 8 8 (.int (x45 + 1)) fun G46 => K169 mc ms G46)))
def hX8_next_l169 (j : JX) (Λ : JLam) (a0 : Nat) (post : HG → Prop) : Nat → Nat → Nat → HG → Prop
  | 0 => fun _ _ _ => False
  | n + 1 => fun mc ms G => hX8_next_b169 j Λ a0 post (hX8_next_l169 j Λ a0 post n) mc ms G
def hX8_next_b97 (j : JX) (Λ : JLam) (a0 : Nat) (post : HG → Prop) (K97 : Nat → Nat → HG → Prop) (mc ms : Nat) (G : HG) : Prop :=
  isO G a0 8 (hX8_isAt j Λ a0 (97 : Int32) (122 : Int32) G fun x48 G47 => (x48 = 0 → (gtQ G47 a0 8 6 fun q50 => nnq q50 fun a51 => isO G47 a51 19 (∃ m52 m53 : Nat, m52 ≤ mc ∧ m53 ≤ ms ∧ hJ7_toString j Λ a51 m52 m53 G47 fun q55 G54 => ptV G54 a0 8 7 (va_rf q55) fun G56 => post G56))) ∧ (¬ x48 = 0 → (gtQ G47 a0 8 6 fun q57 => gtQ G47 a0 8 0 fun q58 => gtI G47 a0 8 8 fun x59 => nnq q58 fun a60 => ldI G47 a60 (j.1 2) x59 fun x61 => nnq q57 fun a62 => isO G47 a62 19 (∃ m63 m64 : Nat, m63 ≤ mc ∧ m64 ≤ ms ∧ hJ7_append_3 j Λ a62 ((x61.toUInt32 % 65536).toInt32) m63 m64 G47 fun q66 G65 => gtI G65 a0 8 8 fun x67 => ptV G65 a0 8 8 (.int (x67 + 1)) fun G68 => K97 (mc - m63) (ms - m64) G68))))
def hX8_next_l97 (j : JX) (Λ : JLam) (a0 : Nat) (post : HG → Prop) : Nat → Nat → Nat → HG → Prop
  | 0 => fun _ _ _ => False
  | n + 1 => fun mc ms G => hX8_next_b97 j Λ a0 post (hX8_next_l97 j Λ a0 post n) mc ms G
def hX8_next_b0 (j : JX) (Λ : JLam) (a0 : Nat) (post : HG → Prop) (K0 : Nat → Nat → HG → Prop) (mc ms : Nat) (G : HG) : Prop :=
  isO G a0 8 (hX8_isAt j Λ a0 (32 : Int32) (32 : Int32) G fun x2 G1 => (x2 = 0 → (isO G1 a0 8 (hX8_isAt j Λ a0 (10 : Int32) (10 : Int32) G1 fun x5 G4 => (x5 = 0 → (gtI G4 a0 8 8 fun x7 => ptV G4 a0 8 9 (.int x7) fun G8 => ptV G8 a0 8 11 (.int 0) fun G9 => ptV G9 a0 8 7 (.ref (j.2 71)) fun G10 => gtI G10 a0 8 8 fun x11 => gtI G10 a0 8 1 fun x12 => (x11 = x12 → (ptV G10 a0 8 10 (.int 0) fun G30 => post G30)) ∧ (¬ x11 = x12 → (isO G10 a0 8 (hX8_isAt j Λ a0 (97 : Int32) (122 : Int32) G10 fun x15 G14 => (x15 = 0 → (isO G14 a0 8 (hX8_isAt j Λ a0 (48 : Int32) (57 : Int32) G14 fun x18 G17 => (x18 = 0 → (isO G17 a0 8 (hX8_isAt j Λ a0 (59 : Int32) (59 : Int32) G17 fun x21 G20 => (x21 = 0 → (hX8_next_b239 j Λ a0 post a0 (4 : Int32) mc ms G20)) ∧ (¬ x21 = 0 → (hX8_next_b239 j Λ a0 post a0 (3 : Int32) mc ms G20))))) ∧ (¬ x18 = 0 → (ptV G17 a0 8 10 (.int 2) fun G23 => ∃ n, hX8_next_l169 j Λ a0 post n mc ms G23))))) ∧ (¬ x15 = 0 → (ptV G14 a0 8 10 (.int 1) fun G24 => gtQ G24 a0 8 6 fun q25 => nnq q25 fun a26 => isO G24 a26 19 (∃ m27 m28 : Nat, m27 ≤ mc ∧ m28 ≤ ms ∧ hJ7_setLength j Λ a26 (0 : Int32) m27 m28 G24 fun G29 => ∃ n, hX8_next_l97 j Λ a0 post n (mc - m27) (ms - m28) G29)))))))) ∧ (¬ x5 = 0 → (hX8_next_b22 j Λ a0 post K0 mc ms G4))))) ∧ (¬ x2 = 0 → (hX8_next_b22 j Λ a0 post K0 mc ms G1)))
def hX8_next_l0 (j : JX) (Λ : JLam) (a0 : Nat) (post : HG → Prop) : Nat → Nat → Nat → HG → Prop
  | 0 => fun _ _ _ => False
  | n + 1 => fun mc ms G => hX8_next_b0 j Λ a0 post (hX8_next_l0 j Λ a0 post n) mc ms G
def hX8_next (j : JX) (Λ : JLam) (a0 : Nat) (mc ms : Nat) (G : HG) (post : HG → Prop) : Prop :=
  ∃ n, hX8_next_l0 j Λ a0 post n mc ms G
abbrev rhX8_next (fr lo mc ms : Nat) : Room := { frames := fr + 7, cells := mc, slots := ms, locals := lo + 172 }
theorem mhX8_next (l : Launch) (Z : (Nat → Prop) → State → Heap → Prop) (D : va_G) (j : JX) (Λ : JLam) (fr lo : Nat) (E : JE l Z D j Λ fr lo) (a0 : Nat) (mc ms : Nat) (G : HG) (post : HG → Prop) (hf : hX8_next j Λ a0 mc ms G post) : HMv l yX8_next (ws_ yX8_next cX8_next 1 none) (rhX8_next fr lo mc ms) D jC (jty j.1) Z G [.ref a0] post mc ms := by
  obtain ⟨MC, eMC⟩ : ∃ MC, MC = mc := ⟨_, rfl⟩
  obtain ⟨MS, eMS⟩ : ∃ MS, MS = ms := ⟨_, rfl⟩
  suffices goal : HMv l yX8_next (ws_ yX8_next cX8_next 1 none) (rhX8_next fr lo MC MS) D jC (jty j.1) Z G [.ref a0] post MC MS by rw [eMC, eMS] at goal; exact goal
  have hm0_ : 0 + mc ≤ MC ∧ 0 + ms ≤ MS := by omega
  clear eMC eMS
  refine h_openv E.1 (by decide) (by exact Nat.le_of_ble_eq_true rfl) (fun p e s m args below meth c ls A0 Q X hI hnd hnm hl hret => ?_)
  have X : XC p s m args meth c cX8_next 1 RX8 D jC (jty j.1) A0 Z := X
  have hx := X.1
  have hb := X.2.1
  have hown := X.2.2.2.1
  have hts := X.2.2.2.2.1
  have J239 : ∀ (z0 : Nat) (z1 : Int32) (mc ms : Nat) (G : HG), hX8_next_b239 j Λ a0 post z0 z1 mc ms G → ∀ (cells slots : Nat), cells + mc ≤ MC ∧ slots + ms ≤ MS → ∀ (H : Heap) (locs : List Loc), HI D jC G A0 s.heap H locs → ∀ (ls : Array Slot), lv_has ls 1 [(0, .ref a0)] → W p l e (rhX8_next fr lo MC MS) s m args below meth c H locs cells slots Q (F0 m 239 ls [.int z1, .ref z0]) := by
    intro z0 z1 mc ms G hf cells slots hm H locs hI ls hl
    unfold hX8_next_b239 at hf
    refine hr_pt X hI (rfl : jC.1[8]? = some (RX8, TX8, 12)) in_X8 10 (Nat.le_of_ble_eq_true rfl) tyX8 tyX8_ok nmX8 hf q1655 (fun _ h => h) rfl rfl rfl dX8_next_239 (fun G33 H locs hf hI => ?_)
    refine lv_aload_n hx hb dX8_next_242 rfl (lv_at hl 0 rfl) ?_
    refine lv_dup hx hb dX8_next_243 rfl ?_
    refine hr_gtI X hI (rfl : jC.1[8]? = some (RX8, TX8, 12)) in_X8 8 (Nat.le_of_ble_eq_true rfl) hf q1653 (fun _ h => h) dX8_next_244 (fun x34 hf => ?_)
    refine lv_iconst (v := 1) hx hb dX8_next_247 (by decide) ?_
    refine lv_iadd hx hb dX8_next_248 ?_
    refine hr_pt X hI (rfl : jC.1[8]? = some (RX8, TX8, 12)) in_X8 8 (Nat.le_of_ble_eq_true rfl) tyX8 tyX8_ok nmX8 hf q1653 (fun _ h => h) rfl rfl rfl dX8_next_249 (fun G35 H locs hf hI => ?_)
    exact hret hf hI dX8_next_252 (hmC hm.1) (hmC hm.2)
  have L169 : ∀ (n : Nat) (mc ms : Nat) (G : HG), hX8_next_l169 j Λ a0 post n mc ms G → ∀ (cells slots : Nat), cells + mc ≤ MC ∧ slots + ms ≤ MS → ∀ (H : Heap) (locs : List Loc), HI D jC G A0 s.heap H locs → ∀ (ls : Array Slot), lv_has ls 1 [(0, .ref a0)] → W p l e (rhX8_next fr lo MC MS) s m args below meth c H locs cells slots Q (F0 m 169 ls []) := by
    intro n169
    induction n169 with
    | zero => intro mc ms G hf; exact hf.elim
    | succ n169 ih169 =>
      intro mc ms G hf cells slots hm H locs hI ls hl
      have hf : hX8_next_b169 j Λ a0 post (hX8_next_l169 j Λ a0 post n169) mc ms G := hf
      unfold hX8_next_b169 at hf
      refine lv_aload_n hx hb dX8_next_169 rfl (lv_at hl 0 rfl) ?_
      refine lv_bipush (v := 48) hx hb dX8_next_170 (by decide) ?_
      refine lv_bipush (v := 57) hx hb dX8_next_172 (by decide) ?_
      obtain ⟨_, _, hO, hf⟩ := hf
      refine h_ki X hI (h_runV (As := [.int 48, .int 57]) X hI (h_recv X hI hO (show jC.1[8]? = some (RX8, TX8, 12) from rfl)) (mhX8_isAt l Z D j Λ fr lo E a0 (48 : Int32) (57 : Int32) G _ hf H.size) (cwV 2 hts (lw_V q1400 q1402 qs9 q179 q1403) rfl rfl rfl (by decide +kernel) (by show fr + 2 + 1 ≤ fr + 7 ∧ 8 + (3 + 11) + (lo + 65) ≤ lo + 172; omega)) rfl hl.1 (Nat.le_of_ble_eq_true rfl) dX8_next_174 ⟨hm0 hm.1, hm0 hm.2⟩ rfl) (fun x37 G36 H locs hf hI => ?_)
      clear hO
      refine lv_if_eq (tgt := 252) hx hb dX8_next_177 (by decide) (fun c38 => ?_) (fun c38 => ?_)
      · have hf := hf.1 c38
        exact hret hf hI dX8_next_252 (hmC hm.1) (hmC hm.2)
      · have hf := hf.2 c38
        refine lv_aload_n hx hb dX8_next_180 rfl (lv_at hl 0 rfl) ?_
        refine lv_ldc (v := 99999) hx hb hown (hts _ q1643) dX8_next_181 ?_
        refine lv_bipush (v := 10) hx hb dX8_next_183 (by decide) ?_
        refine lv_aload_n hx hb dX8_next_185 rfl (lv_at hl 0 rfl) ?_
        refine hr_gtI X hI (rfl : jC.1[8]? = some (RX8, TX8, 12)) in_X8 11 (Nat.le_of_ble_eq_true rfl) hf q1656 (fun _ h => h) dX8_next_186 (fun x39 hf => ?_)
        refine lv_imul hx hb dX8_next_189 ?_
        refine lv_aload_n hx hb dX8_next_190 rfl (lv_at hl 0 rfl) ?_
        refine hr_gtQ X hI (rfl : jC.1[8]? = some (RX8, TX8, 12)) in_X8 0 (Nat.le_of_ble_eq_true rfl) hf q1645 (fun _ h => h) dX8_next_191 (fun q40 hf => ?_)
        refine lv_aload_n hx hb dX8_next_194 rfl (lv_at hl 0 rfl) ?_
        refine hr_gtI X hI (rfl : jC.1[8]? = some (RX8, TX8, 12)) in_X8 8 (Nat.le_of_ble_eq_true rfl) hf q1653 (fun _ h => h) dX8_next_195 (fun x41 hf => ?_)
        obtain ⟨a42, ea42, hf⟩ := hf
        revert hl hf
        subst ea42
        intro hl hf
        have hl : lv_has ls 1 [(0, .ref a0)] := hl
        refine hr_bld X hI 2 rfl hf dX8_next_198 (fun x43 hf => ?_)
        refine lv_iadd hx hb dX8_next_199 ?_
        refine lv_bipush (v := 48) hx hb dX8_next_200 (by decide) ?_
        refine lv_isub hx hb dX8_next_202 ?_
        refine x_mmin X hl.1 q1644 q638 q173 q639 (by show 1 ≤ fr + 7 ∧ 21 ≤ lo + 172; omega) (Nat.le_of_ble_eq_true rfl) ⟨hmC hm.1, hmC hm.2⟩ dX8_next_203 ?_
        refine hr_pt X hI (rfl : jC.1[8]? = some (RX8, TX8, 12)) in_X8 11 (Nat.le_of_ble_eq_true rfl) tyX8 tyX8_ok nmX8 hf q1656 (fun _ h => h) rfl rfl rfl dX8_next_206 (fun G44 H locs hf hI => ?_)
        refine lv_aload_n hx hb dX8_next_209 rfl (lv_at hl 0 rfl) ?_
        refine lv_dup hx hb dX8_next_210 rfl ?_
        refine hr_gtI X hI (rfl : jC.1[8]? = some (RX8, TX8, 12)) in_X8 8 (Nat.le_of_ble_eq_true rfl) hf q1653 (fun _ h => h) dX8_next_211 (fun x45 hf => ?_)
        refine lv_iconst (v := 1) hx hb dX8_next_214 (by decide) ?_
        refine lv_iadd hx hb dX8_next_215 ?_
        refine hr_pt X hI (rfl : jC.1[8]? = some (RX8, TX8, 12)) in_X8 8 (Nat.le_of_ble_eq_true rfl) tyX8 tyX8_ok nmX8 hf q1653 (fun _ h => h) rfl rfl rfl dX8_next_216 (fun G46 H locs hf hI => ?_)
        refine lv_goto (tgt := 169) hx hb dX8_next_219 (by decide) ?_
        exact ih169 mc ms G46 hf _ _ hm H locs hI ls (lv_sub hl [0] rfl)
  have L97 : ∀ (n : Nat) (mc ms : Nat) (G : HG), hX8_next_l97 j Λ a0 post n mc ms G → ∀ (cells slots : Nat), cells + mc ≤ MC ∧ slots + ms ≤ MS → ∀ (H : Heap) (locs : List Loc), HI D jC G A0 s.heap H locs → ∀ (ls : Array Slot), lv_has ls 1 [(0, .ref a0)] → W p l e (rhX8_next fr lo MC MS) s m args below meth c H locs cells slots Q (F0 m 97 ls []) := by
    intro n97
    induction n97 with
    | zero => intro mc ms G hf; exact hf.elim
    | succ n97 ih97 =>
      intro mc ms G hf cells slots hm H locs hI ls hl
      have hf : hX8_next_b97 j Λ a0 post (hX8_next_l97 j Λ a0 post n97) mc ms G := hf
      unfold hX8_next_b97 at hf
      refine lv_aload_n hx hb dX8_next_97 rfl (lv_at hl 0 rfl) ?_
      refine lv_bipush (v := 97) hx hb dX8_next_98 (by decide) ?_
      refine lv_bipush (v := 122) hx hb dX8_next_100 (by decide) ?_
      obtain ⟨_, _, hO, hf⟩ := hf
      refine h_ki X hI (h_runV (As := [.int 97, .int 122]) X hI (h_recv X hI hO (show jC.1[8]? = some (RX8, TX8, 12) from rfl)) (mhX8_isAt l Z D j Λ fr lo E a0 (97 : Int32) (122 : Int32) G _ hf H.size) (cwV 2 hts (lw_V q1400 q1402 qs9 q179 q1403) rfl rfl rfl (by decide +kernel) (by show fr + 2 + 1 ≤ fr + 7 ∧ 8 + (3 + 11) + (lo + 65) ≤ lo + 172; omega)) rfl hl.1 (Nat.le_of_ble_eq_true rfl) dX8_next_102 ⟨hm0 hm.1, hm0 hm.2⟩ rfl) (fun x48 G47 H locs hf hI => ?_)
      clear hO
      refine lv_if_eq (tgt := 139) hx hb dX8_next_105 (by decide) (fun c49 => ?_) (fun c49 => ?_)
      · have hf := hf.1 c49
        refine lv_aload_n hx hb dX8_next_139 rfl (lv_at hl 0 rfl) ?_
        refine lv_aload_n hx hb dX8_next_140 rfl (lv_at hl 0 rfl) ?_
        refine hr_gtQ X hI (rfl : jC.1[8]? = some (RX8, TX8, 12)) in_X8 6 (Nat.le_of_ble_eq_true rfl) hf q1651 (fun _ h => h) dX8_next_141 (fun q50 hf => ?_)
        obtain ⟨a51, ea51, hf⟩ := hf
        revert hl hf
        subst ea51
        intro hl hf
        have hl : lv_has ls 1 [(0, .ref a0)] := hl
        obtain ⟨_, _, hO, hf⟩ := hf
        obtain ⟨m52, m53, hb1, hb2, hf⟩ := hf
        refine h_kq X hI (h_runV (As := []) X hI (h_recv X hI hO (show jC.1[19]? = some (RJ7, TJ7, 4) from rfl)) (mhJ7_toString l Z D j Λ fr lo E a51 m52 m53 G47 _ hf H.size) (cwV 0 hts (lw_V q1642 q1536 q1537 q183 q1538) rfl rfl rfl (by decide +kernel) (by show fr + 6 + 1 ≤ fr + 7 ∧ 8 + (1 + 11) + (lo + 152) ≤ lo + 172; omega)) rfl hl.1 (Nat.le_of_ble_eq_true rfl) dX8_next_144 ⟨hmA hm.1 hb1, hmA hm.2 hb2⟩ rfl) (fun q55 G54 H locs hf hI => ?_)
        have hm := And.intro (hmB hm.1 hb1) (hmB hm.2 hb2)
        clear hb1 hb2
        clear hO
        refine hr_pt X hI (rfl : jC.1[8]? = some (RX8, TX8, 12)) in_X8 7 (Nat.le_of_ble_eq_true rfl) tyX8 tyX8_ok nmX8 hf q1652 (fun _ h => h) rfl (nar_o _ _) (fit_o _ _) dX8_next_147 (fun G56 H locs hf hI => ?_)
        refine lv_goto (tgt := 252) hx hb dX8_next_150 (by decide) ?_
        exact hret hf hI dX8_next_252 (hmC hm.1) (hmC hm.2)
      · have hf := hf.2 c49
        refine lv_aload_n hx hb dX8_next_108 rfl (lv_at hl 0 rfl) ?_
        refine hr_gtQ X hI (rfl : jC.1[8]? = some (RX8, TX8, 12)) in_X8 6 (Nat.le_of_ble_eq_true rfl) hf q1651 (fun _ h => h) dX8_next_109 (fun q57 hf => ?_)
        refine lv_aload_n hx hb dX8_next_112 rfl (lv_at hl 0 rfl) ?_
        refine hr_gtQ X hI (rfl : jC.1[8]? = some (RX8, TX8, 12)) in_X8 0 (Nat.le_of_ble_eq_true rfl) hf q1645 (fun _ h => h) dX8_next_113 (fun q58 hf => ?_)
        refine lv_aload_n hx hb dX8_next_116 rfl (lv_at hl 0 rfl) ?_
        refine hr_gtI X hI (rfl : jC.1[8]? = some (RX8, TX8, 12)) in_X8 8 (Nat.le_of_ble_eq_true rfl) hf q1653 (fun _ h => h) dX8_next_117 (fun x59 hf => ?_)
        obtain ⟨a60, ea60, hf⟩ := hf
        revert hl hf
        subst ea60
        intro hl hf
        have hl : lv_has ls 1 [(0, .ref a0)] := hl
        refine hr_bld X hI 2 rfl hf dX8_next_120 (fun x61 hf => ?_)
        refine lv_i2c hx hb dX8_next_121 rfl ?_
        obtain ⟨a62, ea62, hf⟩ := hf
        revert hl hf
        subst ea62
        intro hl hf
        have hl : lv_has ls 1 [(0, .ref a0)] := hl
        obtain ⟨_, _, hO, hf⟩ := hf
        obtain ⟨m63, m64, hb1, hb2, hf⟩ := hf
        refine h_kq X hI (h_runV (As := [.int ((x61.toUInt32 % 65536).toInt32)]) X hI (h_recv X hI hO (show jC.1[19]? = some (RJ7, TJ7, 4) from rfl)) (mhJ7_append_3 l Z D j Λ fr lo E a62 ((x61.toUInt32 % 65536).toInt32) m63 m64 G47 _ hf H.size) (cwV 1 hts (lw_V q1620 q1621 q1622 q183 q1623) rfl rfl rfl (by decide +kernel) (by show fr + 5 + 1 ≤ fr + 7 ∧ 8 + (2 + 11) + (lo + 131) ≤ lo + 172; omega)) rfl hl.1 (Nat.le_of_ble_eq_true rfl) dX8_next_122 ⟨hmA hm.1 hb1, hmA hm.2 hb2⟩ rfl) (fun q66 G65 H locs hf hI => ?_)
        have hm := And.intro (hmB hm.1 hb1) (hmB hm.2 hb2)
        clear hb1 hb2
        clear hO
        refine lv_pop hx hb dX8_next_125 (h_catq _) ?_
        refine lv_aload_n hx hb dX8_next_126 rfl (lv_at hl 0 rfl) ?_
        refine lv_dup hx hb dX8_next_127 rfl ?_
        refine hr_gtI X hI (rfl : jC.1[8]? = some (RX8, TX8, 12)) in_X8 8 (Nat.le_of_ble_eq_true rfl) hf q1653 (fun _ h => h) dX8_next_128 (fun x67 hf => ?_)
        refine lv_iconst (v := 1) hx hb dX8_next_131 (by decide) ?_
        refine lv_iadd hx hb dX8_next_132 ?_
        refine hr_pt X hI (rfl : jC.1[8]? = some (RX8, TX8, 12)) in_X8 8 (Nat.le_of_ble_eq_true rfl) tyX8 tyX8_ok nmX8 hf q1653 (fun _ h => h) rfl rfl rfl dX8_next_133 (fun G68 H locs hf hI => ?_)
        refine lv_goto (tgt := 97) hx hb dX8_next_136 (by decide) ?_
        exact ih97 (mc - m63) (ms - m64) G68 hf _ _ hm H locs hI ls (lv_sub hl [0] rfl)
  have L0 : ∀ (n : Nat) (mc ms : Nat) (G : HG), hX8_next_l0 j Λ a0 post n mc ms G → ∀ (cells slots : Nat), cells + mc ≤ MC ∧ slots + ms ≤ MS → ∀ (H : Heap) (locs : List Loc), HI D jC G A0 s.heap H locs → ∀ (ls : Array Slot), lv_has ls 1 [(0, .ref a0)] → W p l e (rhX8_next fr lo MC MS) s m args below meth c H locs cells slots Q (F0 m 0 ls []) := by
    intro n0
    induction n0 with
    | zero => intro mc ms G hf; exact hf.elim
    | succ n0 ih0 =>
      have J22 : ∀ (mc ms : Nat) (G : HG), hX8_next_b22 j Λ a0 post (hX8_next_l0 j Λ a0 post n0) mc ms G → ∀ (cells slots : Nat), cells + mc ≤ MC ∧ slots + ms ≤ MS → ∀ (H : Heap) (locs : List Loc), HI D jC G A0 s.heap H locs → ∀ (ls : Array Slot), lv_has ls 1 [(0, .ref a0)] → W p l e (rhX8_next fr lo MC MS) s m args below meth c H locs cells slots Q (F0 m 22 ls []) := by
        intro mc ms G hf cells slots hm H locs hI ls hl
        unfold hX8_next_b22 at hf
        refine lv_aload_n hx hb dX8_next_22 rfl (lv_at hl 0 rfl) ?_
        refine lv_dup hx hb dX8_next_23 rfl ?_
        refine hr_gtI X hI (rfl : jC.1[8]? = some (RX8, TX8, 12)) in_X8 8 (Nat.le_of_ble_eq_true rfl) hf q1653 (fun _ h => h) dX8_next_24 (fun x31 hf => ?_)
        refine lv_iconst (v := 1) hx hb dX8_next_27 (by decide) ?_
        refine lv_iadd hx hb dX8_next_28 ?_
        refine hr_pt X hI (rfl : jC.1[8]? = some (RX8, TX8, 12)) in_X8 8 (Nat.le_of_ble_eq_true rfl) tyX8 tyX8_ok nmX8 hf q1653 (fun _ h => h) rfl rfl rfl dX8_next_29 (fun G32 H locs hf hI => ?_)
        refine lv_goto (tgt := 0) hx hb dX8_next_32 (by decide) ?_
        exact ih0 mc ms G32 hf _ _ hm H locs hI ls (lv_sub hl [0] rfl)
      intro mc ms G hf cells slots hm H locs hI ls hl
      have hf : hX8_next_b0 j Λ a0 post (hX8_next_l0 j Λ a0 post n0) mc ms G := hf
      unfold hX8_next_b0 at hf
      refine lv_aload_n hx hb dX8_next_0 rfl (lv_at hl 0 rfl) ?_
      refine lv_bipush (v := 32) hx hb dX8_next_1 (by decide) ?_
      refine lv_bipush (v := 32) hx hb dX8_next_3 (by decide) ?_
      obtain ⟨_, _, hO, hf⟩ := hf
      refine h_ki X hI (h_runV (As := [.int 32, .int 32]) X hI (h_recv X hI hO (show jC.1[8]? = some (RX8, TX8, 12) from rfl)) (mhX8_isAt l Z D j Λ fr lo E a0 (32 : Int32) (32 : Int32) G _ hf H.size) (cwV 2 hts (lw_V q1400 q1402 qs9 q179 q1403) rfl rfl rfl (by decide +kernel) (by show fr + 2 + 1 ≤ fr + 7 ∧ 8 + (3 + 11) + (lo + 65) ≤ lo + 172; omega)) rfl hl.1 (Nat.le_of_ble_eq_true rfl) dX8_next_5 ⟨hm0 hm.1, hm0 hm.2⟩ rfl) (fun x2 G1 H locs hf hI => ?_)
      clear hO
      refine lv_if_ne (tgt := 22) hx hb dX8_next_8 (by decide) (fun c3 => ?_) (fun c3 => ?_)
      · have hf := hf.2 c3
        exact J22 mc ms G1 hf _ _ hm H locs hI ls (lv_sub hl [0] rfl)
      · have hf := hf.1 c3
        refine lv_aload_n hx hb dX8_next_11 rfl (lv_at hl 0 rfl) ?_
        refine lv_bipush (v := 10) hx hb dX8_next_12 (by decide) ?_
        refine lv_bipush (v := 10) hx hb dX8_next_14 (by decide) ?_
        obtain ⟨_, _, hO, hf⟩ := hf
        refine h_ki X hI (h_runV (As := [.int 10, .int 10]) X hI (h_recv X hI hO (show jC.1[8]? = some (RX8, TX8, 12) from rfl)) (mhX8_isAt l Z D j Λ fr lo E a0 (10 : Int32) (10 : Int32) G1 _ hf H.size) (cwV 2 hts (lw_V q1400 q1402 qs9 q179 q1403) rfl rfl rfl (by decide +kernel) (by show fr + 2 + 1 ≤ fr + 7 ∧ 8 + (3 + 11) + (lo + 65) ≤ lo + 172; omega)) rfl hl.1 (Nat.le_of_ble_eq_true rfl) dX8_next_16 ⟨hm0 hm.1, hm0 hm.2⟩ rfl) (fun x5 G4 H locs hf hI => ?_)
        clear hO
        refine lv_if_eq (tgt := 35) hx hb dX8_next_19 (by decide) (fun c6 => ?_) (fun c6 => ?_)
        · have hf := hf.1 c6
          refine lv_aload_n hx hb dX8_next_35 rfl (lv_at hl 0 rfl) ?_
          refine lv_aload_n hx hb dX8_next_36 rfl (lv_at hl 0 rfl) ?_
          refine hr_gtI X hI (rfl : jC.1[8]? = some (RX8, TX8, 12)) in_X8 8 (Nat.le_of_ble_eq_true rfl) hf q1653 (fun _ h => h) dX8_next_37 (fun x7 hf => ?_)
          refine hr_pt X hI (rfl : jC.1[8]? = some (RX8, TX8, 12)) in_X8 9 (Nat.le_of_ble_eq_true rfl) tyX8 tyX8_ok nmX8 hf q1654 (fun _ h => h) rfl rfl rfl dX8_next_40 (fun G8 H locs hf hI => ?_)
          refine lv_aload_n hx hb dX8_next_43 rfl (lv_at hl 0 rfl) ?_
          refine lv_iconst (v := 0) hx hb dX8_next_44 (by decide) ?_
          refine hr_pt X hI (rfl : jC.1[8]? = some (RX8, TX8, 12)) in_X8 11 (Nat.le_of_ble_eq_true rfl) tyX8 tyX8_ok nmX8 hf q1656 (fun _ h => h) rfl rfl rfl dX8_next_45 (fun G9 H locs hf hI => ?_)
          refine lv_aload_n hx hb dX8_next_48 rfl (lv_at hl 0 rfl) ?_
          refine va_ldcS hx hb hown ((E.z X).2.2.2.1 _ (List.mem_of_getElem? (show jStx[22]? = some _ from rfl))) dX8_next_49 ?_
          refine hr_pt X hI (rfl : jC.1[8]? = some (RX8, TX8, 12)) in_X8 7 (Nat.le_of_ble_eq_true rfl) tyX8 tyX8_ok nmX8 hf q1652 (fun _ h => h) rfl rfl rfl dX8_next_51 (fun G10 H locs hf hI => ?_)
          refine lv_aload_n hx hb dX8_next_54 rfl (lv_at hl 0 rfl) ?_
          refine hr_gtI X hI (rfl : jC.1[8]? = some (RX8, TX8, 12)) in_X8 8 (Nat.le_of_ble_eq_true rfl) hf q1653 (fun _ h => h) dX8_next_55 (fun x11 hf => ?_)
          refine lv_aload_n hx hb dX8_next_58 rfl (lv_at hl 0 rfl) ?_
          refine hr_gtI X hI (rfl : jC.1[8]? = some (RX8, TX8, 12)) in_X8 1 (Nat.le_of_ble_eq_true rfl) hf q1646 (fun _ h => h) dX8_next_59 (fun x12 hf => ?_)
          refine lv_icmp_ne (tgt := 73) hx hb dX8_next_62 (by decide) (fun c13 => ?_) (fun c13 => ?_)
          · have hf := hf.2 c13
            refine lv_aload_n hx hb dX8_next_73 rfl (lv_at hl 0 rfl) ?_
            refine lv_bipush (v := 97) hx hb dX8_next_74 (by decide) ?_
            refine lv_bipush (v := 122) hx hb dX8_next_76 (by decide) ?_
            obtain ⟨_, _, hO, hf⟩ := hf
            refine h_ki X hI (h_runV (As := [.int 97, .int 122]) X hI (h_recv X hI hO (show jC.1[8]? = some (RX8, TX8, 12) from rfl)) (mhX8_isAt l Z D j Λ fr lo E a0 (97 : Int32) (122 : Int32) G10 _ hf H.size) (cwV 2 hts (lw_V q1400 q1402 qs9 q179 q1403) rfl rfl rfl (by decide +kernel) (by show fr + 2 + 1 ≤ fr + 7 ∧ 8 + (3 + 11) + (lo + 65) ≤ lo + 172; omega)) rfl hl.1 (Nat.le_of_ble_eq_true rfl) dX8_next_78 ⟨hm0 hm.1, hm0 hm.2⟩ rfl) (fun x15 G14 H locs hf hI => ?_)
            clear hO
            refine lv_if_eq (tgt := 153) hx hb dX8_next_81 (by decide) (fun c16 => ?_) (fun c16 => ?_)
            · have hf := hf.1 c16
              refine lv_aload_n hx hb dX8_next_153 rfl (lv_at hl 0 rfl) ?_
              refine lv_bipush (v := 48) hx hb dX8_next_154 (by decide) ?_
              refine lv_bipush (v := 57) hx hb dX8_next_156 (by decide) ?_
              obtain ⟨_, _, hO, hf⟩ := hf
              refine h_ki X hI (h_runV (As := [.int 48, .int 57]) X hI (h_recv X hI hO (show jC.1[8]? = some (RX8, TX8, 12) from rfl)) (mhX8_isAt l Z D j Λ fr lo E a0 (48 : Int32) (57 : Int32) G14 _ hf H.size) (cwV 2 hts (lw_V q1400 q1402 qs9 q179 q1403) rfl rfl rfl (by decide +kernel) (by show fr + 2 + 1 ≤ fr + 7 ∧ 8 + (3 + 11) + (lo + 65) ≤ lo + 172; omega)) rfl hl.1 (Nat.le_of_ble_eq_true rfl) dX8_next_158 ⟨hm0 hm.1, hm0 hm.2⟩ rfl) (fun x18 G17 H locs hf hI => ?_)
              clear hO
              refine lv_if_eq (tgt := 222) hx hb dX8_next_161 (by decide) (fun c19 => ?_) (fun c19 => ?_)
              · have hf := hf.1 c19
                refine lv_aload_n hx hb dX8_next_222 rfl (lv_at hl 0 rfl) ?_
                refine lv_aload_n hx hb dX8_next_223 rfl (lv_at hl 0 rfl) ?_
                refine lv_bipush (v := 59) hx hb dX8_next_224 (by decide) ?_
                refine lv_bipush (v := 59) hx hb dX8_next_226 (by decide) ?_
                obtain ⟨_, _, hO, hf⟩ := hf
                refine h_ki X hI (h_runV (As := [.int 59, .int 59]) X hI (h_recv X hI hO (show jC.1[8]? = some (RX8, TX8, 12) from rfl)) (mhX8_isAt l Z D j Λ fr lo E a0 (59 : Int32) (59 : Int32) G17 _ hf H.size) (cwV 2 hts (lw_V q1400 q1402 qs9 q179 q1403) rfl rfl rfl (by decide +kernel) (by show fr + 2 + 1 ≤ fr + 7 ∧ 8 + (3 + 11) + (lo + 65) ≤ lo + 172; omega)) rfl hl.1 (Nat.le_of_ble_eq_true rfl) dX8_next_228 ⟨hm0 hm.1, hm0 hm.2⟩ rfl) (fun x21 G20 H locs hf hI => ?_)
                clear hO
                refine lv_if_eq (tgt := 238) hx hb dX8_next_231 (by decide) (fun c22 => ?_) (fun c22 => ?_)
                · have hf := hf.1 c22
                  refine lv_iconst (v := 4) hx hb dX8_next_238 (by decide) ?_
                  exact J239 a0 (4 : Int32) mc ms G20 hf _ _ hm H locs hI ls (lv_sub hl [0] rfl)
                · have hf := hf.2 c22
                  refine lv_iconst (v := 3) hx hb dX8_next_234 (by decide) ?_
                  refine lv_goto (tgt := 239) hx hb dX8_next_235 (by decide) ?_
                  exact J239 a0 (3 : Int32) mc ms G20 hf _ _ hm H locs hI ls (lv_sub hl [0] rfl)
              · have hf := hf.2 c19
                refine lv_aload_n hx hb dX8_next_164 rfl (lv_at hl 0 rfl) ?_
                refine lv_iconst (v := 2) hx hb dX8_next_165 (by decide) ?_
                refine hr_pt X hI (rfl : jC.1[8]? = some (RX8, TX8, 12)) in_X8 10 (Nat.le_of_ble_eq_true rfl) tyX8 tyX8_ok nmX8 hf q1655 (fun _ h => h) rfl rfl rfl dX8_next_166 (fun G23 H locs hf hI => ?_)
                obtain ⟨n, hf⟩ := hf
                exact L169 n mc ms G23 hf _ _ hm H locs hI ls (lv_sub hl [0] rfl)
            · have hf := hf.2 c16
              refine lv_aload_n hx hb dX8_next_84 rfl (lv_at hl 0 rfl) ?_
              refine lv_iconst (v := 1) hx hb dX8_next_85 (by decide) ?_
              refine hr_pt X hI (rfl : jC.1[8]? = some (RX8, TX8, 12)) in_X8 10 (Nat.le_of_ble_eq_true rfl) tyX8 tyX8_ok nmX8 hf q1655 (fun _ h => h) rfl rfl rfl dX8_next_86 (fun G24 H locs hf hI => ?_)
              refine lv_aload_n hx hb dX8_next_89 rfl (lv_at hl 0 rfl) ?_
              refine hr_gtQ X hI (rfl : jC.1[8]? = some (RX8, TX8, 12)) in_X8 6 (Nat.le_of_ble_eq_true rfl) hf q1651 (fun _ h => h) dX8_next_90 (fun q25 hf => ?_)
              refine lv_iconst (v := 0) hx hb dX8_next_93 (by decide) ?_
              obtain ⟨a26, ea26, hf⟩ := hf
              revert hl hf
              subst ea26
              intro hl hf
              have hl : lv_has ls 1 [(0, .ref a0)] := hl
              obtain ⟨_, _, hO, hf⟩ := hf
              obtain ⟨m27, m28, hb1, hb2, hf⟩ := hf
              refine h_kv X hI (h_runV (As := [.int 0]) X hI (h_recv X hI hO (show jC.1[19]? = some (RJ7, TJ7, 4) from rfl)) (mhJ7_setLength l Z D j Λ fr lo E a26 (0 : Int32) m27 m28 G24 _ hf H.size) (cwV 1 hts (lw_V q1405 q1406 q1407 q183 q1408) rfl rfl rfl (by decide +kernel) (by show fr + 5 + 1 ≤ fr + 7 ∧ 8 + (2 + 11) + (lo + 131) ≤ lo + 172; omega)) rfl hl.1 (Nat.le_of_ble_eq_true rfl) dX8_next_94 ⟨hmA hm.1 hb1, hmA hm.2 hb2⟩ rfl) (fun G29 H locs hf hI => ?_)
              have hm := And.intro (hmB hm.1 hb1) (hmB hm.2 hb2)
              clear hb1 hb2
              clear hO
              obtain ⟨n, hf⟩ := hf
              exact L97 n (mc - m27) (ms - m28) G29 hf _ _ hm H locs hI ls (lv_sub hl [0] rfl)
          · have hf := hf.1 c13
            refine lv_aload_n hx hb dX8_next_65 rfl (lv_at hl 0 rfl) ?_
            refine lv_iconst (v := 0) hx hb dX8_next_66 (by decide) ?_
            refine hr_pt X hI (rfl : jC.1[8]? = some (RX8, TX8, 12)) in_X8 10 (Nat.le_of_ble_eq_true rfl) tyX8 tyX8_ok nmX8 hf q1655 (fun _ h => h) rfl rfl rfl dX8_next_67 (fun G30 H locs hf hI => ?_)
            refine lv_goto (tgt := 252) hx hb dX8_next_70 (by decide) ?_
            exact hret hf hI dX8_next_252 (hmC hm.1) (hmC hm.2)
        · have hf := hf.2 c6
          exact J22 mc ms G4 hf _ _ hm H locs hI ls (lv_sub hl [0] rfl)
  have hl : lv_has ls 1 [(0, .ref a0)] := by exact hl
  unfold hX8_next at hf
  obtain ⟨H, eH⟩ : ∃ H, H = s.heap := ⟨_, rfl⟩
  obtain ⟨locs, eL⟩ : ∃ locs : List Loc, locs = [] := ⟨_, rfl⟩
  have hI : HI D jC G A0 s.heap H locs := by rw [eH, eL]; exact hI
  rw [← eL]
  obtain ⟨cells, eC⟩ : ∃ n : Nat, n = 0 := ⟨_, rfl⟩
  obtain ⟨slots, eS⟩ : ∃ n : Nat, n = 0 := ⟨_, rfl⟩
  have hm : cells + mc ≤ MC ∧ slots + ms ≤ MS := by rw [eC, eS]; exact hm0_
  suffices h : W p l e (rhX8_next fr lo MC MS) s m args below meth c H locs cells slots Q (F0 m 0 ls []) by rw [eH, eC, eS] at h; exact h
  clear eH eL eC eS
  obtain ⟨n, hf⟩ := hf
  exact L0 n mc ms G hf _ _ hm H locs hI ls (lv_sub hl [0] rfl)
