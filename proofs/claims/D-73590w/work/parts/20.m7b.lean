/-! THE MODEL decompiled, and its walks (printed by gen/genm.py) -/
/-! hard -/
def f7_hard_b79 (K16 : Int32 → Int32 → Int32 → MS → oI Int32) (x1 : Int32) (x2 : Int32) (x3 : Int32) (σ : MS) : oI Int32 :=
  K16 x1 x2 (x3 + 1) σ
def f7_hard_b56 (K16 : Int32 → Int32 → Int32 → MS → oI Int32) (K30 : Int32 → Int32 → Int32 → Int32 → Int32 → MS → oI Int32) (x1 : Int32) (x2 : Int32) (x3 : Int32) (x5 : Int32) (z0 : Int32) (z1 : Int32) (σ : MS) : oI Int32 :=
  K30 x1 x2 x3 (z0 + z1) (x5 + 1) σ
def f7_hard_b30 (K16 : Int32 → Int32 → Int32 → MS → oI Int32) (K30 : Int32 → Int32 → Int32 → Int32 → Int32 → MS → oI Int32) (x1 : Int32) (x2 : Int32) (x3 : Int32) (x4 : Int32) (x5 : Int32) (σ : MS) : oI Int32 :=
  bnd (f7_stateMany σ) fun r8 σ7 =>
  if r8 ≤ x5 then (if x2 < x4 then (f7_hard_b79 K16 x3 x4 x3 σ7) else (f7_hard_b79 K16 x1 x2 x3 σ7)) else (bnd (f7_holdsIn x3 x5 σ7) fun r12 σ11 =>
  if r12 = 0 then (f7_hard_b56 K16 K30 x1 x2 x3 x5 x4 1 σ11) else (f7_hard_b56 K16 K30 x1 x2 x3 x5 x4 0 σ11))
def f7_hard_l30 (K16 : Int32 → Int32 → Int32 → MS → oI Int32) : Nat → Int32 → Int32 → Int32 → Int32 → Int32 → MS → oI Int32
  | 0 => fun _ _ _ _ _ _ => none
  | n + 1 => fun x1 x2 x3 x4 x5 σ => f7_hard_b30 K16 (f7_hard_l30 K16 n) x1 x2 x3 x4 x5 σ
def f7_hard_b16 (K16 : Int32 → Int32 → Int32 → MS → oI Int32) (x1 : Int32) (x2 : Int32) (x3 : Int32) (σ : MS) : oI Int32 :=
  bnd (f7_rules σ) fun r5 σ4 =>
  if r5 ≤ x3 then (some (x1, σ4)) else (f7_hard_l30 K16 FU x1 x2 x3 0 0 σ4)
def f7_hard_l16 : Nat → Int32 → Int32 → Int32 → MS → oI Int32
  | 0 => fun _ _ _ _ => none
  | n + 1 => fun x1 x2 x3 σ => f7_hard_b16 (f7_hard_l16 n) x1 x2 x3 σ
def f7_hard (σ : MS) : oI Int32 :=
  bnd (f7_asks σ) fun r2 σ1 =>
  if r2 = 0 then (some ((-2), σ1)) else (f7_hard_l16 FU (-1) (-1) 0 σ1)
abbrev r7_hard : Room := { frames := 6, cells := 0, slots := 0, locals := 140 }
theorem m7_hard (l : Launch) (D : va_G) (cl : vC2) (Z : (Nat → Prop) → State → Heap → Prop) (hz : ZK Z) (ci : Nat) (A : Nat → Nat) (d : Nat → ClassId) (tm : List (ClassId × FieldType)) (hc : cl.1[ci]? = some (RX7, TX7, 42)) (σ : MS) (r : Int32) (σ' : MS) (hf : f7_hard σ = some (r, σ')) : MMi l yX7_hard (ws_ yX7_hard cX7_hard 6 (some .int)) r7_hard D cl Z ci A d tm σ [] r σ' := by
  refine m_openi hz (by decide) (by exact Nat.le_of_ble_eq_true rfl) (fun p e s m args below meth c ls A0 Q X hI hl hret => ?_)
  have X : XC p s m args meth c cX7_hard 6 RX7 D cl (mty d tm) A0 Z := X
  have hx := X.1
  have hb := X.2.1
  have hown := X.2.2.2.1
  have hts := X.2.2.2.2.1
  have L16 : ∀ (n : Nat) (x1 : Int32) (x2 : Int32) (x3 : Int32) (σ : MS), f7_hard_l16 n x1 x2 x3 σ = some (r, σ') → ∀ (H : Heap) (locs : List Loc), XI D cl (mw ci A d σ) A0 s.heap H locs → ∀ (ls : Array Slot), lv_has ls 6 [(0, .ref (A 0)), (1, .int x1), (2, .int x2), (3, .int x3)] → W p l e r7_hard s m args below meth c H locs 0 0 Q (F0 m 16 ls []) := by
    intro n16
    induction n16 with
    | zero => intro x1 x2 x3 σ hf; cases hf
    | succ n16 ih16 =>
      have J79 : ∀ (x1 : Int32) (x2 : Int32) (x3 : Int32) (σ : MS), f7_hard_b79 (f7_hard_l16 n16) x1 x2 x3 σ = some (r, σ') → ∀ (H : Heap) (locs : List Loc), XI D cl (mw ci A d σ) A0 s.heap H locs → ∀ (ls : Array Slot), lv_has ls 6 [(0, .ref (A 0)), (1, .int x1), (2, .int x2), (3, .int x3)] → W p l e r7_hard s m args below meth c H locs 0 0 Q (F0 m 79 ls []) := by
        intro x1 x2 x3 σ hf H locs hI ls hl
        unfold f7_hard_b79 at hf
        refine lv_iinc (v := x3 + 1) (lv' := [(3, .int (x3 + 1)), (0, .ref (A 0)), (1, .int x1), (2, .int x2)]) hx hb dX7_hard_79 hl (k := 3) rfl rfl (by decide) rfl (fun ls hl => ?_)
        refine lv_goto (tgt := 16) hx hb dX7_hard_82 (by decide) ?_
        exact ih16 x1 x2 (x3 + 1) σ hf H locs hI ls (lv_sub hl [1, 2, 3, 0] rfl)
      have L30 : ∀ (n : Nat) (x1 : Int32) (x2 : Int32) (x3 : Int32) (x4 : Int32) (x5 : Int32) (σ : MS), f7_hard_l30 (f7_hard_l16 n16) n x1 x2 x3 x4 x5 σ = some (r, σ') → ∀ (H : Heap) (locs : List Loc), XI D cl (mw ci A d σ) A0 s.heap H locs → ∀ (ls : Array Slot), lv_has ls 6 [(0, .ref (A 0)), (1, .int x1), (2, .int x2), (3, .int x3), (4, .int x4), (5, .int x5)] → W p l e r7_hard s m args below meth c H locs 0 0 Q (F0 m 30 ls []) := by
        intro n30
        induction n30 with
        | zero => intro x1 x2 x3 x4 x5 σ hf; cases hf
        | succ n30 ih30 =>
          have J56 : ∀ (x1 : Int32) (x2 : Int32) (x3 : Int32) (x5 : Int32) (z0 : Int32) (z1 : Int32) (σ : MS), f7_hard_b56 (f7_hard_l16 n16) (f7_hard_l30 (f7_hard_l16 n16) n30) x1 x2 x3 x5 z0 z1 σ = some (r, σ') → ∀ (H : Heap) (locs : List Loc), XI D cl (mw ci A d σ) A0 s.heap H locs → ∀ (ls : Array Slot), lv_has ls 6 [(0, .ref (A 0)), (1, .int x1), (2, .int x2), (3, .int x3), (5, .int x5)] → W p l e r7_hard s m args below meth c H locs 0 0 Q (F0 m 56 ls [.int z1, .int z0]) := by
            intro x1 x2 x3 x5 z0 z1 σ hf H locs hI ls hl
            unfold f7_hard_b56 at hf
            refine lv_iadd hx hb dX7_hard_56 ?_
            refine lv_istore (lv' := [(4, .int (z0 + z1)), (0, .ref (A 0)), (1, .int x1), (2, .int x2), (3, .int x3), (5, .int x5)]) hx hb dX7_hard_57 hl (by decide) rfl (fun ls hl => ?_)
            refine lv_iinc (v := x5 + 1) (lv' := [(5, .int (x5 + 1)), (4, .int (z0 + z1)), (0, .ref (A 0)), (1, .int x1), (2, .int x2), (3, .int x3)]) hx hb dX7_hard_59 hl (k := 5) rfl rfl (by decide) rfl (fun ls hl => ?_)
            refine lv_goto (tgt := 30) hx hb dX7_hard_62 (by decide) ?_
            exact ih30 x1 x2 x3 (z0 + z1) (x5 + 1) σ hf H locs hI ls (lv_sub hl [2, 3, 4, 5, 1, 0] rfl)
          intro x1 x2 x3 x4 x5 σ hf H locs hI ls hl
          have hf : f7_hard_b30 (f7_hard_l16 n16) (f7_hard_l30 (f7_hard_l16 n16) n30) x1 x2 x3 x4 x5 σ = some (r, σ') := hf
          unfold f7_hard_b30 at hf
          refine lv_iload hx hb dX7_hard_30 (lv_at hl 5 rfl) ?_
          refine lv_aload_n hx hb dX7_hard_32 rfl (lv_at hl 0 rfl) ?_
          obtain ⟨r8, σ7, hσ7, hf⟩ := bnd_some hf
          refine m_calli X hI hc [] (m7_stateMany l D cl Z hz ci A d tm hc σ r8 σ7 hσ7) (cw7_stateMany hts ⟨Nat.le_of_ble_eq_true rfl, Nat.le_of_ble_eq_true rfl⟩) rfl hl.1 (Nat.le_of_ble_eq_true rfl) rfl dX7_hard_33 ⟨Nat.le_of_ble_eq_true rfl, Nat.le_of_ble_eq_true rfl⟩ (fun H locs hI => ?_)
          refine lv_icmp_ge (tgt := 65) hx hb dX7_hard_36 (by decide) (fun c9 => ?_) (fun c9 => ?_)
          · have hf := o_pos hf c9
            refine lv_iload hx hb dX7_hard_65 (lv_at hl 4 rfl) ?_
            refine lv_iload_n hx hb dX7_hard_67 rfl (lv_at hl 2 rfl) ?_
            refine lv_icmp_gt (tgt := 74) hx hb dX7_hard_68 (by decide) (fun c10 => ?_) (fun c10 => ?_)
            · have hf := o_pos hf c10
              refine lv_iload hx hb dX7_hard_74 (lv_at hl 4 rfl) ?_
              refine lv_istore_n (lv' := [(2, .int x4), (0, .ref (A 0)), (1, .int x1), (3, .int x3), (4, .int x4), (5, .int x5)]) hx hb dX7_hard_76 rfl hl (by decide) rfl (fun ls hl => ?_)
              refine lv_iload_n hx hb dX7_hard_77 rfl (lv_at hl 3 rfl) ?_
              refine lv_istore_n (lv' := [(1, .int x3), (2, .int x4), (0, .ref (A 0)), (3, .int x3), (4, .int x4), (5, .int x5)]) hx hb dX7_hard_78 rfl hl (by decide) rfl (fun ls hl => ?_)
              exact J79 x3 x4 x3 σ7 hf H locs hI ls (lv_sub hl [2, 0, 1, 3] rfl)
            · have hf := o_neg hf c10
              refine lv_goto (tgt := 79) hx hb dX7_hard_71 (by decide) ?_
              exact J79 x1 x2 x3 σ7 hf H locs hI ls (lv_sub hl [0, 1, 2, 3] rfl)
          · have hf := o_neg hf c9
            refine lv_iload hx hb dX7_hard_39 (lv_at hl 4 rfl) ?_
            refine lv_aload_n hx hb dX7_hard_41 rfl (lv_at hl 0 rfl) ?_
            refine lv_iload_n hx hb dX7_hard_42 rfl (lv_at hl 3 rfl) ?_
            refine lv_iload hx hb dX7_hard_43 (lv_at hl 5 rfl) ?_
            obtain ⟨r12, σ11, hσ11, hf⟩ := bnd_some hf
            refine m_calli X hI hc [.int x3, .int x5] (m7_holdsIn l D cl Z hz ci A d tm hc x3 x5 σ7 r12 σ11 hσ11) (cw7_holdsIn hts ⟨Nat.le_of_ble_eq_true rfl, Nat.le_of_ble_eq_true rfl⟩) rfl hl.1 (Nat.le_of_ble_eq_true rfl) rfl dX7_hard_45 ⟨Nat.le_of_ble_eq_true rfl, Nat.le_of_ble_eq_true rfl⟩ (fun H locs hI => ?_)
            refine lv_if_eq (tgt := 55) hx hb dX7_hard_48 (by decide) (fun c13 => ?_) (fun c13 => ?_)
            · have hf := o_pos hf c13
              refine lv_iconst (v := 1) hx hb dX7_hard_55 (by decide) ?_
              exact J56 x1 x2 x3 x5 x4 1 σ11 hf H locs hI ls (lv_sub hl [0, 1, 2, 3, 5] rfl)
            · have hf := o_neg hf c13
              refine lv_iconst (v := 0) hx hb dX7_hard_51 (by decide) ?_
              refine lv_goto (tgt := 56) hx hb dX7_hard_52 (by decide) ?_
              exact J56 x1 x2 x3 x5 x4 0 σ11 hf H locs hI ls (lv_sub hl [0, 1, 2, 3, 5] rfl)
      intro x1 x2 x3 σ hf H locs hI ls hl
      have hf : f7_hard_b16 (f7_hard_l16 n16) x1 x2 x3 σ = some (r, σ') := hf
      unfold f7_hard_b16 at hf
      refine lv_iload_n hx hb dX7_hard_16 rfl (lv_at hl 3 rfl) ?_
      refine lv_aload_n hx hb dX7_hard_17 rfl (lv_at hl 0 rfl) ?_
      obtain ⟨r5, σ4, hσ4, hf⟩ := bnd_some hf
      refine m_calli X hI hc [] (m7_rules l D cl Z hz ci A d tm hc σ r5 σ4 hσ4) (cw7_rules hts ⟨Nat.le_of_ble_eq_true rfl, Nat.le_of_ble_eq_true rfl⟩) rfl hl.1 (Nat.le_of_ble_eq_true rfl) rfl dX7_hard_18 ⟨Nat.le_of_ble_eq_true rfl, Nat.le_of_ble_eq_true rfl⟩ (fun H locs hI => ?_)
      refine lv_icmp_ge (tgt := 85) hx hb dX7_hard_21 (by decide) (fun c6 => ?_) (fun c6 => ?_)
      · have hf := o_pos hf c6
        refine lv_iload_n hx hb dX7_hard_85 rfl (lv_at hl 1 rfl) ?_
        exact hret hf hI dX7_hard_86
      · have hf := o_neg hf c6
        refine lv_iconst (v := 0) hx hb dX7_hard_24 (by decide) ?_
        refine lv_istore (lv' := [(4, .int 0), (0, .ref (A 0)), (1, .int x1), (2, .int x2), (3, .int x3)]) hx hb dX7_hard_25 hl (by decide) rfl (fun ls hl => ?_)
        refine lv_iconst (v := 0) hx hb dX7_hard_27 (by decide) ?_
        refine lv_istore (lv' := [(5, .int 0), (4, .int 0), (0, .ref (A 0)), (1, .int x1), (2, .int x2), (3, .int x3)]) hx hb dX7_hard_28 hl (by decide) rfl (fun ls hl => ?_)
        exact L30 FU x1 x2 x3 0 0 σ4 hf H locs hI ls (lv_sub hl [2, 3, 4, 5, 1, 0] rfl)
  have hl : lv_has ls 6 [(0, .ref (A 0))] := hl
  unfold f7_hard at hf
  obtain ⟨H, eH⟩ : ∃ H, H = s.heap := ⟨_, rfl⟩
  obtain ⟨locs, eL⟩ : ∃ locs : List Loc, locs = [] := ⟨_, rfl⟩
  have hI : XI D cl (mw ci A d σ) A0 s.heap H locs := by rw [eH, eL]; exact hI
  rw [← eL]
  suffices h : W p l e r7_hard s m args below meth c H locs 0 0 Q (F0 m 0 ls []) by rw [eH] at h; exact h
  clear eH eL
  refine lv_aload_n hx hb dX7_hard_0 rfl (lv_at hl 0 rfl) ?_
  obtain ⟨r2, σ1, hσ1, hf⟩ := bnd_some hf
  refine m_calli X hI hc [] (m7_asks l D cl Z hz ci A d tm hc σ r2 σ1 hσ1) (cw7_asks hts ⟨Nat.le_of_ble_eq_true rfl, Nat.le_of_ble_eq_true rfl⟩) rfl hl.1 (Nat.le_of_ble_eq_true rfl) rfl dX7_hard_1 ⟨Nat.le_of_ble_eq_true rfl, Nat.le_of_ble_eq_true rfl⟩ (fun H locs hI => ?_)
  refine lv_if_ne (tgt := 10) hx hb dX7_hard_4 (by decide) (fun c3 => ?_) (fun c3 => ?_)
  · have hf := o_neg hf c3
    refine lv_iconst (v := -1) hx hb dX7_hard_10 (by decide) ?_
    refine lv_istore_n (lv' := [(1, .int (-1)), (0, .ref (A 0))]) hx hb dX7_hard_11 rfl hl (by decide) rfl (fun ls hl => ?_)
    refine lv_iconst (v := -1) hx hb dX7_hard_12 (by decide) ?_
    refine lv_istore_n (lv' := [(2, .int (-1)), (1, .int (-1)), (0, .ref (A 0))]) hx hb dX7_hard_13 rfl hl (by decide) rfl (fun ls hl => ?_)
    refine lv_iconst (v := 0) hx hb dX7_hard_14 (by decide) ?_
    refine lv_istore_n (lv' := [(3, .int 0), (2, .int (-1)), (1, .int (-1)), (0, .ref (A 0))]) hx hb dX7_hard_15 rfl hl (by decide) rfl (fun ls hl => ?_)
    exact L16 FU (-1) (-1) 0 σ1 hf H locs hI ls (lv_sub hl [3, 2, 1, 0] rfl)
  · have hf := o_pos hf c3
    refine lv_bipush (v := -2) hx hb dX7_hard_7 (by decide) ?_
    exact hret hf hI dX7_hard_9
/-! spare -/
def f7_spare (p0 : Int32) (σ : MS) : oI Int32 :=
  bnd (f7_asks σ) fun r2 σ1 =>
  if r2 = 0 then (some ((-2), σ1)) else (bnd (f7_isRule p0 σ1) fun r5 σ4 =>
  if r5 = 0 then (some ((-2), σ4)) else (bnd (f7_validMany σ4) fun r8 σ7 =>
  nxt (sI σ7 18 ((gI σ7 18) ||| ((1 : Int32) <<< (p0 &&& 31)))) fun σ9 =>
  bn1 (f7_layStates σ9) fun σ10 =>
  bnd (f7_validMany σ10) fun r12 σ11 =>
  if r12 = r8 then (some (1, σ11)) else (some (0, σ11))))
abbrev r7_spare : Room := { frames := 6, cells := 0, slots := 0, locals := 140 }
theorem m7_spare (l : Launch) (D : va_G) (cl : vC2) (Z : (Nat → Prop) → State → Heap → Prop) (hz : ZK Z) (ci : Nat) (A : Nat → Nat) (d : Nat → ClassId) (tm : List (ClassId × FieldType)) (hc : cl.1[ci]? = some (RX7, TX7, 42)) (p0 : Int32) (σ : MS) (r : Int32) (σ' : MS) (hf : f7_spare p0 σ = some (r, σ')) : MMi l yX7_spare (ws_ yX7_spare cX7_spare 3 (some .int)) r7_spare D cl Z ci A d tm σ [.int p0] r σ' := by
  refine m_openi hz (by decide) (by exact Nat.le_of_ble_eq_true rfl) (fun p e s m args below meth c ls A0 Q X hI hl hret => ?_)
  have X : XC p s m args meth c cX7_spare 3 RX7 D cl (mty d tm) A0 Z := X
  have hx := X.1
  have hb := X.2.1
  have hown := X.2.2.2.1
  have hts := X.2.2.2.2.1
  have hl : lv_has ls 3 [(0, .ref (A 0)), (1, .int p0)] := hl
  unfold f7_spare at hf
  obtain ⟨H, eH⟩ : ∃ H, H = s.heap := ⟨_, rfl⟩
  obtain ⟨locs, eL⟩ : ∃ locs : List Loc, locs = [] := ⟨_, rfl⟩
  have hI : XI D cl (mw ci A d σ) A0 s.heap H locs := by rw [eH, eL]; exact hI
  rw [← eL]
  suffices h : W p l e r7_spare s m args below meth c H locs 0 0 Q (F0 m 0 ls []) by rw [eH] at h; exact h
  clear eH eL
  refine lv_aload_n hx hb dX7_spare_0 rfl (lv_at hl 0 rfl) ?_
  obtain ⟨r2, σ1, hσ1, hf⟩ := bnd_some hf
  refine m_calli X hI hc [] (m7_asks l D cl Z hz ci A d tm hc σ r2 σ1 hσ1) (cw7_asks hts ⟨Nat.le_of_ble_eq_true rfl, Nat.le_of_ble_eq_true rfl⟩) rfl hl.1 (Nat.le_of_ble_eq_true rfl) rfl dX7_spare_1 ⟨Nat.le_of_ble_eq_true rfl, Nat.le_of_ble_eq_true rfl⟩ (fun H locs hI => ?_)
  refine lv_if_eq (tgt := 15) hx hb dX7_spare_4 (by decide) (fun c3 => ?_) (fun c3 => ?_)
  · have hf := o_pos hf c3
    refine lv_bipush (v := -2) hx hb dX7_spare_15 (by decide) ?_
    exact hret hf hI dX7_spare_17
  · have hf := o_neg hf c3
    refine lv_aload_n hx hb dX7_spare_7 rfl (lv_at hl 0 rfl) ?_
    refine lv_iload_n hx hb dX7_spare_8 rfl (lv_at hl 1 rfl) ?_
    obtain ⟨r5, σ4, hσ4, hf⟩ := bnd_some hf
    refine m_calli X hI hc [.int p0] (m7_isRule l D cl Z hz ci A d tm hc p0 σ1 r5 σ4 hσ4) (cw7_isRule hts ⟨Nat.le_of_ble_eq_true rfl, Nat.le_of_ble_eq_true rfl⟩) rfl hl.1 (Nat.le_of_ble_eq_true rfl) rfl dX7_spare_9 ⟨Nat.le_of_ble_eq_true rfl, Nat.le_of_ble_eq_true rfl⟩ (fun H locs hI => ?_)
    refine lv_if_ne (tgt := 18) hx hb dX7_spare_12 (by decide) (fun c6 => ?_) (fun c6 => ?_)
    · have hf := o_neg hf c6
      refine lv_aload_n hx hb dX7_spare_18 rfl (lv_at hl 0 rfl) ?_
      obtain ⟨r8, σ7, hσ7, hf⟩ := bnd_some hf
      refine m_calli X hI hc [] (m7_validMany l D cl Z hz ci A d tm hc σ4 r8 σ7 hσ7) (cw7_validMany hts ⟨Nat.le_of_ble_eq_true rfl, Nat.le_of_ble_eq_true rfl⟩) rfl hl.1 (Nat.le_of_ble_eq_true rfl) rfl dX7_spare_19 ⟨Nat.le_of_ble_eq_true rfl, Nat.le_of_ble_eq_true rfl⟩ (fun H locs hI => ?_)
      refine lv_istore_n (lv' := [(2, .int r8), (0, .ref (A 0)), (1, .int p0)]) hx hb dX7_spare_22 rfl hl (by decide) rfl (fun ls hl => ?_)
      refine lv_aload_n hx hb dX7_spare_23 rfl (lv_at hl 1 rfl) ?_
      refine lv_dup hx hb dX7_spare_24 rfl ?_
      refine m_get (v := .int (gI σ7 18)) X hI hc 18 (by decide) q2676 rfl dX7_spare_25 ?_
      refine lv_iconst (v := 1) hx hb dX7_spare_28 (by decide) ?_
      refine lv_iload_n hx hb dX7_spare_29 rfl (lv_at hl 2 rfl) ?_
      refine lv_ishl hx hb dX7_spare_30 ?_
      refine lv_ior hx hb dX7_spare_31 ?_
      refine m_puti X hI hc 18 (by decide) q2676 rfl rfl rfl dX7_spare_32 (fun H locs hI => ?_)
      obtain ⟨σ9, eσ9, hf⟩ := nxt_some hf
      rw [← eσ9] at hI
      clear eσ9
      refine lv_aload_n hx hb dX7_spare_35 rfl (lv_at hl 1 rfl) ?_
      obtain ⟨σ10, hσ10, hf⟩ := bn1_some hf
      refine m_callv X hI hc [] (m7_layStates l D cl Z hz ci A d tm hc σ9 σ10 hσ10) (cw7_layStates hts ⟨Nat.le_of_ble_eq_true rfl, Nat.le_of_ble_eq_true rfl⟩) rfl hl.1 (Nat.le_of_ble_eq_true rfl) rfl dX7_spare_36 ⟨Nat.le_of_ble_eq_true rfl, Nat.le_of_ble_eq_true rfl⟩ (fun H locs hI => ?_)
      refine lv_aload_n hx hb dX7_spare_39 rfl (lv_at hl 1 rfl) ?_
      obtain ⟨r12, σ11, hσ11, hf⟩ := bnd_some hf
      refine m_calli X hI hc [] (m7_validMany l D cl Z hz ci A d tm hc σ10 r12 σ11 hσ11) (cw7_validMany hts ⟨Nat.le_of_ble_eq_true rfl, Nat.le_of_ble_eq_true rfl⟩) rfl hl.1 (Nat.le_of_ble_eq_true rfl) rfl dX7_spare_40 ⟨Nat.le_of_ble_eq_true rfl, Nat.le_of_ble_eq_true rfl⟩ (fun H locs hI => ?_)
      refine lv_iload_n hx hb dX7_spare_43 rfl (lv_at hl 0 rfl) ?_
      refine lv_icmp_ne (tgt := 51) hx hb dX7_spare_44 (by decide) (fun c13 => ?_) (fun c13 => ?_)
      · have hf := o_neg hf c13
        refine lv_iconst (v := 0) hx hb dX7_spare_51 (by decide) ?_
        exact hret hf hI dX7_spare_52
      · have hf := o_pos hf c13
        refine lv_iconst (v := 1) hx hb dX7_spare_47 (by decide) ?_
        refine lv_goto (tgt := 52) hx hb dX7_spare_48 (by decide) ?_
        exact hret hf hI dX7_spare_52
    · have hf := o_pos hf c6
      refine lv_bipush (v := -2) hx hb dX7_spare_15 (by decide) ?_
      exact hret hf hI dX7_spare_17
/-! room -/
def f7_room_b52 (K22 : Int32 → Int32 → Int32 → MS → oI Int32) (x1 : Int32) (x3 : Int32) (z0 : Int32) (z1 : Int32) (σ : MS) : oI Int32 :=
  K22 x1 (z0 ||| z1) (x3 + 1) σ
def f7_room_b22 (K22 : Int32 → Int32 → Int32 → MS → oI Int32) (x1 : Int32) (x2 : Int32) (x3 : Int32) (σ : MS) : oI Int32 :=
  bnd (f7_stateMany σ) fun r8 σ7 =>
  if r8 ≤ x3 then (some (x2, σ7)) else (grd (inB x3 64) <|
  if (gA σ7 19 x3.toNatClampNeg) = 0 then (f7_room_b52 K22 x1 x3 x2 0 σ7) else (bnd (f7_valueOf x3 x1 σ7) fun r13 σ12 =>
  f7_room_b52 K22 x1 x3 x2 ((1 : Int32) <<< (r13 &&& 31)) σ12))
def f7_room_l22 : Nat → Int32 → Int32 → Int32 → MS → oI Int32
  | 0 => fun _ _ _ _ => none
  | n + 1 => fun x1 x2 x3 σ => f7_room_b22 (f7_room_l22 n) x1 x2 x3 σ
def f7_room (p0 : Int32) (σ : MS) : oI Int32 :=
  bnd (f7_asks σ) fun r2 σ1 =>
  if r2 = 0 then (some ((-2), σ1)) else (bnd (f7_isCell p0 σ1) fun r5 σ4 =>
  if r5 = 0 then (some ((-2), σ4)) else (f7_room_l22 FU p0 0 0 σ4))
abbrev r7_room : Room := { frames := 6, cells := 0, slots := 0, locals := 140 }
theorem m7_room (l : Launch) (D : va_G) (cl : vC2) (Z : (Nat → Prop) → State → Heap → Prop) (hz : ZK Z) (ci : Nat) (A : Nat → Nat) (d : Nat → ClassId) (tm : List (ClassId × FieldType)) (hc : cl.1[ci]? = some (RX7, TX7, 42)) (p0 : Int32) (σ : MS) (r : Int32) (σ' : MS) (hf : f7_room p0 σ = some (r, σ')) : MMi l yX7_room (ws_ yX7_room cX7_room 4 (some .int)) r7_room D cl Z ci A d tm σ [.int p0] r σ' := by
  refine m_openi hz (by decide) (by exact Nat.le_of_ble_eq_true rfl) (fun p e s m args below meth c ls A0 Q X hI hl hret => ?_)
  have X : XC p s m args meth c cX7_room 4 RX7 D cl (mty d tm) A0 Z := X
  have hx := X.1
  have hb := X.2.1
  have hown := X.2.2.2.1
  have hts := X.2.2.2.2.1
  have L22 : ∀ (n : Nat) (x1 : Int32) (x2 : Int32) (x3 : Int32) (σ : MS), f7_room_l22 n x1 x2 x3 σ = some (r, σ') → ∀ (H : Heap) (locs : List Loc), XI D cl (mw ci A d σ) A0 s.heap H locs → ∀ (ls : Array Slot), lv_has ls 4 [(0, .ref (A 0)), (1, .int x1), (2, .int x2), (3, .int x3)] → W p l e r7_room s m args below meth c H locs 0 0 Q (F0 m 22 ls []) := by
    intro n22
    induction n22 with
    | zero => intro x1 x2 x3 σ hf; cases hf
    | succ n22 ih22 =>
      have J52 : ∀ (x1 : Int32) (x3 : Int32) (z0 : Int32) (z1 : Int32) (σ : MS), f7_room_b52 (f7_room_l22 n22) x1 x3 z0 z1 σ = some (r, σ') → ∀ (H : Heap) (locs : List Loc), XI D cl (mw ci A d σ) A0 s.heap H locs → ∀ (ls : Array Slot), lv_has ls 4 [(0, .ref (A 0)), (1, .int x1), (3, .int x3)] → W p l e r7_room s m args below meth c H locs 0 0 Q (F0 m 52 ls [.int z1, .int z0]) := by
        intro x1 x3 z0 z1 σ hf H locs hI ls hl
        unfold f7_room_b52 at hf
        refine lv_ior hx hb dX7_room_52 ?_
        refine lv_istore_n (lv' := [(2, .int (z0 ||| z1)), (0, .ref (A 0)), (1, .int x1), (3, .int x3)]) hx hb dX7_room_53 rfl hl (by decide) rfl (fun ls hl => ?_)
        refine lv_iinc (v := x3 + 1) (lv' := [(3, .int (x3 + 1)), (2, .int (z0 ||| z1)), (0, .ref (A 0)), (1, .int x1)]) hx hb dX7_room_54 hl (k := 3) rfl rfl (by decide) rfl (fun ls hl => ?_)
        refine lv_goto (tgt := 22) hx hb dX7_room_57 (by decide) ?_
        exact ih22 x1 (z0 ||| z1) (x3 + 1) σ hf H locs hI ls (lv_sub hl [2, 3, 1, 0] rfl)
      intro x1 x2 x3 σ hf H locs hI ls hl
      have hf : f7_room_b22 (f7_room_l22 n22) x1 x2 x3 σ = some (r, σ') := hf
      unfold f7_room_b22 at hf
      refine lv_iload_n hx hb dX7_room_22 rfl (lv_at hl 3 rfl) ?_
      refine lv_aload_n hx hb dX7_room_23 rfl (lv_at hl 0 rfl) ?_
      obtain ⟨r8, σ7, hσ7, hf⟩ := bnd_some hf
      refine m_calli X hI hc [] (m7_stateMany l D cl Z hz ci A d tm hc σ r8 σ7 hσ7) (cw7_stateMany hts ⟨Nat.le_of_ble_eq_true rfl, Nat.le_of_ble_eq_true rfl⟩) rfl hl.1 (Nat.le_of_ble_eq_true rfl) rfl dX7_room_24 ⟨Nat.le_of_ble_eq_true rfl, Nat.le_of_ble_eq_true rfl⟩ (fun H locs hI => ?_)
      refine lv_icmp_ge (tgt := 60) hx hb dX7_room_27 (by decide) (fun c9 => ?_) (fun c9 => ?_)
      · have hf := o_pos hf c9
        refine lv_iload_n hx hb dX7_room_60 rfl (lv_at hl 2 rfl) ?_
        exact hret hf hI dX7_room_61
      · have hf := o_neg hf c9
        refine lv_iload_n hx hb dX7_room_30 rfl (lv_at hl 2 rfl) ?_
        refine lv_aload_n hx hb dX7_room_31 rfl (lv_at hl 0 rfl) ?_
        refine m_get (v := .ref (A 19)) X hI hc 19 (by decide) q2677 rfl dX7_room_32 ?_
        refine lv_iload_n hx hb dX7_room_35 rfl (lv_at hl 3 rfl) ?_
        obtain ⟨g10, hf⟩ := grd_some hf
        refine m_zald X hI 19 8 64 rfl rfl g10 dX7_room_36 ?_
        refine lv_if_eq (tgt := 51) hx hb dX7_room_37 (by decide) (fun c11 => ?_) (fun c11 => ?_)
        · have hf := o_pos hf c11
          refine lv_iconst (v := 0) hx hb dX7_room_51 (by decide) ?_
          exact J52 x1 x3 x2 0 σ7 hf H locs hI ls (lv_sub hl [0, 1, 3] rfl)
        · have hf := o_neg hf c11
          refine lv_iconst (v := 1) hx hb dX7_room_40 (by decide) ?_
          refine lv_aload_n hx hb dX7_room_41 rfl (lv_at hl 0 rfl) ?_
          refine lv_iload_n hx hb dX7_room_42 rfl (lv_at hl 3 rfl) ?_
          refine lv_iload_n hx hb dX7_room_43 rfl (lv_at hl 1 rfl) ?_
          obtain ⟨r13, σ12, hσ12, hf⟩ := bnd_some hf
          refine m_calli X hI hc [.int x3, .int x1] (m7_valueOf l D cl Z hz ci A d tm hc x3 x1 σ7 r13 σ12 hσ12) (cw7_valueOf hts ⟨Nat.le_of_ble_eq_true rfl, Nat.le_of_ble_eq_true rfl⟩) rfl hl.1 (Nat.le_of_ble_eq_true rfl) rfl dX7_room_44 ⟨Nat.le_of_ble_eq_true rfl, Nat.le_of_ble_eq_true rfl⟩ (fun H locs hI => ?_)
          refine lv_ishl hx hb dX7_room_47 ?_
          refine lv_goto (tgt := 52) hx hb dX7_room_48 (by decide) ?_
          exact J52 x1 x3 x2 ((1 : Int32) <<< (r13 &&& 31)) σ12 hf H locs hI ls (lv_sub hl [0, 1, 3] rfl)
  have hl : lv_has ls 4 [(0, .ref (A 0)), (1, .int p0)] := hl
  unfold f7_room at hf
  obtain ⟨H, eH⟩ : ∃ H, H = s.heap := ⟨_, rfl⟩
  obtain ⟨locs, eL⟩ : ∃ locs : List Loc, locs = [] := ⟨_, rfl⟩
  have hI : XI D cl (mw ci A d σ) A0 s.heap H locs := by rw [eH, eL]; exact hI
  rw [← eL]
  suffices h : W p l e r7_room s m args below meth c H locs 0 0 Q (F0 m 0 ls []) by rw [eH] at h; exact h
  clear eH eL
  refine lv_aload_n hx hb dX7_room_0 rfl (lv_at hl 0 rfl) ?_
  obtain ⟨r2, σ1, hσ1, hf⟩ := bnd_some hf
  refine m_calli X hI hc [] (m7_asks l D cl Z hz ci A d tm hc σ r2 σ1 hσ1) (cw7_asks hts ⟨Nat.le_of_ble_eq_true rfl, Nat.le_of_ble_eq_true rfl⟩) rfl hl.1 (Nat.le_of_ble_eq_true rfl) rfl dX7_room_1 ⟨Nat.le_of_ble_eq_true rfl, Nat.le_of_ble_eq_true rfl⟩ (fun H locs hI => ?_)
  refine lv_if_eq (tgt := 15) hx hb dX7_room_4 (by decide) (fun c3 => ?_) (fun c3 => ?_)
  · have hf := o_pos hf c3
    refine lv_bipush (v := -2) hx hb dX7_room_15 (by decide) ?_
    exact hret hf hI dX7_room_17
  · have hf := o_neg hf c3
    refine lv_aload_n hx hb dX7_room_7 rfl (lv_at hl 0 rfl) ?_
    refine lv_iload_n hx hb dX7_room_8 rfl (lv_at hl 1 rfl) ?_
    obtain ⟨r5, σ4, hσ4, hf⟩ := bnd_some hf
    refine m_calli X hI hc [.int p0] (m7_isCell l D cl Z hz ci A d tm hc p0 σ1 r5 σ4 hσ4) (cw7_isCell hts ⟨Nat.le_of_ble_eq_true rfl, Nat.le_of_ble_eq_true rfl⟩) rfl hl.1 (Nat.le_of_ble_eq_true rfl) rfl dX7_room_9 ⟨Nat.le_of_ble_eq_true rfl, Nat.le_of_ble_eq_true rfl⟩ (fun H locs hI => ?_)
    refine lv_if_ne (tgt := 18) hx hb dX7_room_12 (by decide) (fun c6 => ?_) (fun c6 => ?_)
    · have hf := o_neg hf c6
      refine lv_iconst (v := 0) hx hb dX7_room_18 (by decide) ?_
      refine lv_istore_n (lv' := [(2, .int 0), (0, .ref (A 0)), (1, .int p0)]) hx hb dX7_room_19 rfl hl (by decide) rfl (fun ls hl => ?_)
      refine lv_iconst (v := 0) hx hb dX7_room_20 (by decide) ?_
      refine lv_istore_n (lv' := [(3, .int 0), (2, .int 0), (0, .ref (A 0)), (1, .int p0)]) hx hb dX7_room_21 rfl hl (by decide) rfl (fun ls hl => ?_)
      exact L22 FU p0 0 0 σ4 hf H locs hI ls (lv_sub hl [2, 3, 1, 0] rfl)
    · have hf := o_pos hf c6
      refine lv_bipush (v := -2) hx hb dX7_room_15 (by decide) ?_
      exact hret hf hI dX7_room_17
/-! goesTo -/
def f7_goesTo (p0 : Int32) (p1 : Int32) (σ : MS) : oI Int32 :=
  grd (inB (((64 : Int32) * p0) + p1) 320) <|
  some (gA σ 20 (((64 : Int32) * p0) + p1).toNatClampNeg, σ)
abbrev r7_goesTo : Room := { frames := 0, cells := 0, slots := 0, locals := 0 }
theorem cw7_goesTo {R : Room} {s : State} {args : Array Value} (ht : ∀ w ∈ lw_all, w.before args s = true) (hR : r7_goesTo.frames + 1 ≤ R.frames ∧ 8 + (3 + 11) + r7_goesTo.locals ≤ R.locals) : CallW R s args RX7 RX7 325 yX7_goesTo cX7_goesTo 3 (some .int) (ws_ yX7_goesTo cX7_goesTo 3 (some .int)) r7_goesTo 0 0 2 :=
  cwV 2 ht (lw_V q3094 q3096 qs131 q178 q3097) rfl rfl rfl (by decide +kernel) hR
theorem m7_goesTo (l : Launch) (D : va_G) (cl : vC2) (Z : (Nat → Prop) → State → Heap → Prop) (hz : ZK Z) (ci : Nat) (A : Nat → Nat) (d : Nat → ClassId) (tm : List (ClassId × FieldType)) (hc : cl.1[ci]? = some (RX7, TX7, 42)) (p0 : Int32) (p1 : Int32) (σ : MS) (r : Int32) (σ' : MS) (hf : f7_goesTo p0 p1 σ = some (r, σ')) : MMi l yX7_goesTo (ws_ yX7_goesTo cX7_goesTo 3 (some .int)) r7_goesTo D cl Z ci A d tm σ [.int p0, .int p1] r σ' := by
  refine m_openi hz (by decide) (by exact Nat.le_of_ble_eq_true rfl) (fun p e s m args below meth c ls A0 Q X hI hl hret => ?_)
  have X : XC p s m args meth c cX7_goesTo 3 RX7 D cl (mty d tm) A0 Z := X
  have hx := X.1
  have hb := X.2.1
  have hown := X.2.2.2.1
  have hts := X.2.2.2.2.1
  have hl : lv_has ls 3 [(0, .ref (A 0)), (1, .int p0), (2, .int p1)] := hl
  unfold f7_goesTo at hf
  obtain ⟨H, eH⟩ : ∃ H, H = s.heap := ⟨_, rfl⟩
  obtain ⟨locs, eL⟩ : ∃ locs : List Loc, locs = [] := ⟨_, rfl⟩
  have hI : XI D cl (mw ci A d σ) A0 s.heap H locs := by rw [eH, eL]; exact hI
  rw [← eL]
  suffices h : W p l e r7_goesTo s m args below meth c H locs 0 0 Q (F0 m 0 ls []) by rw [eH] at h; exact h
  clear eH eL
  refine lv_aload_n hx hb dX7_goesTo_0 rfl (lv_at hl 0 rfl) ?_
  refine m_get (v := .ref (A 20)) X hI hc 20 (by decide) q2678 rfl dX7_goesTo_1 ?_
  refine lv_bipush (v := 64) hx hb dX7_goesTo_4 (by decide) ?_
  refine lv_iload_n hx hb dX7_goesTo_6 rfl (lv_at hl 1 rfl) ?_
  refine lv_imul hx hb dX7_goesTo_7 ?_
  refine lv_iload_n hx hb dX7_goesTo_8 rfl (lv_at hl 2 rfl) ?_
  refine lv_iadd hx hb dX7_goesTo_9 ?_
  obtain ⟨g1, hf⟩ := grd_some hf
  refine m_iald X hI 20 9 320 rfl rfl g1 dX7_goesTo_10 ?_
  exact hret hf hI dX7_goesTo_11
/-! does -/
def f7_does (p0 : Int32) (p1 : Int32) (σ : MS) : oI Int32 :=
  bnd (f7_asks σ) fun r2 σ1 =>
  if r2 = 0 then (some ((-2), σ1)) else (bnd (f7_isState p1.toInt64 σ1) fun r5 σ4 =>
  if r5 = 0 then (some ((-2), σ4)) else (bnd (f7_isOp p0 σ4) fun r8 σ7 =>
  if r8 = 0 then (some ((-2), σ7)) else (bnd (f7_goesTo p0 p1 σ7) fun r11 σ10 =>
  some (r11, σ10))))
abbrev r7_does : Room := { frames := 6, cells := 0, slots := 0, locals := 140 }
theorem m7_does (l : Launch) (D : va_G) (cl : vC2) (Z : (Nat → Prop) → State → Heap → Prop) (hz : ZK Z) (ci : Nat) (A : Nat → Nat) (d : Nat → ClassId) (tm : List (ClassId × FieldType)) (hc : cl.1[ci]? = some (RX7, TX7, 42)) (p0 : Int32) (p1 : Int32) (σ : MS) (r : Int32) (σ' : MS) (hf : f7_does p0 p1 σ = some (r, σ')) : MMi l yX7_does (ws_ yX7_does cX7_does 3 (some .int)) r7_does D cl Z ci A d tm σ [.int p0, .int p1] r σ' := by
  refine m_openi hz (by decide) (by exact Nat.le_of_ble_eq_true rfl) (fun p e s m args below meth c ls A0 Q X hI hl hret => ?_)
  have X : XC p s m args meth c cX7_does 3 RX7 D cl (mty d tm) A0 Z := X
  have hx := X.1
  have hb := X.2.1
  have hown := X.2.2.2.1
  have hts := X.2.2.2.2.1
  have hl : lv_has ls 3 [(0, .ref (A 0)), (1, .int p0), (2, .int p1)] := hl
  unfold f7_does at hf
  obtain ⟨H, eH⟩ : ∃ H, H = s.heap := ⟨_, rfl⟩
  obtain ⟨locs, eL⟩ : ∃ locs : List Loc, locs = [] := ⟨_, rfl⟩
  have hI : XI D cl (mw ci A d σ) A0 s.heap H locs := by rw [eH, eL]; exact hI
  rw [← eL]
  suffices h : W p l e r7_does s m args below meth c H locs 0 0 Q (F0 m 0 ls []) by rw [eH] at h; exact h
  clear eH eL
  refine lv_aload_n hx hb dX7_does_0 rfl (lv_at hl 0 rfl) ?_
  obtain ⟨r2, σ1, hσ1, hf⟩ := bnd_some hf
  refine m_calli X hI hc [] (m7_asks l D cl Z hz ci A d tm hc σ r2 σ1 hσ1) (cw7_asks hts ⟨Nat.le_of_ble_eq_true rfl, Nat.le_of_ble_eq_true rfl⟩) rfl hl.1 (Nat.le_of_ble_eq_true rfl) rfl dX7_does_1 ⟨Nat.le_of_ble_eq_true rfl, Nat.le_of_ble_eq_true rfl⟩ (fun H locs hI => ?_)
  refine lv_if_eq (tgt := 33) hx hb dX7_does_4 (by decide) (fun c3 => ?_) (fun c3 => ?_)
  · have hf := o_pos hf c3
    refine lv_bipush (v := -2) hx hb dX7_does_33 (by decide) ?_
    exact hret hf hI dX7_does_35
  · have hf := o_neg hf c3
    refine lv_aload_n hx hb dX7_does_7 rfl (lv_at hl 0 rfl) ?_
    refine lv_iload_n hx hb dX7_does_8 rfl (lv_at hl 2 rfl) ?_
    refine lv_i2l hx hb dX7_does_9 rfl ?_
    obtain ⟨r5, σ4, hσ4, hf⟩ := bnd_some hf
    refine m_calli X hI hc [.long p1.toInt64] (m7_isState l D cl Z hz ci A d tm hc p1.toInt64 σ1 r5 σ4 hσ4) (cw7_isState hts ⟨Nat.le_of_ble_eq_true rfl, Nat.le_of_ble_eq_true rfl⟩) rfl hl.1 (Nat.le_of_ble_eq_true rfl) rfl dX7_does_10 ⟨Nat.le_of_ble_eq_true rfl, Nat.le_of_ble_eq_true rfl⟩ (fun H locs hI => ?_)
    refine lv_if_eq (tgt := 33) hx hb dX7_does_13 (by decide) (fun c6 => ?_) (fun c6 => ?_)
    · have hf := o_pos hf c6
      refine lv_bipush (v := -2) hx hb dX7_does_33 (by decide) ?_
      exact hret hf hI dX7_does_35
    · have hf := o_neg hf c6
      refine lv_aload_n hx hb dX7_does_16 rfl (lv_at hl 0 rfl) ?_
      refine lv_iload_n hx hb dX7_does_17 rfl (lv_at hl 1 rfl) ?_
      obtain ⟨r8, σ7, hσ7, hf⟩ := bnd_some hf
      refine m_calli X hI hc [.int p0] (m7_isOp l D cl Z hz ci A d tm hc p0 σ4 r8 σ7 hσ7) (cw7_isOp hts ⟨Nat.le_of_ble_eq_true rfl, Nat.le_of_ble_eq_true rfl⟩) rfl hl.1 (Nat.le_of_ble_eq_true rfl) rfl dX7_does_18 ⟨Nat.le_of_ble_eq_true rfl, Nat.le_of_ble_eq_true rfl⟩ (fun H locs hI => ?_)
      refine lv_if_eq (tgt := 33) hx hb dX7_does_21 (by decide) (fun c9 => ?_) (fun c9 => ?_)
      · have hf := o_pos hf c9
        refine lv_bipush (v := -2) hx hb dX7_does_33 (by decide) ?_
        exact hret hf hI dX7_does_35
      · have hf := o_neg hf c9
        refine lv_aload_n hx hb dX7_does_24 rfl (lv_at hl 0 rfl) ?_
        refine lv_iload_n hx hb dX7_does_25 rfl (lv_at hl 1 rfl) ?_
        refine lv_iload_n hx hb dX7_does_26 rfl (lv_at hl 2 rfl) ?_
        obtain ⟨r11, σ10, hσ10, hf⟩ := bnd_some hf
        refine m_calli X hI hc [.int p0, .int p1] (m7_goesTo l D cl Z hz ci A d tm hc p0 p1 σ7 r11 σ10 hσ10) (cw7_goesTo hts ⟨Nat.le_of_ble_eq_true rfl, Nat.le_of_ble_eq_true rfl⟩) rfl hl.1 (Nat.le_of_ble_eq_true rfl) rfl dX7_does_27 ⟨Nat.le_of_ble_eq_true rfl, Nat.le_of_ble_eq_true rfl⟩ (fun H locs hI => ?_)
        refine lv_goto (tgt := 35) hx hb dX7_does_30 (by decide) ?_
        exact hret hf hI dX7_does_35
/-! worksOf -/
def f7_worksOf_b37 (K4 : Int32 → Int32 → Int32 → MS → oI Int32) (x1 : Int32) (x3 : Int32) (z0 : Int32) (z1 : Int32) (σ : MS) : oI Int32 :=
  K4 x1 (z0 + z1) (x3 + 1) σ
def f7_worksOf_b36 (K4 : Int32 → Int32 → Int32 → MS → oI Int32) (x1 : Int32) (x3 : Int32) (z0 : Int32) (σ : MS) : oI Int32 :=
  f7_worksOf_b37 K4 x1 x3 z0 0 σ
def f7_worksOf_b4 (K4 : Int32 → Int32 → Int32 → MS → oI Int32) (x1 : Int32) (x2 : Int32) (x3 : Int32) (σ : MS) : oI Int32 :=
  bnd (f7_stateMany σ) fun r2 σ1 =>
  if r2 ≤ x3 then (some (x2, σ1)) else (grd (inB x3 64) <|
  if (gA σ1 19 x3.toNatClampNeg) = 0 then (f7_worksOf_b36 K4 x1 x3 x2 σ1) else (bnd (f7_goesTo x1 x3 σ1) fun r7 σ6 =>
  if r7 = (-1) then (f7_worksOf_b36 K4 x1 x3 x2 σ6) else (f7_worksOf_b37 K4 x1 x3 x2 1 σ6)))
def f7_worksOf_l4 : Nat → Int32 → Int32 → Int32 → MS → oI Int32
  | 0 => fun _ _ _ _ => none
  | n + 1 => fun x1 x2 x3 σ => f7_worksOf_b4 (f7_worksOf_l4 n) x1 x2 x3 σ
def f7_worksOf (p0 : Int32) (σ : MS) : oI Int32 :=
  f7_worksOf_l4 FU p0 0 0 σ
abbrev r7_worksOf : Room := { frames := 2, cells := 0, slots := 0, locals := 42 }
theorem cw7_worksOf {R : Room} {s : State} {args : Array Value} (ht : ∀ w ∈ lw_all, w.before args s = true) (hR : r7_worksOf.frames + 1 ≤ R.frames ∧ 8 + (4 + 11) + r7_worksOf.locals ≤ R.locals) : CallW R s args RX7 RX7 328 yX7_worksOf cX7_worksOf 4 (some .int) (ws_ yX7_worksOf cX7_worksOf 4 (some .int)) r7_worksOf 0 0 1 :=
  cwV 1 ht (lw_V q3102 q3104 qs132 q178 q3105) rfl rfl rfl (by decide +kernel) hR
theorem m7_worksOf (l : Launch) (D : va_G) (cl : vC2) (Z : (Nat → Prop) → State → Heap → Prop) (hz : ZK Z) (ci : Nat) (A : Nat → Nat) (d : Nat → ClassId) (tm : List (ClassId × FieldType)) (hc : cl.1[ci]? = some (RX7, TX7, 42)) (p0 : Int32) (σ : MS) (r : Int32) (σ' : MS) (hf : f7_worksOf p0 σ = some (r, σ')) : MMi l yX7_worksOf (ws_ yX7_worksOf cX7_worksOf 4 (some .int)) r7_worksOf D cl Z ci A d tm σ [.int p0] r σ' := by
  refine m_openi hz (by decide) (by exact Nat.le_of_ble_eq_true rfl) (fun p e s m args below meth c ls A0 Q X hI hl hret => ?_)
  have X : XC p s m args meth c cX7_worksOf 4 RX7 D cl (mty d tm) A0 Z := X
  have hx := X.1
  have hb := X.2.1
  have hown := X.2.2.2.1
  have hts := X.2.2.2.2.1
  have L4 : ∀ (n : Nat) (x1 : Int32) (x2 : Int32) (x3 : Int32) (σ : MS), f7_worksOf_l4 n x1 x2 x3 σ = some (r, σ') → ∀ (H : Heap) (locs : List Loc), XI D cl (mw ci A d σ) A0 s.heap H locs → ∀ (ls : Array Slot), lv_has ls 4 [(0, .ref (A 0)), (1, .int x1), (2, .int x2), (3, .int x3)] → W p l e r7_worksOf s m args below meth c H locs 0 0 Q (F0 m 4 ls []) := by
    intro n4
    induction n4 with
    | zero => intro x1 x2 x3 σ hf; cases hf
    | succ n4 ih4 =>
      have J37 : ∀ (x1 : Int32) (x3 : Int32) (z0 : Int32) (z1 : Int32) (σ : MS), f7_worksOf_b37 (f7_worksOf_l4 n4) x1 x3 z0 z1 σ = some (r, σ') → ∀ (H : Heap) (locs : List Loc), XI D cl (mw ci A d σ) A0 s.heap H locs → ∀ (ls : Array Slot), lv_has ls 4 [(0, .ref (A 0)), (1, .int x1), (3, .int x3)] → W p l e r7_worksOf s m args below meth c H locs 0 0 Q (F0 m 37 ls [.int z1, .int z0]) := by
        intro x1 x3 z0 z1 σ hf H locs hI ls hl
        unfold f7_worksOf_b37 at hf
        refine lv_iadd hx hb dX7_worksOf_37 ?_
        refine lv_istore_n (lv' := [(2, .int (z0 + z1)), (0, .ref (A 0)), (1, .int x1), (3, .int x3)]) hx hb dX7_worksOf_38 rfl hl (by decide) rfl (fun ls hl => ?_)
        refine lv_iinc (v := x3 + 1) (lv' := [(3, .int (x3 + 1)), (2, .int (z0 + z1)), (0, .ref (A 0)), (1, .int x1)]) hx hb dX7_worksOf_39 hl (k := 3) rfl rfl (by decide) rfl (fun ls hl => ?_)
        refine lv_goto (tgt := 4) hx hb dX7_worksOf_42 (by decide) ?_
        exact ih4 x1 (z0 + z1) (x3 + 1) σ hf H locs hI ls (lv_sub hl [2, 3, 1, 0] rfl)
      have J36 : ∀ (x1 : Int32) (x3 : Int32) (z0 : Int32) (σ : MS), f7_worksOf_b36 (f7_worksOf_l4 n4) x1 x3 z0 σ = some (r, σ') → ∀ (H : Heap) (locs : List Loc), XI D cl (mw ci A d σ) A0 s.heap H locs → ∀ (ls : Array Slot), lv_has ls 4 [(0, .ref (A 0)), (1, .int x1), (3, .int x3)] → W p l e r7_worksOf s m args below meth c H locs 0 0 Q (F0 m 36 ls [.int z0]) := by
        intro x1 x3 z0 σ hf H locs hI ls hl
        unfold f7_worksOf_b36 at hf
        refine lv_iconst (v := 0) hx hb dX7_worksOf_36 (by decide) ?_
        exact J37 x1 x3 z0 0 σ hf H locs hI ls (lv_sub hl [0, 1, 2] rfl)
      intro x1 x2 x3 σ hf H locs hI ls hl
      have hf : f7_worksOf_b4 (f7_worksOf_l4 n4) x1 x2 x3 σ = some (r, σ') := hf
      unfold f7_worksOf_b4 at hf
      refine lv_iload_n hx hb dX7_worksOf_4 rfl (lv_at hl 3 rfl) ?_
      refine lv_aload_n hx hb dX7_worksOf_5 rfl (lv_at hl 0 rfl) ?_
      obtain ⟨r2, σ1, hσ1, hf⟩ := bnd_some hf
      refine m_calli X hI hc [] (m7_stateMany l D cl Z hz ci A d tm hc σ r2 σ1 hσ1) (cw7_stateMany hts ⟨Nat.le_of_ble_eq_true rfl, Nat.le_of_ble_eq_true rfl⟩) rfl hl.1 (Nat.le_of_ble_eq_true rfl) rfl dX7_worksOf_6 ⟨Nat.le_of_ble_eq_true rfl, Nat.le_of_ble_eq_true rfl⟩ (fun H locs hI => ?_)
      refine lv_icmp_ge (tgt := 45) hx hb dX7_worksOf_9 (by decide) (fun c3 => ?_) (fun c3 => ?_)
      · have hf := o_pos hf c3
        refine lv_iload_n hx hb dX7_worksOf_45 rfl (lv_at hl 2 rfl) ?_
        exact hret hf hI dX7_worksOf_46
      · have hf := o_neg hf c3
        refine lv_iload_n hx hb dX7_worksOf_12 rfl (lv_at hl 2 rfl) ?_
        refine lv_aload_n hx hb dX7_worksOf_13 rfl (lv_at hl 0 rfl) ?_
        refine m_get (v := .ref (A 19)) X hI hc 19 (by decide) q2677 rfl dX7_worksOf_14 ?_
        refine lv_iload_n hx hb dX7_worksOf_17 rfl (lv_at hl 3 rfl) ?_
        obtain ⟨g4, hf⟩ := grd_some hf
        refine m_zald X hI 19 8 64 rfl rfl g4 dX7_worksOf_18 ?_
        refine lv_if_eq (tgt := 36) hx hb dX7_worksOf_19 (by decide) (fun c5 => ?_) (fun c5 => ?_)
        · have hf := o_pos hf c5
          exact J36 x1 x3 x2 σ1 hf H locs hI ls (lv_sub hl [0, 1, 3] rfl)
        · have hf := o_neg hf c5
          refine lv_aload_n hx hb dX7_worksOf_22 rfl (lv_at hl 0 rfl) ?_
          refine lv_iload_n hx hb dX7_worksOf_23 rfl (lv_at hl 1 rfl) ?_
          refine lv_iload_n hx hb dX7_worksOf_24 rfl (lv_at hl 3 rfl) ?_
          obtain ⟨r7, σ6, hσ6, hf⟩ := bnd_some hf
          refine m_calli X hI hc [.int x1, .int x3] (m7_goesTo l D cl Z hz ci A d tm hc x1 x3 σ1 r7 σ6 hσ6) (cw7_goesTo hts ⟨Nat.le_of_ble_eq_true rfl, Nat.le_of_ble_eq_true rfl⟩) rfl hl.1 (Nat.le_of_ble_eq_true rfl) rfl dX7_worksOf_25 ⟨Nat.le_of_ble_eq_true rfl, Nat.le_of_ble_eq_true rfl⟩ (fun H locs hI => ?_)
          refine lv_iconst (v := -1) hx hb dX7_worksOf_28 (by decide) ?_
          refine lv_icmp_eq (tgt := 36) hx hb dX7_worksOf_29 (by decide) (fun c8 => ?_) (fun c8 => ?_)
          · have hf := o_pos hf c8
            exact J36 x1 x3 x2 σ6 hf H locs hI ls (lv_sub hl [0, 1, 3] rfl)
          · have hf := o_neg hf c8
            refine lv_iconst (v := 1) hx hb dX7_worksOf_32 (by decide) ?_
            refine lv_goto (tgt := 37) hx hb dX7_worksOf_33 (by decide) ?_
            exact J37 x1 x3 x2 1 σ6 hf H locs hI ls (lv_sub hl [0, 1, 3] rfl)
  have hl : lv_has ls 4 [(0, .ref (A 0)), (1, .int p0)] := hl
  unfold f7_worksOf at hf
  obtain ⟨H, eH⟩ : ∃ H, H = s.heap := ⟨_, rfl⟩
  obtain ⟨locs, eL⟩ : ∃ locs : List Loc, locs = [] := ⟨_, rfl⟩
  have hI : XI D cl (mw ci A d σ) A0 s.heap H locs := by rw [eH, eL]; exact hI
  rw [← eL]
  suffices h : W p l e r7_worksOf s m args below meth c H locs 0 0 Q (F0 m 0 ls []) by rw [eH] at h; exact h
  clear eH eL
  refine lv_iconst (v := 0) hx hb dX7_worksOf_0 (by decide) ?_
  refine lv_istore_n (lv' := [(2, .int 0), (0, .ref (A 0)), (1, .int p0)]) hx hb dX7_worksOf_1 rfl hl (by decide) rfl (fun ls hl => ?_)
  refine lv_iconst (v := 0) hx hb dX7_worksOf_2 (by decide) ?_
  refine lv_istore_n (lv' := [(3, .int 0), (2, .int 0), (0, .ref (A 0)), (1, .int p0)]) hx hb dX7_worksOf_3 rfl hl (by decide) rfl (fun ls hl => ?_)
  exact L4 FU p0 0 0 σ hf H locs hI ls (lv_sub hl [2, 3, 1, 0] rfl)
/-! works -/
def f7_works (p0 : Int32) (σ : MS) : oI Int32 :=
  bnd (f7_asks σ) fun r2 σ1 =>
  if r2 = 0 then (some ((-2), σ1)) else (bnd (f7_isOp p0 σ1) fun r5 σ4 =>
  if r5 = 0 then (some ((-2), σ4)) else (bnd (f7_worksOf p0 σ4) fun r8 σ7 =>
  some (r8, σ7)))
abbrev r7_works : Room := { frames := 6, cells := 0, slots := 0, locals := 140 }
theorem m7_works (l : Launch) (D : va_G) (cl : vC2) (Z : (Nat → Prop) → State → Heap → Prop) (hz : ZK Z) (ci : Nat) (A : Nat → Nat) (d : Nat → ClassId) (tm : List (ClassId × FieldType)) (hc : cl.1[ci]? = some (RX7, TX7, 42)) (p0 : Int32) (σ : MS) (r : Int32) (σ' : MS) (hf : f7_works p0 σ = some (r, σ')) : MMi l yX7_works (ws_ yX7_works cX7_works 2 (some .int)) r7_works D cl Z ci A d tm σ [.int p0] r σ' := by
  refine m_openi hz (by decide) (by exact Nat.le_of_ble_eq_true rfl) (fun p e s m args below meth c ls A0 Q X hI hl hret => ?_)
  have X : XC p s m args meth c cX7_works 2 RX7 D cl (mty d tm) A0 Z := X
  have hx := X.1
  have hb := X.2.1
  have hown := X.2.2.2.1
  have hts := X.2.2.2.2.1
  have hl : lv_has ls 2 [(0, .ref (A 0)), (1, .int p0)] := hl
  unfold f7_works at hf
  obtain ⟨H, eH⟩ : ∃ H, H = s.heap := ⟨_, rfl⟩
  obtain ⟨locs, eL⟩ : ∃ locs : List Loc, locs = [] := ⟨_, rfl⟩
  have hI : XI D cl (mw ci A d σ) A0 s.heap H locs := by rw [eH, eL]; exact hI
  rw [← eL]
  suffices h : W p l e r7_works s m args below meth c H locs 0 0 Q (F0 m 0 ls []) by rw [eH] at h; exact h
  clear eH eL
  refine lv_aload_n hx hb dX7_works_0 rfl (lv_at hl 0 rfl) ?_
  obtain ⟨r2, σ1, hσ1, hf⟩ := bnd_some hf
  refine m_calli X hI hc [] (m7_asks l D cl Z hz ci A d tm hc σ r2 σ1 hσ1) (cw7_asks hts ⟨Nat.le_of_ble_eq_true rfl, Nat.le_of_ble_eq_true rfl⟩) rfl hl.1 (Nat.le_of_ble_eq_true rfl) rfl dX7_works_1 ⟨Nat.le_of_ble_eq_true rfl, Nat.le_of_ble_eq_true rfl⟩ (fun H locs hI => ?_)
  refine lv_if_eq (tgt := 23) hx hb dX7_works_4 (by decide) (fun c3 => ?_) (fun c3 => ?_)
  · have hf := o_pos hf c3
    refine lv_bipush (v := -2) hx hb dX7_works_23 (by decide) ?_
    exact hret hf hI dX7_works_25
  · have hf := o_neg hf c3
    refine lv_aload_n hx hb dX7_works_7 rfl (lv_at hl 0 rfl) ?_
    refine lv_iload_n hx hb dX7_works_8 rfl (lv_at hl 1 rfl) ?_
    obtain ⟨r5, σ4, hσ4, hf⟩ := bnd_some hf
    refine m_calli X hI hc [.int p0] (m7_isOp l D cl Z hz ci A d tm hc p0 σ1 r5 σ4 hσ4) (cw7_isOp hts ⟨Nat.le_of_ble_eq_true rfl, Nat.le_of_ble_eq_true rfl⟩) rfl hl.1 (Nat.le_of_ble_eq_true rfl) rfl dX7_works_9 ⟨Nat.le_of_ble_eq_true rfl, Nat.le_of_ble_eq_true rfl⟩ (fun H locs hI => ?_)
    refine lv_if_eq (tgt := 23) hx hb dX7_works_12 (by decide) (fun c6 => ?_) (fun c6 => ?_)
    · have hf := o_pos hf c6
      refine lv_bipush (v := -2) hx hb dX7_works_23 (by decide) ?_
      exact hret hf hI dX7_works_25
    · have hf := o_neg hf c6
      refine lv_aload_n hx hb dX7_works_15 rfl (lv_at hl 0 rfl) ?_
      refine lv_iload_n hx hb dX7_works_16 rfl (lv_at hl 1 rfl) ?_
      obtain ⟨r8, σ7, hσ7, hf⟩ := bnd_some hf
      refine m_calli X hI hc [.int p0] (m7_worksOf l D cl Z hz ci A d tm hc p0 σ4 r8 σ7 hσ7) (cw7_worksOf hts ⟨Nat.le_of_ble_eq_true rfl, Nat.le_of_ble_eq_true rfl⟩) rfl hl.1 (Nat.le_of_ble_eq_true rfl) rfl dX7_works_17 ⟨Nat.le_of_ble_eq_true rfl, Nat.le_of_ble_eq_true rfl⟩ (fun H locs hI => ?_)
      refine lv_goto (tgt := 25) hx hb dX7_works_20 (by decide) ?_
      exact hret hf hI dX7_works_25
/-! opensOf -/
def f7_opensOf_b30 (K4 : Int32 → Int32 → Int32 → MS → oI Int32) (x1 : Int32) (x3 : Int32) (z0 : Int32) (z1 : Int32) (σ : MS) : oI Int32 :=
  K4 x1 (z0 ||| z1) (x3 + 1) σ
def f7_opensOf_b4 (K4 : Int32 → Int32 → Int32 → MS → oI Int32) (x1 : Int32) (x2 : Int32) (x3 : Int32) (σ : MS) : oI Int32 :=
  bnd (f7_ops σ) fun r2 σ1 =>
  if r2 ≤ x3 then (some (x2, σ1)) else (bnd (f7_goesTo x3 x1 σ1) fun r5 σ4 =>
  if r5 = (-1) then (f7_opensOf_b30 K4 x1 x3 x2 0 σ4) else (f7_opensOf_b30 K4 x1 x3 x2 ((1 : Int32) <<< (x3 &&& 31)) σ4))
def f7_opensOf_l4 : Nat → Int32 → Int32 → Int32 → MS → oI Int32
  | 0 => fun _ _ _ _ => none
  | n + 1 => fun x1 x2 x3 σ => f7_opensOf_b4 (f7_opensOf_l4 n) x1 x2 x3 σ
def f7_opensOf (p0 : Int32) (σ : MS) : oI Int32 :=
  f7_opensOf_l4 FU p0 0 0 σ
abbrev r7_opensOf : Room := { frames := 1, cells := 0, slots := 0, locals := 22 }
theorem cw7_opensOf {R : Room} {s : State} {args : Array Value} (ht : ∀ w ∈ lw_all, w.before args s = true) (hR : r7_opensOf.frames + 1 ≤ R.frames ∧ 8 + (4 + 11) + r7_opensOf.locals ≤ R.locals) : CallW R s args RX7 RX7 331 yX7_opensOf cX7_opensOf 4 (some .int) (ws_ yX7_opensOf cX7_opensOf 4 (some .int)) r7_opensOf 0 0 1 :=
  cwV 1 ht (lw_V q3110 q3112 qs133 q178 q3113) rfl rfl rfl (by decide +kernel) hR
theorem m7_opensOf (l : Launch) (D : va_G) (cl : vC2) (Z : (Nat → Prop) → State → Heap → Prop) (hz : ZK Z) (ci : Nat) (A : Nat → Nat) (d : Nat → ClassId) (tm : List (ClassId × FieldType)) (hc : cl.1[ci]? = some (RX7, TX7, 42)) (p0 : Int32) (σ : MS) (r : Int32) (σ' : MS) (hf : f7_opensOf p0 σ = some (r, σ')) : MMi l yX7_opensOf (ws_ yX7_opensOf cX7_opensOf 4 (some .int)) r7_opensOf D cl Z ci A d tm σ [.int p0] r σ' := by
  refine m_openi hz (by decide) (by exact Nat.le_of_ble_eq_true rfl) (fun p e s m args below meth c ls A0 Q X hI hl hret => ?_)
  have X : XC p s m args meth c cX7_opensOf 4 RX7 D cl (mty d tm) A0 Z := X
  have hx := X.1
  have hb := X.2.1
  have hown := X.2.2.2.1
  have hts := X.2.2.2.2.1
  have L4 : ∀ (n : Nat) (x1 : Int32) (x2 : Int32) (x3 : Int32) (σ : MS), f7_opensOf_l4 n x1 x2 x3 σ = some (r, σ') → ∀ (H : Heap) (locs : List Loc), XI D cl (mw ci A d σ) A0 s.heap H locs → ∀ (ls : Array Slot), lv_has ls 4 [(0, .ref (A 0)), (1, .int x1), (2, .int x2), (3, .int x3)] → W p l e r7_opensOf s m args below meth c H locs 0 0 Q (F0 m 4 ls []) := by
    intro n4
    induction n4 with
    | zero => intro x1 x2 x3 σ hf; cases hf
    | succ n4 ih4 =>
      have J30 : ∀ (x1 : Int32) (x3 : Int32) (z0 : Int32) (z1 : Int32) (σ : MS), f7_opensOf_b30 (f7_opensOf_l4 n4) x1 x3 z0 z1 σ = some (r, σ') → ∀ (H : Heap) (locs : List Loc), XI D cl (mw ci A d σ) A0 s.heap H locs → ∀ (ls : Array Slot), lv_has ls 4 [(0, .ref (A 0)), (1, .int x1), (3, .int x3)] → W p l e r7_opensOf s m args below meth c H locs 0 0 Q (F0 m 30 ls [.int z1, .int z0]) := by
        intro x1 x3 z0 z1 σ hf H locs hI ls hl
        unfold f7_opensOf_b30 at hf
        refine lv_ior hx hb dX7_opensOf_30 ?_
        refine lv_istore_n (lv' := [(2, .int (z0 ||| z1)), (0, .ref (A 0)), (1, .int x1), (3, .int x3)]) hx hb dX7_opensOf_31 rfl hl (by decide) rfl (fun ls hl => ?_)
        refine lv_iinc (v := x3 + 1) (lv' := [(3, .int (x3 + 1)), (2, .int (z0 ||| z1)), (0, .ref (A 0)), (1, .int x1)]) hx hb dX7_opensOf_32 hl (k := 3) rfl rfl (by decide) rfl (fun ls hl => ?_)
        refine lv_goto (tgt := 4) hx hb dX7_opensOf_35 (by decide) ?_
        exact ih4 x1 (z0 ||| z1) (x3 + 1) σ hf H locs hI ls (lv_sub hl [2, 3, 1, 0] rfl)
      intro x1 x2 x3 σ hf H locs hI ls hl
      have hf : f7_opensOf_b4 (f7_opensOf_l4 n4) x1 x2 x3 σ = some (r, σ') := hf
      unfold f7_opensOf_b4 at hf
      refine lv_iload_n hx hb dX7_opensOf_4 rfl (lv_at hl 3 rfl) ?_
      refine lv_aload_n hx hb dX7_opensOf_5 rfl (lv_at hl 0 rfl) ?_
      obtain ⟨r2, σ1, hσ1, hf⟩ := bnd_some hf
      refine m_calli X hI hc [] (m7_ops l D cl Z hz ci A d tm hc σ r2 σ1 hσ1) (cw7_ops hts ⟨Nat.le_of_ble_eq_true rfl, Nat.le_of_ble_eq_true rfl⟩) rfl hl.1 (Nat.le_of_ble_eq_true rfl) rfl dX7_opensOf_6 ⟨Nat.le_of_ble_eq_true rfl, Nat.le_of_ble_eq_true rfl⟩ (fun H locs hI => ?_)
      refine lv_icmp_ge (tgt := 38) hx hb dX7_opensOf_9 (by decide) (fun c3 => ?_) (fun c3 => ?_)
      · have hf := o_pos hf c3
        refine lv_iload_n hx hb dX7_opensOf_38 rfl (lv_at hl 2 rfl) ?_
        exact hret hf hI dX7_opensOf_39
      · have hf := o_neg hf c3
        refine lv_iload_n hx hb dX7_opensOf_12 rfl (lv_at hl 2 rfl) ?_
        refine lv_aload_n hx hb dX7_opensOf_13 rfl (lv_at hl 0 rfl) ?_
        refine lv_iload_n hx hb dX7_opensOf_14 rfl (lv_at hl 3 rfl) ?_
        refine lv_iload_n hx hb dX7_opensOf_15 rfl (lv_at hl 1 rfl) ?_
        obtain ⟨r5, σ4, hσ4, hf⟩ := bnd_some hf
        refine m_calli X hI hc [.int x3, .int x1] (m7_goesTo l D cl Z hz ci A d tm hc x3 x1 σ1 r5 σ4 hσ4) (cw7_goesTo hts ⟨Nat.le_of_ble_eq_true rfl, Nat.le_of_ble_eq_true rfl⟩) rfl hl.1 (Nat.le_of_ble_eq_true rfl) rfl dX7_opensOf_16 ⟨Nat.le_of_ble_eq_true rfl, Nat.le_of_ble_eq_true rfl⟩ (fun H locs hI => ?_)
        refine lv_iconst (v := -1) hx hb dX7_opensOf_19 (by decide) ?_
        refine lv_icmp_eq (tgt := 29) hx hb dX7_opensOf_20 (by decide) (fun c6 => ?_) (fun c6 => ?_)
        · have hf := o_pos hf c6
          refine lv_iconst (v := 0) hx hb dX7_opensOf_29 (by decide) ?_
          exact J30 x1 x3 x2 0 σ4 hf H locs hI ls (lv_sub hl [0, 1, 3] rfl)
        · have hf := o_neg hf c6
          refine lv_iconst (v := 1) hx hb dX7_opensOf_23 (by decide) ?_
          refine lv_iload_n hx hb dX7_opensOf_24 rfl (lv_at hl 3 rfl) ?_
          refine lv_ishl hx hb dX7_opensOf_25 ?_
          refine lv_goto (tgt := 30) hx hb dX7_opensOf_26 (by decide) ?_
          exact J30 x1 x3 x2 ((1 : Int32) <<< (x3 &&& 31)) σ4 hf H locs hI ls (lv_sub hl [0, 1, 3] rfl)
  have hl : lv_has ls 4 [(0, .ref (A 0)), (1, .int p0)] := hl
  unfold f7_opensOf at hf
  obtain ⟨H, eH⟩ : ∃ H, H = s.heap := ⟨_, rfl⟩
  obtain ⟨locs, eL⟩ : ∃ locs : List Loc, locs = [] := ⟨_, rfl⟩
  have hI : XI D cl (mw ci A d σ) A0 s.heap H locs := by rw [eH, eL]; exact hI
  rw [← eL]
  suffices h : W p l e r7_opensOf s m args below meth c H locs 0 0 Q (F0 m 0 ls []) by rw [eH] at h; exact h
  clear eH eL
  refine lv_iconst (v := 0) hx hb dX7_opensOf_0 (by decide) ?_
  refine lv_istore_n (lv' := [(2, .int 0), (0, .ref (A 0)), (1, .int p0)]) hx hb dX7_opensOf_1 rfl hl (by decide) rfl (fun ls hl => ?_)
  refine lv_iconst (v := 0) hx hb dX7_opensOf_2 (by decide) ?_
  refine lv_istore_n (lv' := [(3, .int 0), (2, .int 0), (0, .ref (A 0)), (1, .int p0)]) hx hb dX7_opensOf_3 rfl hl (by decide) rfl (fun ls hl => ?_)
  exact L4 FU p0 0 0 σ hf H locs hI ls (lv_sub hl [2, 3, 1, 0] rfl)
/-! opens -/
def f7_opens (p0 : Int32) (σ : MS) : oI Int32 :=
  bnd (f7_asks σ) fun r2 σ1 =>
  if r2 = 0 then (some ((-2), σ1)) else (bnd (f7_isState p0.toInt64 σ1) fun r5 σ4 =>
  if r5 = 0 then (some ((-2), σ4)) else (bnd (f7_opensOf p0 σ4) fun r8 σ7 =>
  some (r8, σ7)))
abbrev r7_opens : Room := { frames := 6, cells := 0, slots := 0, locals := 140 }
theorem m7_opens (l : Launch) (D : va_G) (cl : vC2) (Z : (Nat → Prop) → State → Heap → Prop) (hz : ZK Z) (ci : Nat) (A : Nat → Nat) (d : Nat → ClassId) (tm : List (ClassId × FieldType)) (hc : cl.1[ci]? = some (RX7, TX7, 42)) (p0 : Int32) (σ : MS) (r : Int32) (σ' : MS) (hf : f7_opens p0 σ = some (r, σ')) : MMi l yX7_opens (ws_ yX7_opens cX7_opens 2 (some .int)) r7_opens D cl Z ci A d tm σ [.int p0] r σ' := by
  refine m_openi hz (by decide) (by exact Nat.le_of_ble_eq_true rfl) (fun p e s m args below meth c ls A0 Q X hI hl hret => ?_)
  have X : XC p s m args meth c cX7_opens 2 RX7 D cl (mty d tm) A0 Z := X
  have hx := X.1
  have hb := X.2.1
  have hown := X.2.2.2.1
  have hts := X.2.2.2.2.1
  have hl : lv_has ls 2 [(0, .ref (A 0)), (1, .int p0)] := hl
  unfold f7_opens at hf
  obtain ⟨H, eH⟩ : ∃ H, H = s.heap := ⟨_, rfl⟩
  obtain ⟨locs, eL⟩ : ∃ locs : List Loc, locs = [] := ⟨_, rfl⟩
  have hI : XI D cl (mw ci A d σ) A0 s.heap H locs := by rw [eH, eL]; exact hI
  rw [← eL]
  suffices h : W p l e r7_opens s m args below meth c H locs 0 0 Q (F0 m 0 ls []) by rw [eH] at h; exact h
  clear eH eL
  refine lv_aload_n hx hb dX7_opens_0 rfl (lv_at hl 0 rfl) ?_
  obtain ⟨r2, σ1, hσ1, hf⟩ := bnd_some hf
  refine m_calli X hI hc [] (m7_asks l D cl Z hz ci A d tm hc σ r2 σ1 hσ1) (cw7_asks hts ⟨Nat.le_of_ble_eq_true rfl, Nat.le_of_ble_eq_true rfl⟩) rfl hl.1 (Nat.le_of_ble_eq_true rfl) rfl dX7_opens_1 ⟨Nat.le_of_ble_eq_true rfl, Nat.le_of_ble_eq_true rfl⟩ (fun H locs hI => ?_)
  refine lv_if_eq (tgt := 24) hx hb dX7_opens_4 (by decide) (fun c3 => ?_) (fun c3 => ?_)
  · have hf := o_pos hf c3
    refine lv_bipush (v := -2) hx hb dX7_opens_24 (by decide) ?_
    exact hret hf hI dX7_opens_26
  · have hf := o_neg hf c3
    refine lv_aload_n hx hb dX7_opens_7 rfl (lv_at hl 0 rfl) ?_
    refine lv_iload_n hx hb dX7_opens_8 rfl (lv_at hl 1 rfl) ?_
    refine lv_i2l hx hb dX7_opens_9 rfl ?_
    obtain ⟨r5, σ4, hσ4, hf⟩ := bnd_some hf
    refine m_calli X hI hc [.long p0.toInt64] (m7_isState l D cl Z hz ci A d tm hc p0.toInt64 σ1 r5 σ4 hσ4) (cw7_isState hts ⟨Nat.le_of_ble_eq_true rfl, Nat.le_of_ble_eq_true rfl⟩) rfl hl.1 (Nat.le_of_ble_eq_true rfl) rfl dX7_opens_10 ⟨Nat.le_of_ble_eq_true rfl, Nat.le_of_ble_eq_true rfl⟩ (fun H locs hI => ?_)
    refine lv_if_eq (tgt := 24) hx hb dX7_opens_13 (by decide) (fun c6 => ?_) (fun c6 => ?_)
    · have hf := o_pos hf c6
      refine lv_bipush (v := -2) hx hb dX7_opens_24 (by decide) ?_
      exact hret hf hI dX7_opens_26
    · have hf := o_neg hf c6
      refine lv_aload_n hx hb dX7_opens_16 rfl (lv_at hl 0 rfl) ?_
      refine lv_iload_n hx hb dX7_opens_17 rfl (lv_at hl 1 rfl) ?_
      obtain ⟨r8, σ7, hσ7, hf⟩ := bnd_some hf
      refine m_calli X hI hc [.int p0] (m7_opensOf l D cl Z hz ci A d tm hc p0 σ4 r8 σ7 hσ7) (cw7_opensOf hts ⟨Nat.le_of_ble_eq_true rfl, Nat.le_of_ble_eq_true rfl⟩) rfl hl.1 (Nat.le_of_ble_eq_true rfl) rfl dX7_opens_18 ⟨Nat.le_of_ble_eq_true rfl, Nat.le_of_ble_eq_true rfl⟩ (fun H locs hI => ?_)
      refine lv_goto (tgt := 26) hx hb dX7_opens_21 (by decide) ?_
      exact hret hf hI dX7_opens_26
/-! dead -/
def f7_dead_b45 (K14 : Int32 → Int32 → MS → oI Int32) (x2 : Int32) (z0 : Int32) (z1 : Int32) (σ : MS) : oI Int32 :=
  K14 (z0 + z1) (x2 + 1) σ
def f7_dead_b44 (K14 : Int32 → Int32 → MS → oI Int32) (x2 : Int32) (z0 : Int32) (σ : MS) : oI Int32 :=
  f7_dead_b45 K14 x2 z0 0 σ
def f7_dead_b14 (K14 : Int32 → Int32 → MS → oI Int32) (x1 : Int32) (x2 : Int32) (σ : MS) : oI Int32 :=
  bnd (f7_stateMany σ) fun r5 σ4 =>
  if r5 ≤ x2 then (some (x1, σ4)) else (grd (inB x2 64) <|
  if (gA σ4 19 x2.toNatClampNeg) = 0 then (f7_dead_b44 K14 x2 x1 σ4) else (bnd (f7_opensOf x2 σ4) fun r10 σ9 =>
  if r10 = 0 then (f7_dead_b45 K14 x2 x1 1 σ9) else (f7_dead_b44 K14 x2 x1 σ9)))
def f7_dead_l14 : Nat → Int32 → Int32 → MS → oI Int32
  | 0 => fun _ _ _ => none
  | n + 1 => fun x1 x2 σ => f7_dead_b14 (f7_dead_l14 n) x1 x2 σ
def f7_dead (σ : MS) : oI Int32 :=
  bnd (f7_asks σ) fun r2 σ1 =>
  if r2 = 0 then (some ((-2), σ1)) else (f7_dead_l14 FU 0 0 σ1)
abbrev r7_dead : Room := { frames := 6, cells := 0, slots := 0, locals := 140 }
theorem m7_dead (l : Launch) (D : va_G) (cl : vC2) (Z : (Nat → Prop) → State → Heap → Prop) (hz : ZK Z) (ci : Nat) (A : Nat → Nat) (d : Nat → ClassId) (tm : List (ClassId × FieldType)) (hc : cl.1[ci]? = some (RX7, TX7, 42)) (σ : MS) (r : Int32) (σ' : MS) (hf : f7_dead σ = some (r, σ')) : MMi l yX7_dead (ws_ yX7_dead cX7_dead 3 (some .int)) r7_dead D cl Z ci A d tm σ [] r σ' := by
  refine m_openi hz (by decide) (by exact Nat.le_of_ble_eq_true rfl) (fun p e s m args below meth c ls A0 Q X hI hl hret => ?_)
  have X : XC p s m args meth c cX7_dead 3 RX7 D cl (mty d tm) A0 Z := X
  have hx := X.1
  have hb := X.2.1
  have hown := X.2.2.2.1
  have hts := X.2.2.2.2.1
  have L14 : ∀ (n : Nat) (x1 : Int32) (x2 : Int32) (σ : MS), f7_dead_l14 n x1 x2 σ = some (r, σ') → ∀ (H : Heap) (locs : List Loc), XI D cl (mw ci A d σ) A0 s.heap H locs → ∀ (ls : Array Slot), lv_has ls 3 [(0, .ref (A 0)), (1, .int x1), (2, .int x2)] → W p l e r7_dead s m args below meth c H locs 0 0 Q (F0 m 14 ls []) := by
    intro n14
    induction n14 with
    | zero => intro x1 x2 σ hf; cases hf
    | succ n14 ih14 =>
      have J45 : ∀ (x2 : Int32) (z0 : Int32) (z1 : Int32) (σ : MS), f7_dead_b45 (f7_dead_l14 n14) x2 z0 z1 σ = some (r, σ') → ∀ (H : Heap) (locs : List Loc), XI D cl (mw ci A d σ) A0 s.heap H locs → ∀ (ls : Array Slot), lv_has ls 3 [(0, .ref (A 0)), (2, .int x2)] → W p l e r7_dead s m args below meth c H locs 0 0 Q (F0 m 45 ls [.int z1, .int z0]) := by
        intro x2 z0 z1 σ hf H locs hI ls hl
        unfold f7_dead_b45 at hf
        refine lv_iadd hx hb dX7_dead_45 ?_
        refine lv_istore_n (lv' := [(1, .int (z0 + z1)), (0, .ref (A 0)), (2, .int x2)]) hx hb dX7_dead_46 rfl hl (by decide) rfl (fun ls hl => ?_)
        refine lv_iinc (v := x2 + 1) (lv' := [(2, .int (x2 + 1)), (1, .int (z0 + z1)), (0, .ref (A 0))]) hx hb dX7_dead_47 hl (k := 2) rfl rfl (by decide) rfl (fun ls hl => ?_)
        refine lv_goto (tgt := 14) hx hb dX7_dead_50 (by decide) ?_
        exact ih14 (z0 + z1) (x2 + 1) σ hf H locs hI ls (lv_sub hl [2, 1, 0] rfl)
      have J44 : ∀ (x2 : Int32) (z0 : Int32) (σ : MS), f7_dead_b44 (f7_dead_l14 n14) x2 z0 σ = some (r, σ') → ∀ (H : Heap) (locs : List Loc), XI D cl (mw ci A d σ) A0 s.heap H locs → ∀ (ls : Array Slot), lv_has ls 3 [(0, .ref (A 0)), (2, .int x2)] → W p l e r7_dead s m args below meth c H locs 0 0 Q (F0 m 44 ls [.int z0]) := by
        intro x2 z0 σ hf H locs hI ls hl
        unfold f7_dead_b44 at hf
        refine lv_iconst (v := 0) hx hb dX7_dead_44 (by decide) ?_
        exact J45 x2 z0 0 σ hf H locs hI ls (lv_sub hl [0, 1] rfl)
      intro x1 x2 σ hf H locs hI ls hl
      have hf : f7_dead_b14 (f7_dead_l14 n14) x1 x2 σ = some (r, σ') := hf
      unfold f7_dead_b14 at hf
      refine lv_iload_n hx hb dX7_dead_14 rfl (lv_at hl 2 rfl) ?_
      refine lv_aload_n hx hb dX7_dead_15 rfl (lv_at hl 0 rfl) ?_
      obtain ⟨r5, σ4, hσ4, hf⟩ := bnd_some hf
      refine m_calli X hI hc [] (m7_stateMany l D cl Z hz ci A d tm hc σ r5 σ4 hσ4) (cw7_stateMany hts ⟨Nat.le_of_ble_eq_true rfl, Nat.le_of_ble_eq_true rfl⟩) rfl hl.1 (Nat.le_of_ble_eq_true rfl) rfl dX7_dead_16 ⟨Nat.le_of_ble_eq_true rfl, Nat.le_of_ble_eq_true rfl⟩ (fun H locs hI => ?_)
      refine lv_icmp_ge (tgt := 53) hx hb dX7_dead_19 (by decide) (fun c6 => ?_) (fun c6 => ?_)
      · have hf := o_pos hf c6
        refine lv_iload_n hx hb dX7_dead_53 rfl (lv_at hl 1 rfl) ?_
        exact hret hf hI dX7_dead_54
      · have hf := o_neg hf c6
        refine lv_iload_n hx hb dX7_dead_22 rfl (lv_at hl 1 rfl) ?_
        refine lv_aload_n hx hb dX7_dead_23 rfl (lv_at hl 0 rfl) ?_
        refine m_get (v := .ref (A 19)) X hI hc 19 (by decide) q2677 rfl dX7_dead_24 ?_
        refine lv_iload_n hx hb dX7_dead_27 rfl (lv_at hl 2 rfl) ?_
        obtain ⟨g7, hf⟩ := grd_some hf
        refine m_zald X hI 19 8 64 rfl rfl g7 dX7_dead_28 ?_
        refine lv_if_eq (tgt := 44) hx hb dX7_dead_29 (by decide) (fun c8 => ?_) (fun c8 => ?_)
        · have hf := o_pos hf c8
          exact J44 x2 x1 σ4 hf H locs hI ls (lv_sub hl [0, 2] rfl)
        · have hf := o_neg hf c8
          refine lv_aload_n hx hb dX7_dead_32 rfl (lv_at hl 0 rfl) ?_
          refine lv_iload_n hx hb dX7_dead_33 rfl (lv_at hl 2 rfl) ?_
          obtain ⟨r10, σ9, hσ9, hf⟩ := bnd_some hf
          refine m_calli X hI hc [.int x2] (m7_opensOf l D cl Z hz ci A d tm hc x2 σ4 r10 σ9 hσ9) (cw7_opensOf hts ⟨Nat.le_of_ble_eq_true rfl, Nat.le_of_ble_eq_true rfl⟩) rfl hl.1 (Nat.le_of_ble_eq_true rfl) rfl dX7_dead_34 ⟨Nat.le_of_ble_eq_true rfl, Nat.le_of_ble_eq_true rfl⟩ (fun H locs hI => ?_)
          refine lv_if_ne (tgt := 44) hx hb dX7_dead_37 (by decide) (fun c11 => ?_) (fun c11 => ?_)
          · have hf := o_neg hf c11
            exact J44 x2 x1 σ9 hf H locs hI ls (lv_sub hl [0, 2] rfl)
          · have hf := o_pos hf c11
            refine lv_iconst (v := 1) hx hb dX7_dead_40 (by decide) ?_
            refine lv_goto (tgt := 45) hx hb dX7_dead_41 (by decide) ?_
            exact J45 x2 x1 1 σ9 hf H locs hI ls (lv_sub hl [0, 2] rfl)
  have hl : lv_has ls 3 [(0, .ref (A 0))] := hl
  unfold f7_dead at hf
  obtain ⟨H, eH⟩ : ∃ H, H = s.heap := ⟨_, rfl⟩
  obtain ⟨locs, eL⟩ : ∃ locs : List Loc, locs = [] := ⟨_, rfl⟩
  have hI : XI D cl (mw ci A d σ) A0 s.heap H locs := by rw [eH, eL]; exact hI
  rw [← eL]
  suffices h : W p l e r7_dead s m args below meth c H locs 0 0 Q (F0 m 0 ls []) by rw [eH] at h; exact h
  clear eH eL
  refine lv_aload_n hx hb dX7_dead_0 rfl (lv_at hl 0 rfl) ?_
  obtain ⟨r2, σ1, hσ1, hf⟩ := bnd_some hf
  refine m_calli X hI hc [] (m7_asks l D cl Z hz ci A d tm hc σ r2 σ1 hσ1) (cw7_asks hts ⟨Nat.le_of_ble_eq_true rfl, Nat.le_of_ble_eq_true rfl⟩) rfl hl.1 (Nat.le_of_ble_eq_true rfl) rfl dX7_dead_1 ⟨Nat.le_of_ble_eq_true rfl, Nat.le_of_ble_eq_true rfl⟩ (fun H locs hI => ?_)
  refine lv_if_ne (tgt := 10) hx hb dX7_dead_4 (by decide) (fun c3 => ?_) (fun c3 => ?_)
  · have hf := o_neg hf c3
    refine lv_iconst (v := 0) hx hb dX7_dead_10 (by decide) ?_
    refine lv_istore_n (lv' := [(1, .int 0), (0, .ref (A 0))]) hx hb dX7_dead_11 rfl hl (by decide) rfl (fun ls hl => ?_)
    refine lv_iconst (v := 0) hx hb dX7_dead_12 (by decide) ?_
    refine lv_istore_n (lv' := [(2, .int 0), (1, .int 0), (0, .ref (A 0))]) hx hb dX7_dead_13 rfl hl (by decide) rfl (fun ls hl => ?_)
    exact L14 FU 0 0 σ1 hf H locs hI ls (lv_sub hl [2, 1, 0] rfl)
  · have hf := o_pos hf c3
    refine lv_bipush (v := -2) hx hb dX7_dead_7 (by decide) ?_
    exact hret hf hI dX7_dead_9
/-! areCommuting -/
def f7_areCommuting_b95 (K5 : Int32 → Int32 → Int32 → Int32 → MS → oI Int32) (x1 : Int32) (x2 : Int32) (x3 : Int32) (x4 : Int32) (σ : MS) : oI Int32 :=
  K5 x1 x2 x3 (x4 + 1) σ
def f7_areCommuting_b94 (K5 : Int32 → Int32 → Int32 → Int32 → MS → oI Int32) (x1 : Int32) (x2 : Int32) (x4 : Int32) (z0 : Int32) (σ : MS) : oI Int32 :=
  f7_areCommuting_b95 K5 x1 x2 z0 x4 σ
def f7_areCommuting_b93 (K5 : Int32 → Int32 → Int32 → Int32 → MS → oI Int32) (x1 : Int32) (x2 : Int32) (x4 : Int32) (σ : MS) : oI Int32 :=
  f7_areCommuting_b94 K5 x1 x2 x4 0 σ
def f7_areCommuting_b5 (K5 : Int32 → Int32 → Int32 → Int32 → MS → oI Int32) (x1 : Int32) (x2 : Int32) (x3 : Int32) (x4 : Int32) (σ : MS) : oI Int32 :=
  bnd (f7_stateMany σ) fun r2 σ1 =>
  if r2 ≤ x4 then (grd (bZ x3) <|
  some (x3, σ1)) else (bnd (f7_goesTo x1 x4 σ1) fun r6 σ5 =>
  bnd (f7_goesTo x2 x4 σ5) fun r8 σ7 =>
  grd (inB x4 64) <|
  if (gA σ7 19 x4.toNatClampNeg) = 0 then (f7_areCommuting_b95 K5 x1 x2 x3 x4 σ7) else (if r6 = (-1) then (f7_areCommuting_b95 K5 x1 x2 x3 x4 σ7) else (if r8 = (-1) then (f7_areCommuting_b95 K5 x1 x2 x3 x4 σ7) else (if x3 = 0 then (f7_areCommuting_b93 K5 x1 x2 x4 σ7) else (bnd (f7_goesTo x2 r6 σ7) fun r15 σ14 =>
  if r15 = (-1) then (f7_areCommuting_b93 K5 x1 x2 x4 σ14) else (bnd (f7_goesTo x2 r6 σ14) fun r18 σ17 =>
  bnd (f7_goesTo x1 r8 σ17) fun r20 σ19 =>
  if r18 = r20 then (f7_areCommuting_b94 K5 x1 x2 x4 1 σ19) else (f7_areCommuting_b93 K5 x1 x2 x4 σ19)))))))
def f7_areCommuting_l5 : Nat → Int32 → Int32 → Int32 → Int32 → MS → oI Int32
  | 0 => fun _ _ _ _ _ => none
  | n + 1 => fun x1 x2 x3 x4 σ => f7_areCommuting_b5 (f7_areCommuting_l5 n) x1 x2 x3 x4 σ
def f7_areCommuting (p0 : Int32) (p1 : Int32) (σ : MS) : oI Int32 :=
  f7_areCommuting_l5 FU p0 p1 1 0 σ
abbrev r7_areCommuting : Room := { frames := 2, cells := 0, slots := 0, locals := 42 }
theorem cw7_areCommuting {R : Room} {s : State} {args : Array Value} (ht : ∀ w ∈ lw_all, w.before args s = true) (hR : r7_areCommuting.frames + 1 ≤ R.frames ∧ 8 + (7 + 11) + r7_areCommuting.locals ≤ R.locals) : CallW R s args RX7 RX7 334 yX7_areCommuting cX7_areCommuting 7 (some .boolean) (ws_ yX7_areCommuting cX7_areCommuting 7 (some .boolean)) r7_areCommuting 0 0 2 :=
  cwV 2 ht (lw_V q3122 q3124 qs134 q178 q3125) rfl rfl rfl (by decide +kernel) hR
theorem m7_areCommuting (l : Launch) (D : va_G) (cl : vC2) (Z : (Nat → Prop) → State → Heap → Prop) (hz : ZK Z) (ci : Nat) (A : Nat → Nat) (d : Nat → ClassId) (tm : List (ClassId × FieldType)) (hc : cl.1[ci]? = some (RX7, TX7, 42)) (p0 : Int32) (p1 : Int32) (σ : MS) (r : Int32) (σ' : MS) (hf : f7_areCommuting p0 p1 σ = some (r, σ')) : MMi l yX7_areCommuting (ws_ yX7_areCommuting cX7_areCommuting 7 (some .boolean)) r7_areCommuting D cl Z ci A d tm σ [.int p0, .int p1] r σ' := by
  refine m_openz hz (by decide) (by exact Nat.le_of_ble_eq_true rfl) (fun p e s m args below meth c ls A0 Q X hI hl hret => ?_)
  have X : XC p s m args meth c cX7_areCommuting 7 RX7 D cl (mty d tm) A0 Z := X
  have hx := X.1
  have hb := X.2.1
  have hown := X.2.2.2.1
  have hts := X.2.2.2.2.1
  have L5 : ∀ (n : Nat) (x1 : Int32) (x2 : Int32) (x3 : Int32) (x4 : Int32) (σ : MS), f7_areCommuting_l5 n x1 x2 x3 x4 σ = some (r, σ') → ∀ (H : Heap) (locs : List Loc), XI D cl (mw ci A d σ) A0 s.heap H locs → ∀ (ls : Array Slot), lv_has ls 7 [(0, .ref (A 0)), (1, .int x1), (2, .int x2), (3, .int x3), (4, .int x4)] → W p l e r7_areCommuting s m args below meth c H locs 0 0 Q (F0 m 5 ls []) := by
    intro n5
    induction n5 with
    | zero => intro x1 x2 x3 x4 σ hf; cases hf
    | succ n5 ih5 =>
      have J95 : ∀ (x1 : Int32) (x2 : Int32) (x3 : Int32) (x4 : Int32) (σ : MS), f7_areCommuting_b95 (f7_areCommuting_l5 n5) x1 x2 x3 x4 σ = some (r, σ') → ∀ (H : Heap) (locs : List Loc), XI D cl (mw ci A d σ) A0 s.heap H locs → ∀ (ls : Array Slot), lv_has ls 7 [(0, .ref (A 0)), (1, .int x1), (2, .int x2), (3, .int x3), (4, .int x4)] → W p l e r7_areCommuting s m args below meth c H locs 0 0 Q (F0 m 95 ls []) := by
        intro x1 x2 x3 x4 σ hf H locs hI ls hl
        unfold f7_areCommuting_b95 at hf
        refine lv_iinc (v := x4 + 1) (lv' := [(4, .int (x4 + 1)), (0, .ref (A 0)), (1, .int x1), (2, .int x2), (3, .int x3)]) hx hb dX7_areCommuting_95 hl (k := 4) rfl rfl (by decide) rfl (fun ls hl => ?_)
        refine lv_goto (tgt := 5) hx hb dX7_areCommuting_98 (by decide) ?_
        exact ih5 x1 x2 x3 (x4 + 1) σ hf H locs hI ls (lv_sub hl [1, 2, 3, 4, 0] rfl)
      have J94 : ∀ (x1 : Int32) (x2 : Int32) (x4 : Int32) (z0 : Int32) (σ : MS), f7_areCommuting_b94 (f7_areCommuting_l5 n5) x1 x2 x4 z0 σ = some (r, σ') → ∀ (H : Heap) (locs : List Loc), XI D cl (mw ci A d σ) A0 s.heap H locs → ∀ (ls : Array Slot), lv_has ls 7 [(0, .ref (A 0)), (1, .int x1), (2, .int x2), (4, .int x4)] → W p l e r7_areCommuting s m args below meth c H locs 0 0 Q (F0 m 94 ls [.int z0]) := by
        intro x1 x2 x4 z0 σ hf H locs hI ls hl
        unfold f7_areCommuting_b94 at hf
        refine lv_istore_n (lv' := [(3, .int z0), (0, .ref (A 0)), (1, .int x1), (2, .int x2), (4, .int x4)]) hx hb dX7_areCommuting_94 rfl hl (by decide) rfl (fun ls hl => ?_)
        exact J95 x1 x2 z0 x4 σ hf H locs hI ls (lv_sub hl [1, 2, 3, 0, 4] rfl)
      have J93 : ∀ (x1 : Int32) (x2 : Int32) (x4 : Int32) (σ : MS), f7_areCommuting_b93 (f7_areCommuting_l5 n5) x1 x2 x4 σ = some (r, σ') → ∀ (H : Heap) (locs : List Loc), XI D cl (mw ci A d σ) A0 s.heap H locs → ∀ (ls : Array Slot), lv_has ls 7 [(0, .ref (A 0)), (1, .int x1), (2, .int x2), (4, .int x4)] → W p l e r7_areCommuting s m args below meth c H locs 0 0 Q (F0 m 93 ls []) := by
        intro x1 x2 x4 σ hf H locs hI ls hl
        unfold f7_areCommuting_b93 at hf
        refine lv_iconst (v := 0) hx hb dX7_areCommuting_93 (by decide) ?_
        exact J94 x1 x2 x4 0 σ hf H locs hI ls (lv_sub hl [0, 1, 2, 3] rfl)
      intro x1 x2 x3 x4 σ hf H locs hI ls hl
      have hf : f7_areCommuting_b5 (f7_areCommuting_l5 n5) x1 x2 x3 x4 σ = some (r, σ') := hf
      unfold f7_areCommuting_b5 at hf
      refine lv_iload hx hb dX7_areCommuting_5 (lv_at hl 4 rfl) ?_
      refine lv_aload_n hx hb dX7_areCommuting_7 rfl (lv_at hl 0 rfl) ?_
      obtain ⟨r2, σ1, hσ1, hf⟩ := bnd_some hf
      refine m_calli X hI hc [] (m7_stateMany l D cl Z hz ci A d tm hc σ r2 σ1 hσ1) (cw7_stateMany hts ⟨Nat.le_of_ble_eq_true rfl, Nat.le_of_ble_eq_true rfl⟩) rfl hl.1 (Nat.le_of_ble_eq_true rfl) rfl dX7_areCommuting_8 ⟨Nat.le_of_ble_eq_true rfl, Nat.le_of_ble_eq_true rfl⟩ (fun H locs hI => ?_)
      refine lv_icmp_ge (tgt := 101) hx hb dX7_areCommuting_11 (by decide) (fun c3 => ?_) (fun c3 => ?_)
      · have hf := o_pos hf c3
        refine lv_iload_n hx hb dX7_areCommuting_101 rfl (lv_at hl 3 rfl) ?_
        obtain ⟨g4, hf⟩ := grd_some hf
        exact hret hf g4 hI dX7_areCommuting_102
      · have hf := o_neg hf c3
        refine lv_aload_n hx hb dX7_areCommuting_14 rfl (lv_at hl 0 rfl) ?_
        refine lv_iload_n hx hb dX7_areCommuting_15 rfl (lv_at hl 1 rfl) ?_
        refine lv_iload hx hb dX7_areCommuting_16 (lv_at hl 4 rfl) ?_
        obtain ⟨r6, σ5, hσ5, hf⟩ := bnd_some hf
        refine m_calli X hI hc [.int x1, .int x4] (m7_goesTo l D cl Z hz ci A d tm hc x1 x4 σ1 r6 σ5 hσ5) (cw7_goesTo hts ⟨Nat.le_of_ble_eq_true rfl, Nat.le_of_ble_eq_true rfl⟩) rfl hl.1 (Nat.le_of_ble_eq_true rfl) rfl dX7_areCommuting_18 ⟨Nat.le_of_ble_eq_true rfl, Nat.le_of_ble_eq_true rfl⟩ (fun H locs hI => ?_)
        refine lv_istore (lv' := [(5, .int r6), (0, .ref (A 0)), (1, .int x1), (2, .int x2), (3, .int x3), (4, .int x4)]) hx hb dX7_areCommuting_21 hl (by decide) rfl (fun ls hl => ?_)
        refine lv_aload_n hx hb dX7_areCommuting_23 rfl (lv_at hl 1 rfl) ?_
        refine lv_iload_n hx hb dX7_areCommuting_24 rfl (lv_at hl 3 rfl) ?_
        refine lv_iload hx hb dX7_areCommuting_25 (lv_at hl 5 rfl) ?_
        obtain ⟨r8, σ7, hσ7, hf⟩ := bnd_some hf
        refine m_calli X hI hc [.int x2, .int x4] (m7_goesTo l D cl Z hz ci A d tm hc x2 x4 σ5 r8 σ7 hσ7) (cw7_goesTo hts ⟨Nat.le_of_ble_eq_true rfl, Nat.le_of_ble_eq_true rfl⟩) rfl hl.1 (Nat.le_of_ble_eq_true rfl) rfl dX7_areCommuting_27 ⟨Nat.le_of_ble_eq_true rfl, Nat.le_of_ble_eq_true rfl⟩ (fun H locs hI => ?_)
        refine lv_istore (lv' := [(6, .int r8), (5, .int r6), (0, .ref (A 0)), (1, .int x1), (2, .int x2), (3, .int x3), (4, .int x4)]) hx hb dX7_areCommuting_30 hl (by decide) rfl (fun ls hl => ?_)
        refine lv_aload_n hx hb dX7_areCommuting_32 rfl (lv_at hl 2 rfl) ?_
        refine m_get (v := .ref (A 19)) X hI hc 19 (by decide) q2677 rfl dX7_areCommuting_33 ?_
        refine lv_iload hx hb dX7_areCommuting_36 (lv_at hl 6 rfl) ?_
        obtain ⟨g9, hf⟩ := grd_some hf
        refine m_zald X hI 19 8 64 rfl rfl g9 dX7_areCommuting_38 ?_
        refine lv_if_eq (tgt := 95) hx hb dX7_areCommuting_39 (by decide) (fun c10 => ?_) (fun c10 => ?_)
        · have hf := o_pos hf c10
          exact J95 x1 x2 x3 x4 σ7 hf H locs hI ls (lv_sub hl [2, 3, 4, 5, 6] rfl)
        · have hf := o_neg hf c10
          refine lv_iload hx hb dX7_areCommuting_42 (lv_at hl 1 rfl) ?_
          refine lv_iconst (v := -1) hx hb dX7_areCommuting_44 (by decide) ?_
          refine lv_icmp_eq (tgt := 95) hx hb dX7_areCommuting_45 (by decide) (fun c11 => ?_) (fun c11 => ?_)
          · have hf := o_pos hf c11
            exact J95 x1 x2 x3 x4 σ7 hf H locs hI ls (lv_sub hl [2, 3, 4, 5, 6] rfl)
          · have hf := o_neg hf c11
            refine lv_iload hx hb dX7_areCommuting_48 (lv_at hl 0 rfl) ?_
            refine lv_iconst (v := -1) hx hb dX7_areCommuting_50 (by decide) ?_
            refine lv_icmp_ne (tgt := 57) hx hb dX7_areCommuting_51 (by decide) (fun c12 => ?_) (fun c12 => ?_)
            · have hf := o_neg hf c12
              refine lv_iload_n hx hb dX7_areCommuting_57 rfl (lv_at hl 5 rfl) ?_
              refine lv_if_eq (tgt := 93) hx hb dX7_areCommuting_58 (by decide) (fun c13 => ?_) (fun c13 => ?_)
              · have hf := o_pos hf c13
                exact J93 x1 x2 x4 σ7 hf H locs hI ls (lv_sub hl [2, 3, 4, 6] rfl)
              · have hf := o_neg hf c13
                refine lv_aload_n hx hb dX7_areCommuting_61 rfl (lv_at hl 2 rfl) ?_
                refine lv_iload_n hx hb dX7_areCommuting_62 rfl (lv_at hl 4 rfl) ?_
                refine lv_iload hx hb dX7_areCommuting_63 (lv_at hl 1 rfl) ?_
                obtain ⟨r15, σ14, hσ14, hf⟩ := bnd_some hf
                refine m_calli X hI hc [.int x2, .int r6] (m7_goesTo l D cl Z hz ci A d tm hc x2 r6 σ7 r15 σ14 hσ14) (cw7_goesTo hts ⟨Nat.le_of_ble_eq_true rfl, Nat.le_of_ble_eq_true rfl⟩) rfl hl.1 (Nat.le_of_ble_eq_true rfl) rfl dX7_areCommuting_65 ⟨Nat.le_of_ble_eq_true rfl, Nat.le_of_ble_eq_true rfl⟩ (fun H locs hI => ?_)
                refine lv_iconst (v := -1) hx hb dX7_areCommuting_68 (by decide) ?_
                refine lv_icmp_eq (tgt := 93) hx hb dX7_areCommuting_69 (by decide) (fun c16 => ?_) (fun c16 => ?_)
                · have hf := o_pos hf c16
                  exact J93 x1 x2 x4 σ14 hf H locs hI ls (lv_sub hl [2, 3, 4, 6] rfl)
                · have hf := o_neg hf c16
                  refine lv_aload_n hx hb dX7_areCommuting_72 rfl (lv_at hl 2 rfl) ?_
                  refine lv_iload_n hx hb dX7_areCommuting_73 rfl (lv_at hl 4 rfl) ?_
                  refine lv_iload hx hb dX7_areCommuting_74 (lv_at hl 1 rfl) ?_
                  obtain ⟨r18, σ17, hσ17, hf⟩ := bnd_some hf
                  refine m_calli X hI hc [.int x2, .int r6] (m7_goesTo l D cl Z hz ci A d tm hc x2 r6 σ14 r18 σ17 hσ17) (cw7_goesTo hts ⟨Nat.le_of_ble_eq_true rfl, Nat.le_of_ble_eq_true rfl⟩) rfl hl.1 (Nat.le_of_ble_eq_true rfl) rfl dX7_areCommuting_76 ⟨Nat.le_of_ble_eq_true rfl, Nat.le_of_ble_eq_true rfl⟩ (fun H locs hI => ?_)
                  refine lv_aload_n hx hb dX7_areCommuting_79 rfl (lv_at hl 2 rfl) ?_
                  refine lv_iload_n hx hb dX7_areCommuting_80 rfl (lv_at hl 3 rfl) ?_
                  refine lv_iload hx hb dX7_areCommuting_81 (lv_at hl 0 rfl) ?_
                  obtain ⟨r20, σ19, hσ19, hf⟩ := bnd_some hf
                  refine m_calli X hI hc [.int x1, .int r8] (m7_goesTo l D cl Z hz ci A d tm hc x1 r8 σ17 r20 σ19 hσ19) (cw7_goesTo hts ⟨Nat.le_of_ble_eq_true rfl, Nat.le_of_ble_eq_true rfl⟩) rfl hl.1 (Nat.le_of_ble_eq_true rfl) rfl dX7_areCommuting_83 ⟨Nat.le_of_ble_eq_true rfl, Nat.le_of_ble_eq_true rfl⟩ (fun H locs hI => ?_)
                  refine lv_icmp_ne (tgt := 93) hx hb dX7_areCommuting_86 (by decide) (fun c21 => ?_) (fun c21 => ?_)
                  · have hf := o_neg hf c21
                    exact J93 x1 x2 x4 σ19 hf H locs hI ls (lv_sub hl [2, 3, 4, 6] rfl)
                  · have hf := o_pos hf c21
                    refine lv_iconst (v := 1) hx hb dX7_areCommuting_89 (by decide) ?_
                    refine lv_goto (tgt := 94) hx hb dX7_areCommuting_90 (by decide) ?_
                    exact J94 x1 x2 x4 1 σ19 hf H locs hI ls (lv_sub hl [2, 3, 4, 6] rfl)
            · have hf := o_pos hf c12
              refine lv_goto (tgt := 95) hx hb dX7_areCommuting_54 (by decide) ?_
              exact J95 x1 x2 x3 x4 σ7 hf H locs hI ls (lv_sub hl [2, 3, 4, 5, 6] rfl)
  have hl : lv_has ls 7 [(0, .ref (A 0)), (1, .int p0), (2, .int p1)] := hl
  unfold f7_areCommuting at hf
  obtain ⟨H, eH⟩ : ∃ H, H = s.heap := ⟨_, rfl⟩
  obtain ⟨locs, eL⟩ : ∃ locs : List Loc, locs = [] := ⟨_, rfl⟩
  have hI : XI D cl (mw ci A d σ) A0 s.heap H locs := by rw [eH, eL]; exact hI
  rw [← eL]
  suffices h : W p l e r7_areCommuting s m args below meth c H locs 0 0 Q (F0 m 0 ls []) by rw [eH] at h; exact h
  clear eH eL
  refine lv_iconst (v := 1) hx hb dX7_areCommuting_0 (by decide) ?_
  refine lv_istore_n (lv' := [(3, .int 1), (0, .ref (A 0)), (1, .int p0), (2, .int p1)]) hx hb dX7_areCommuting_1 rfl hl (by decide) rfl (fun ls hl => ?_)
  refine lv_iconst (v := 0) hx hb dX7_areCommuting_2 (by decide) ?_
  refine lv_istore (lv' := [(4, .int 0), (3, .int 1), (0, .ref (A 0)), (1, .int p0), (2, .int p1)]) hx hb dX7_areCommuting_3 hl (by decide) rfl (fun ls hl => ?_)
  exact L5 FU p0 p1 1 0 σ hf H locs hI ls (lv_sub hl [2, 3, 4, 1, 0] rfl)
/-! commute -/
def f7_commute (p0 : Int32) (p1 : Int32) (σ : MS) : oI Int32 :=
  bnd (f7_asks σ) fun r2 σ1 =>
  if r2 = 0 then (some ((-2), σ1)) else (bnd (f7_isOp p0 σ1) fun r5 σ4 =>
  if r5 = 0 then (some ((-2), σ4)) else (bnd (f7_isOp p1 σ4) fun r8 σ7 =>
  if r8 = 0 then (some ((-2), σ7)) else (bnd (f7_areCommuting p0 p1 σ7) fun r11 σ10 =>
  if r11 = 0 then (some (0, σ10)) else (some (1, σ10)))))
abbrev r7_commute : Room := { frames := 6, cells := 0, slots := 0, locals := 140 }
theorem m7_commute (l : Launch) (D : va_G) (cl : vC2) (Z : (Nat → Prop) → State → Heap → Prop) (hz : ZK Z) (ci : Nat) (A : Nat → Nat) (d : Nat → ClassId) (tm : List (ClassId × FieldType)) (hc : cl.1[ci]? = some (RX7, TX7, 42)) (p0 : Int32) (p1 : Int32) (σ : MS) (r : Int32) (σ' : MS) (hf : f7_commute p0 p1 σ = some (r, σ')) : MMi l yX7_commute (ws_ yX7_commute cX7_commute 3 (some .int)) r7_commute D cl Z ci A d tm σ [.int p0, .int p1] r σ' := by
  refine m_openi hz (by decide) (by exact Nat.le_of_ble_eq_true rfl) (fun p e s m args below meth c ls A0 Q X hI hl hret => ?_)
  have X : XC p s m args meth c cX7_commute 3 RX7 D cl (mty d tm) A0 Z := X
  have hx := X.1
  have hb := X.2.1
  have hown := X.2.2.2.1
  have hts := X.2.2.2.2.1
  have hl : lv_has ls 3 [(0, .ref (A 0)), (1, .int p0), (2, .int p1)] := hl
  unfold f7_commute at hf
  obtain ⟨H, eH⟩ : ∃ H, H = s.heap := ⟨_, rfl⟩
  obtain ⟨locs, eL⟩ : ∃ locs : List Loc, locs = [] := ⟨_, rfl⟩
  have hI : XI D cl (mw ci A d σ) A0 s.heap H locs := by rw [eH, eL]; exact hI
  rw [← eL]
  suffices h : W p l e r7_commute s m args below meth c H locs 0 0 Q (F0 m 0 ls []) by rw [eH] at h; exact h
  clear eH eL
  refine lv_aload_n hx hb dX7_commute_0 rfl (lv_at hl 0 rfl) ?_
  obtain ⟨r2, σ1, hσ1, hf⟩ := bnd_some hf
  refine m_calli X hI hc [] (m7_asks l D cl Z hz ci A d tm hc σ r2 σ1 hσ1) (cw7_asks hts ⟨Nat.le_of_ble_eq_true rfl, Nat.le_of_ble_eq_true rfl⟩) rfl hl.1 (Nat.le_of_ble_eq_true rfl) rfl dX7_commute_1 ⟨Nat.le_of_ble_eq_true rfl, Nat.le_of_ble_eq_true rfl⟩ (fun H locs hI => ?_)
  refine lv_if_eq (tgt := 23) hx hb dX7_commute_4 (by decide) (fun c3 => ?_) (fun c3 => ?_)
  · have hf := o_pos hf c3
    refine lv_bipush (v := -2) hx hb dX7_commute_23 (by decide) ?_
    exact hret hf hI dX7_commute_25
  · have hf := o_neg hf c3
    refine lv_aload_n hx hb dX7_commute_7 rfl (lv_at hl 0 rfl) ?_
    refine lv_iload_n hx hb dX7_commute_8 rfl (lv_at hl 1 rfl) ?_
    obtain ⟨r5, σ4, hσ4, hf⟩ := bnd_some hf
    refine m_calli X hI hc [.int p0] (m7_isOp l D cl Z hz ci A d tm hc p0 σ1 r5 σ4 hσ4) (cw7_isOp hts ⟨Nat.le_of_ble_eq_true rfl, Nat.le_of_ble_eq_true rfl⟩) rfl hl.1 (Nat.le_of_ble_eq_true rfl) rfl dX7_commute_9 ⟨Nat.le_of_ble_eq_true rfl, Nat.le_of_ble_eq_true rfl⟩ (fun H locs hI => ?_)
    refine lv_if_eq (tgt := 23) hx hb dX7_commute_12 (by decide) (fun c6 => ?_) (fun c6 => ?_)
    · have hf := o_pos hf c6
      refine lv_bipush (v := -2) hx hb dX7_commute_23 (by decide) ?_
      exact hret hf hI dX7_commute_25
    · have hf := o_neg hf c6
      refine lv_aload_n hx hb dX7_commute_15 rfl (lv_at hl 0 rfl) ?_
      refine lv_iload_n hx hb dX7_commute_16 rfl (lv_at hl 2 rfl) ?_
      obtain ⟨r8, σ7, hσ7, hf⟩ := bnd_some hf
      refine m_calli X hI hc [.int p1] (m7_isOp l D cl Z hz ci A d tm hc p1 σ4 r8 σ7 hσ7) (cw7_isOp hts ⟨Nat.le_of_ble_eq_true rfl, Nat.le_of_ble_eq_true rfl⟩) rfl hl.1 (Nat.le_of_ble_eq_true rfl) rfl dX7_commute_17 ⟨Nat.le_of_ble_eq_true rfl, Nat.le_of_ble_eq_true rfl⟩ (fun H locs hI => ?_)
      refine lv_if_ne (tgt := 26) hx hb dX7_commute_20 (by decide) (fun c9 => ?_) (fun c9 => ?_)
      · have hf := o_neg hf c9
        refine lv_aload_n hx hb dX7_commute_26 rfl (lv_at hl 0 rfl) ?_
        refine lv_iload_n hx hb dX7_commute_27 rfl (lv_at hl 1 rfl) ?_
        refine lv_iload_n hx hb dX7_commute_28 rfl (lv_at hl 2 rfl) ?_
        obtain ⟨r11, σ10, hσ10, hf⟩ := bnd_some hf
        refine m_calli X hI hc [.int p0, .int p1] (m7_areCommuting l D cl Z hz ci A d tm hc p0 p1 σ7 r11 σ10 hσ10) (cw7_areCommuting hts ⟨Nat.le_of_ble_eq_true rfl, Nat.le_of_ble_eq_true rfl⟩) rfl hl.1 (Nat.le_of_ble_eq_true rfl) rfl dX7_commute_29 ⟨Nat.le_of_ble_eq_true rfl, Nat.le_of_ble_eq_true rfl⟩ (fun H locs hI => ?_)
        refine lv_if_eq (tgt := 39) hx hb dX7_commute_32 (by decide) (fun c12 => ?_) (fun c12 => ?_)
        · have hf := o_pos hf c12
          refine lv_iconst (v := 0) hx hb dX7_commute_39 (by decide) ?_
          exact hret hf hI dX7_commute_40
        · have hf := o_neg hf c12
          refine lv_iconst (v := 1) hx hb dX7_commute_35 (by decide) ?_
          refine lv_goto (tgt := 40) hx hb dX7_commute_36 (by decide) ?_
          exact hret hf hI dX7_commute_40
      · have hf := o_pos hf c9
        refine lv_bipush (v := -2) hx hb dX7_commute_23 (by decide) ?_
        exact hret hf hI dX7_commute_25
/-! table -/
def f7_table_b49 (K14 : Int32 → Int32 → MS → oI Int32) (K26 : Int32 → Int32 → Int32 → MS → oI Int32) (x2 : Int32) (x3 : Int32) (z0 : Int32) (z1 : Int32) (σ : MS) : oI Int32 :=
  K26 (z0 + z1) x2 (x3 + 1) σ
def f7_table_b26 (K14 : Int32 → Int32 → MS → oI Int32) (K26 : Int32 → Int32 → Int32 → MS → oI Int32) (x1 : Int32) (x2 : Int32) (x3 : Int32) (σ : MS) : oI Int32 :=
  bnd (f7_ops σ) fun r8 σ7 =>
  if r8 ≤ x3 then (K14 x1 (x2 + 1) σ7) else (bnd (f7_areCommuting x2 x3 σ7) fun r11 σ10 =>
  if r11 = 0 then (f7_table_b49 K14 K26 x2 x3 x1 0 σ10) else (f7_table_b49 K14 K26 x2 x3 x1 1 σ10))
def f7_table_l26 (K14 : Int32 → Int32 → MS → oI Int32) : Nat → Int32 → Int32 → Int32 → MS → oI Int32
  | 0 => fun _ _ _ _ => none
  | n + 1 => fun x1 x2 x3 σ => f7_table_b26 K14 (f7_table_l26 K14 n) x1 x2 x3 σ
def f7_table_b14 (K14 : Int32 → Int32 → MS → oI Int32) (x1 : Int32) (x2 : Int32) (σ : MS) : oI Int32 :=
  bnd (f7_ops σ) fun r5 σ4 =>
  if r5 ≤ x2 then (some (x1, σ4)) else (f7_table_l26 K14 FU x1 x2 (x2 + 1) σ4)
def f7_table_l14 : Nat → Int32 → Int32 → MS → oI Int32
  | 0 => fun _ _ _ => none
  | n + 1 => fun x1 x2 σ => f7_table_b14 (f7_table_l14 n) x1 x2 σ
def f7_table (σ : MS) : oI Int32 :=
  bnd (f7_asks σ) fun r2 σ1 =>
  if r2 = 0 then (some ((-2), σ1)) else (f7_table_l14 FU 0 0 σ1)
abbrev r7_table : Room := { frames := 6, cells := 0, slots := 0, locals := 140 }
theorem m7_table (l : Launch) (D : va_G) (cl : vC2) (Z : (Nat → Prop) → State → Heap → Prop) (hz : ZK Z) (ci : Nat) (A : Nat → Nat) (d : Nat → ClassId) (tm : List (ClassId × FieldType)) (hc : cl.1[ci]? = some (RX7, TX7, 42)) (σ : MS) (r : Int32) (σ' : MS) (hf : f7_table σ = some (r, σ')) : MMi l yX7_table (ws_ yX7_table cX7_table 4 (some .int)) r7_table D cl Z ci A d tm σ [] r σ' := by
  refine m_openi hz (by decide) (by exact Nat.le_of_ble_eq_true rfl) (fun p e s m args below meth c ls A0 Q X hI hl hret => ?_)
  have X : XC p s m args meth c cX7_table 4 RX7 D cl (mty d tm) A0 Z := X
  have hx := X.1
  have hb := X.2.1
  have hown := X.2.2.2.1
  have hts := X.2.2.2.2.1
  have L14 : ∀ (n : Nat) (x1 : Int32) (x2 : Int32) (σ : MS), f7_table_l14 n x1 x2 σ = some (r, σ') → ∀ (H : Heap) (locs : List Loc), XI D cl (mw ci A d σ) A0 s.heap H locs → ∀ (ls : Array Slot), lv_has ls 4 [(0, .ref (A 0)), (1, .int x1), (2, .int x2)] → W p l e r7_table s m args below meth c H locs 0 0 Q (F0 m 14 ls []) := by
    intro n14
    induction n14 with
    | zero => intro x1 x2 σ hf; cases hf
    | succ n14 ih14 =>
      have L26 : ∀ (n : Nat) (x1 : Int32) (x2 : Int32) (x3 : Int32) (σ : MS), f7_table_l26 (f7_table_l14 n14) n x1 x2 x3 σ = some (r, σ') → ∀ (H : Heap) (locs : List Loc), XI D cl (mw ci A d σ) A0 s.heap H locs → ∀ (ls : Array Slot), lv_has ls 4 [(0, .ref (A 0)), (1, .int x1), (2, .int x2), (3, .int x3)] → W p l e r7_table s m args below meth c H locs 0 0 Q (F0 m 26 ls []) := by
        intro n26
        induction n26 with
        | zero => intro x1 x2 x3 σ hf; cases hf
        | succ n26 ih26 =>
          have J49 : ∀ (x2 : Int32) (x3 : Int32) (z0 : Int32) (z1 : Int32) (σ : MS), f7_table_b49 (f7_table_l14 n14) (f7_table_l26 (f7_table_l14 n14) n26) x2 x3 z0 z1 σ = some (r, σ') → ∀ (H : Heap) (locs : List Loc), XI D cl (mw ci A d σ) A0 s.heap H locs → ∀ (ls : Array Slot), lv_has ls 4 [(0, .ref (A 0)), (2, .int x2), (3, .int x3)] → W p l e r7_table s m args below meth c H locs 0 0 Q (F0 m 49 ls [.int z1, .int z0]) := by
            intro x2 x3 z0 z1 σ hf H locs hI ls hl
            unfold f7_table_b49 at hf
            refine lv_iadd hx hb dX7_table_49 ?_
            refine lv_istore_n (lv' := [(1, .int (z0 + z1)), (0, .ref (A 0)), (2, .int x2), (3, .int x3)]) hx hb dX7_table_50 rfl hl (by decide) rfl (fun ls hl => ?_)
            refine lv_iinc (v := x3 + 1) (lv' := [(3, .int (x3 + 1)), (1, .int (z0 + z1)), (0, .ref (A 0)), (2, .int x2)]) hx hb dX7_table_51 hl (k := 3) rfl rfl (by decide) rfl (fun ls hl => ?_)
            refine lv_goto (tgt := 26) hx hb dX7_table_54 (by decide) ?_
            exact ih26 (z0 + z1) x2 (x3 + 1) σ hf H locs hI ls (lv_sub hl [2, 1, 3, 0] rfl)
          intro x1 x2 x3 σ hf H locs hI ls hl
          have hf : f7_table_b26 (f7_table_l14 n14) (f7_table_l26 (f7_table_l14 n14) n26) x1 x2 x3 σ = some (r, σ') := hf
          unfold f7_table_b26 at hf
          refine lv_iload_n hx hb dX7_table_26 rfl (lv_at hl 3 rfl) ?_
          refine lv_aload_n hx hb dX7_table_27 rfl (lv_at hl 0 rfl) ?_
          obtain ⟨r8, σ7, hσ7, hf⟩ := bnd_some hf
          refine m_calli X hI hc [] (m7_ops l D cl Z hz ci A d tm hc σ r8 σ7 hσ7) (cw7_ops hts ⟨Nat.le_of_ble_eq_true rfl, Nat.le_of_ble_eq_true rfl⟩) rfl hl.1 (Nat.le_of_ble_eq_true rfl) rfl dX7_table_28 ⟨Nat.le_of_ble_eq_true rfl, Nat.le_of_ble_eq_true rfl⟩ (fun H locs hI => ?_)
          refine lv_icmp_ge (tgt := 57) hx hb dX7_table_31 (by decide) (fun c9 => ?_) (fun c9 => ?_)
          · have hf := o_pos hf c9
            refine lv_iinc (v := x2 + 1) (lv' := [(2, .int (x2 + 1)), (0, .ref (A 0)), (1, .int x1), (3, .int x3)]) hx hb dX7_table_57 hl (k := 2) rfl rfl (by decide) rfl (fun ls hl => ?_)
            refine lv_goto (tgt := 14) hx hb dX7_table_60 (by decide) ?_
            exact ih14 x1 (x2 + 1) σ7 hf H locs hI ls (lv_sub hl [1, 2, 0] rfl)
          · have hf := o_neg hf c9
            refine lv_iload_n hx hb dX7_table_34 rfl (lv_at hl 1 rfl) ?_
            refine lv_aload_n hx hb dX7_table_35 rfl (lv_at hl 0 rfl) ?_
            refine lv_iload_n hx hb dX7_table_36 rfl (lv_at hl 2 rfl) ?_
            refine lv_iload_n hx hb dX7_table_37 rfl (lv_at hl 3 rfl) ?_
            obtain ⟨r11, σ10, hσ10, hf⟩ := bnd_some hf
            refine m_calli X hI hc [.int x2, .int x3] (m7_areCommuting l D cl Z hz ci A d tm hc x2 x3 σ7 r11 σ10 hσ10) (cw7_areCommuting hts ⟨Nat.le_of_ble_eq_true rfl, Nat.le_of_ble_eq_true rfl⟩) rfl hl.1 (Nat.le_of_ble_eq_true rfl) rfl dX7_table_38 ⟨Nat.le_of_ble_eq_true rfl, Nat.le_of_ble_eq_true rfl⟩ (fun H locs hI => ?_)
            refine lv_if_eq (tgt := 48) hx hb dX7_table_41 (by decide) (fun c12 => ?_) (fun c12 => ?_)
            · have hf := o_pos hf c12
              refine lv_iconst (v := 0) hx hb dX7_table_48 (by decide) ?_
              exact J49 x2 x3 x1 0 σ10 hf H locs hI ls (lv_sub hl [0, 2, 3] rfl)
            · have hf := o_neg hf c12
              refine lv_iconst (v := 1) hx hb dX7_table_44 (by decide) ?_
              refine lv_goto (tgt := 49) hx hb dX7_table_45 (by decide) ?_
              exact J49 x2 x3 x1 1 σ10 hf H locs hI ls (lv_sub hl [0, 2, 3] rfl)
      intro x1 x2 σ hf H locs hI ls hl
      have hf : f7_table_b14 (f7_table_l14 n14) x1 x2 σ = some (r, σ') := hf
      unfold f7_table_b14 at hf
      refine lv_iload_n hx hb dX7_table_14 rfl (lv_at hl 2 rfl) ?_
      refine lv_aload_n hx hb dX7_table_15 rfl (lv_at hl 0 rfl) ?_
      obtain ⟨r5, σ4, hσ4, hf⟩ := bnd_some hf
      refine m_calli X hI hc [] (m7_ops l D cl Z hz ci A d tm hc σ r5 σ4 hσ4) (cw7_ops hts ⟨Nat.le_of_ble_eq_true rfl, Nat.le_of_ble_eq_true rfl⟩) rfl hl.1 (Nat.le_of_ble_eq_true rfl) rfl dX7_table_16 ⟨Nat.le_of_ble_eq_true rfl, Nat.le_of_ble_eq_true rfl⟩ (fun H locs hI => ?_)
      refine lv_icmp_ge (tgt := 63) hx hb dX7_table_19 (by decide) (fun c6 => ?_) (fun c6 => ?_)
      · have hf := o_pos hf c6
        refine lv_iload_n hx hb dX7_table_63 rfl (lv_at hl 1 rfl) ?_
        exact hret hf hI dX7_table_64
      · have hf := o_neg hf c6
        refine lv_iload_n hx hb dX7_table_22 rfl (lv_at hl 2 rfl) ?_
        refine lv_iconst (v := 1) hx hb dX7_table_23 (by decide) ?_
        refine lv_iadd hx hb dX7_table_24 ?_
        refine lv_istore_n (lv' := [(3, .int (x2 + 1)), (0, .ref (A 0)), (1, .int x1), (2, .int x2)]) hx hb dX7_table_25 rfl hl (by decide) rfl (fun ls hl => ?_)
        exact L26 FU x1 x2 (x2 + 1) σ4 hf H locs hI ls (lv_sub hl [1, 2, 3, 0] rfl)
  have hl : lv_has ls 4 [(0, .ref (A 0))] := hl
  unfold f7_table at hf
  obtain ⟨H, eH⟩ : ∃ H, H = s.heap := ⟨_, rfl⟩
  obtain ⟨locs, eL⟩ : ∃ locs : List Loc, locs = [] := ⟨_, rfl⟩
  have hI : XI D cl (mw ci A d σ) A0 s.heap H locs := by rw [eH, eL]; exact hI
  rw [← eL]
  suffices h : W p l e r7_table s m args below meth c H locs 0 0 Q (F0 m 0 ls []) by rw [eH] at h; exact h
  clear eH eL
  refine lv_aload_n hx hb dX7_table_0 rfl (lv_at hl 0 rfl) ?_
  obtain ⟨r2, σ1, hσ1, hf⟩ := bnd_some hf
  refine m_calli X hI hc [] (m7_asks l D cl Z hz ci A d tm hc σ r2 σ1 hσ1) (cw7_asks hts ⟨Nat.le_of_ble_eq_true rfl, Nat.le_of_ble_eq_true rfl⟩) rfl hl.1 (Nat.le_of_ble_eq_true rfl) rfl dX7_table_1 ⟨Nat.le_of_ble_eq_true rfl, Nat.le_of_ble_eq_true rfl⟩ (fun H locs hI => ?_)
  refine lv_if_ne (tgt := 10) hx hb dX7_table_4 (by decide) (fun c3 => ?_) (fun c3 => ?_)
  · have hf := o_neg hf c3
    refine lv_iconst (v := 0) hx hb dX7_table_10 (by decide) ?_
    refine lv_istore_n (lv' := [(1, .int 0), (0, .ref (A 0))]) hx hb dX7_table_11 rfl hl (by decide) rfl (fun ls hl => ?_)
    refine lv_iconst (v := 0) hx hb dX7_table_12 (by decide) ?_
    refine lv_istore_n (lv' := [(2, .int 0), (1, .int 0), (0, .ref (A 0))]) hx hb dX7_table_13 rfl hl (by decide) rfl (fun ls hl => ?_)
    exact L14 FU 0 0 σ1 hf H locs hI ls (lv_sub hl [2, 1, 0] rfl)
  · have hf := o_pos hf c3
    refine lv_bipush (v := -2) hx hb dX7_table_7 (by decide) ?_
    exact hret hf hI dX7_table_9
/-! lateOf -/
def f7_lateOf (p0 : Int32) (p1 : Int32) (p2 : Int32) (σ : MS) : oI Int32 :=
  if p1 = p0 then (some (p2, σ)) else (if p2 = p0 then (some (p1, σ)) else (if (gI σ 16) = 0 then (some (p1, σ)) else (if (gI σ 16) = 1 then (some (p2, σ)) else (if (gI σ 16) = 2 then (some (if p1 < p2 then p2 else p1, σ)) else (some (p0, σ))))))
abbrev r7_lateOf : Room := { frames := 1, cells := 0, slots := 0, locals := 21 }
theorem cw7_lateOf {R : Room} {s : State} {args : Array Value} (ht : ∀ w ∈ lw_all, w.before args s = true) (hR : r7_lateOf.frames + 1 ≤ R.frames ∧ 8 + (4 + 11) + r7_lateOf.locals ≤ R.locals) : CallW R s args RX7 RX7 337 yX7_lateOf cX7_lateOf 4 (some .int) (ws_ yX7_lateOf cX7_lateOf 4 (some .int)) r7_lateOf 0 0 3 :=
  cwV 3 ht (lw_V q3142 q3144 qs137 q178 q3145) rfl rfl rfl (by decide +kernel) hR
theorem m7_lateOf (l : Launch) (D : va_G) (cl : vC2) (Z : (Nat → Prop) → State → Heap → Prop) (hz : ZK Z) (ci : Nat) (A : Nat → Nat) (d : Nat → ClassId) (tm : List (ClassId × FieldType)) (hc : cl.1[ci]? = some (RX7, TX7, 42)) (p0 : Int32) (p1 : Int32) (p2 : Int32) (σ : MS) (r : Int32) (σ' : MS) (hf : f7_lateOf p0 p1 p2 σ = some (r, σ')) : MMi l yX7_lateOf (ws_ yX7_lateOf cX7_lateOf 4 (some .int)) r7_lateOf D cl Z ci A d tm σ [.int p0, .int p1, .int p2] r σ' := by
  refine m_openi hz (by decide) (by exact Nat.le_of_ble_eq_true rfl) (fun p e s m args below meth c ls A0 Q X hI hl hret => ?_)
  have X : XC p s m args meth c cX7_lateOf 4 RX7 D cl (mty d tm) A0 Z := X
  have hx := X.1
  have hb := X.2.1
  have hown := X.2.2.2.1
  have hts := X.2.2.2.2.1
  have hl : lv_has ls 4 [(0, .ref (A 0)), (1, .int p0), (2, .int p1), (3, .int p2)] := hl
  unfold f7_lateOf at hf
  obtain ⟨H, eH⟩ : ∃ H, H = s.heap := ⟨_, rfl⟩
  obtain ⟨locs, eL⟩ : ∃ locs : List Loc, locs = [] := ⟨_, rfl⟩
  have hI : XI D cl (mw ci A d σ) A0 s.heap H locs := by rw [eH, eL]; exact hI
  rw [← eL]
  suffices h : W p l e r7_lateOf s m args below meth c H locs 0 0 Q (F0 m 0 ls []) by rw [eH] at h; exact h
  clear eH eL
  refine lv_iload_n hx hb dX7_lateOf_0 rfl (lv_at hl 2 rfl) ?_
  refine lv_iload_n hx hb dX7_lateOf_1 rfl (lv_at hl 1 rfl) ?_
  refine lv_icmp_ne (tgt := 7) hx hb dX7_lateOf_2 (by decide) (fun c1 => ?_) (fun c1 => ?_)
  · have hf := o_neg hf c1
    refine lv_iload_n hx hb dX7_lateOf_7 rfl (lv_at hl 3 rfl) ?_
    refine lv_iload_n hx hb dX7_lateOf_8 rfl (lv_at hl 1 rfl) ?_
    refine lv_icmp_eq (tgt := 19) hx hb dX7_lateOf_9 (by decide) (fun c2 => ?_) (fun c2 => ?_)
    · have hf := o_pos hf c2
      refine lv_iload_n hx hb dX7_lateOf_19 rfl (lv_at hl 2 rfl) ?_
      exact hret hf hI dX7_lateOf_20
    · have hf := o_neg hf c2
      refine lv_aload_n hx hb dX7_lateOf_12 rfl (lv_at hl 0 rfl) ?_
      refine m_get (v := .int (gI σ 16)) X hI hc 16 (by decide) q2674 rfl dX7_lateOf_13 ?_
      refine lv_if_ne (tgt := 21) hx hb dX7_lateOf_16 (by decide) (fun c3 => ?_) (fun c3 => ?_)
      · have hf := o_neg hf c3
        refine lv_aload_n hx hb dX7_lateOf_21 rfl (lv_at hl 0 rfl) ?_
        refine m_get (v := .int (gI σ 16)) X hI hc 16 (by decide) q2674 rfl dX7_lateOf_22 ?_
        refine lv_iconst (v := 1) hx hb dX7_lateOf_25 (by decide) ?_
        refine lv_icmp_ne (tgt := 33) hx hb dX7_lateOf_26 (by decide) (fun c4 => ?_) (fun c4 => ?_)
        · have hf := o_neg hf c4
          refine lv_aload_n hx hb dX7_lateOf_33 rfl (lv_at hl 0 rfl) ?_
          refine m_get (v := .int (gI σ 16)) X hI hc 16 (by decide) q2674 rfl dX7_lateOf_34 ?_
          refine lv_iconst (v := 2) hx hb dX7_lateOf_37 (by decide) ?_
          refine lv_icmp_ne (tgt := 49) hx hb dX7_lateOf_38 (by decide) (fun c5 => ?_) (fun c5 => ?_)
          · have hf := o_neg hf c5
            refine lv_iload_n hx hb dX7_lateOf_49 rfl (lv_at hl 1 rfl) ?_
            exact hret hf hI dX7_lateOf_50
          · have hf := o_pos hf c5
            refine lv_iload_n hx hb dX7_lateOf_41 rfl (lv_at hl 2 rfl) ?_
            refine lv_iload_n hx hb dX7_lateOf_42 rfl (lv_at hl 3 rfl) ?_
            refine x_mmax X hl.1 q2903 q546 q173 q547 ⟨Nat.le_of_ble_eq_true rfl, Nat.le_of_ble_eq_true rfl⟩ (Nat.le_of_ble_eq_true rfl) ⟨Nat.le_of_ble_eq_true rfl, Nat.le_of_ble_eq_true rfl⟩ dX7_lateOf_43 ?_
            refine lv_goto (tgt := 50) hx hb dX7_lateOf_46 (by decide) ?_
            exact hret hf hI dX7_lateOf_50
        · have hf := o_pos hf c4
          refine lv_iload_n hx hb dX7_lateOf_29 rfl (lv_at hl 3 rfl) ?_
          refine lv_goto (tgt := 50) hx hb dX7_lateOf_30 (by decide) ?_
          exact hret hf hI dX7_lateOf_50
      · have hf := o_pos hf c3
        refine lv_iload_n hx hb dX7_lateOf_19 rfl (lv_at hl 2 rfl) ?_
        exact hret hf hI dX7_lateOf_20
  · have hf := o_pos hf c1
    refine lv_iload_n hx hb dX7_lateOf_5 rfl (lv_at hl 3 rfl) ?_
    exact hret hf hI dX7_lateOf_6
/-! mergedOf -/
def f7_mergedOf (p0 : Int32) (p1 : Int32) (p2 : Int32) (p3 : Int32) (σ : MS) : oI Int32 :=
  if p0 = 0 then (some (if p2 < p3 then p3 else p2, σ)) else (if p0 = 1 then (some (if p3 < p2 then p3 else p2, σ)) else (if p0 = 2 then (some (if 0 < (if ((p2 + p3) - p1) < (gA σ 1 0) then ((p2 + p3) - p1) else (gA σ 1 0)) then (if ((p2 + p3) - p1) < (gA σ 1 0) then ((p2 + p3) - p1) else (gA σ 1 0)) else (0 : Int32), σ)) else (bnd (f7_lateOf p1 p2 p3 σ) fun r5 σ4 =>
  some (r5, σ4))))
abbrev r7_mergedOf : Room := { frames := 2, cells := 0, slots := 0, locals := 44 }
theorem cw7_mergedOf {R : Room} {s : State} {args : Array Value} (ht : ∀ w ∈ lw_all, w.before args s = true) (hR : r7_mergedOf.frames + 1 ≤ R.frames ∧ 8 + (5 + 11) + r7_mergedOf.locals ≤ R.locals) : CallW R s args RX7 RX7 340 yX7_mergedOf cX7_mergedOf 5 (some .int) (ws_ yX7_mergedOf cX7_mergedOf 5 (some .int)) r7_mergedOf 0 0 4 :=
  cwV 4 ht (lw_V q3138 q3140 qs136 q178 q3141) rfl rfl rfl (by decide +kernel) hR
theorem m7_mergedOf (l : Launch) (D : va_G) (cl : vC2) (Z : (Nat → Prop) → State → Heap → Prop) (hz : ZK Z) (ci : Nat) (A : Nat → Nat) (d : Nat → ClassId) (tm : List (ClassId × FieldType)) (hc : cl.1[ci]? = some (RX7, TX7, 42)) (p0 : Int32) (p1 : Int32) (p2 : Int32) (p3 : Int32) (σ : MS) (r : Int32) (σ' : MS) (hf : f7_mergedOf p0 p1 p2 p3 σ = some (r, σ')) : MMi l yX7_mergedOf (ws_ yX7_mergedOf cX7_mergedOf 5 (some .int)) r7_mergedOf D cl Z ci A d tm σ [.int p0, .int p1, .int p2, .int p3] r σ' := by
  refine m_openi hz (by decide) (by exact Nat.le_of_ble_eq_true rfl) (fun p e s m args below meth c ls A0 Q X hI hl hret => ?_)
  have X : XC p s m args meth c cX7_mergedOf 5 RX7 D cl (mty d tm) A0 Z := X
  have hx := X.1
  have hb := X.2.1
  have hown := X.2.2.2.1
  have hts := X.2.2.2.2.1
  have hl : lv_has ls 5 [(0, .ref (A 0)), (1, .int p0), (2, .int p1), (3, .int p2), (4, .int p3)] := hl
  unfold f7_mergedOf at hf
  obtain ⟨H, eH⟩ : ∃ H, H = s.heap := ⟨_, rfl⟩
  obtain ⟨locs, eL⟩ : ∃ locs : List Loc, locs = [] := ⟨_, rfl⟩
  have hI : XI D cl (mw ci A d σ) A0 s.heap H locs := by rw [eH, eL]; exact hI
  rw [← eL]
  suffices h : W p l e r7_mergedOf s m args below meth c H locs 0 0 Q (F0 m 0 ls []) by rw [eH] at h; exact h
  clear eH eL
  refine lv_iload_n hx hb dX7_mergedOf_0 rfl (lv_at hl 1 rfl) ?_
  refine lv_if_ne (tgt := 11) hx hb dX7_mergedOf_1 (by decide) (fun c1 => ?_) (fun c1 => ?_)
  · have hf := o_neg hf c1
    refine lv_iload_n hx hb dX7_mergedOf_11 rfl (lv_at hl 1 rfl) ?_
    refine lv_iconst (v := 1) hx hb dX7_mergedOf_12 (by decide) ?_
    refine lv_icmp_ne (tgt := 23) hx hb dX7_mergedOf_13 (by decide) (fun c2 => ?_) (fun c2 => ?_)
    · have hf := o_neg hf c2
      refine lv_iload_n hx hb dX7_mergedOf_23 rfl (lv_at hl 1 rfl) ?_
      refine lv_iconst (v := 2) hx hb dX7_mergedOf_24 (by decide) ?_
      refine lv_icmp_ne (tgt := 50) hx hb dX7_mergedOf_25 (by decide) (fun c3 => ?_) (fun c3 => ?_)
      · have hf := o_neg hf c3
        refine lv_aload_n hx hb dX7_mergedOf_50 rfl (lv_at hl 0 rfl) ?_
        refine lv_iload_n hx hb dX7_mergedOf_51 rfl (lv_at hl 2 rfl) ?_
        refine lv_iload_n hx hb dX7_mergedOf_52 rfl (lv_at hl 3 rfl) ?_
        refine lv_iload hx hb dX7_mergedOf_53 (lv_at hl 4 rfl) ?_
        obtain ⟨r5, σ4, hσ4, hf⟩ := bnd_some hf
        refine m_calli X hI hc [.int p1, .int p2, .int p3] (m7_lateOf l D cl Z hz ci A d tm hc p1 p2 p3 σ r5 σ4 hσ4) (cw7_lateOf hts ⟨Nat.le_of_ble_eq_true rfl, Nat.le_of_ble_eq_true rfl⟩) rfl hl.1 (Nat.le_of_ble_eq_true rfl) rfl dX7_mergedOf_55 ⟨Nat.le_of_ble_eq_true rfl, Nat.le_of_ble_eq_true rfl⟩ (fun H locs hI => ?_)
        exact hret hf hI dX7_mergedOf_58
      · have hf := o_pos hf c3
        refine lv_iconst (v := 0) hx hb dX7_mergedOf_28 (by decide) ?_
        refine lv_aload_n hx hb dX7_mergedOf_29 rfl (lv_at hl 0 rfl) ?_
        refine m_get (v := .ref (A 1)) X hI hc 1 (by decide) q2659 rfl dX7_mergedOf_30 ?_
        refine lv_iconst (v := 0) hx hb dX7_mergedOf_33 (by decide) ?_
        refine m_iald (k := 0) X hI 1 1 76 rfl rfl rfl dX7_mergedOf_34 ?_
        refine lv_iload_n hx hb dX7_mergedOf_35 rfl (lv_at hl 3 rfl) ?_
        refine lv_iload hx hb dX7_mergedOf_36 (lv_at hl 4 rfl) ?_
        refine lv_iadd hx hb dX7_mergedOf_38 ?_
        refine lv_iload_n hx hb dX7_mergedOf_39 rfl (lv_at hl 2 rfl) ?_
        refine lv_isub hx hb dX7_mergedOf_40 ?_
        refine x_mmin X hl.1 q2826 q638 q173 q639 ⟨Nat.le_of_ble_eq_true rfl, Nat.le_of_ble_eq_true rfl⟩ (Nat.le_of_ble_eq_true rfl) ⟨Nat.le_of_ble_eq_true rfl, Nat.le_of_ble_eq_true rfl⟩ dX7_mergedOf_41 ?_
        refine x_mmax X hl.1 q2903 q546 q173 q547 ⟨Nat.le_of_ble_eq_true rfl, Nat.le_of_ble_eq_true rfl⟩ (Nat.le_of_ble_eq_true rfl) ⟨Nat.le_of_ble_eq_true rfl, Nat.le_of_ble_eq_true rfl⟩ dX7_mergedOf_44 ?_
        refine lv_goto (tgt := 58) hx hb dX7_mergedOf_47 (by decide) ?_
        exact hret hf hI dX7_mergedOf_58
    · have hf := o_pos hf c2
      refine lv_iload_n hx hb dX7_mergedOf_16 rfl (lv_at hl 3 rfl) ?_
      refine lv_iload hx hb dX7_mergedOf_17 (lv_at hl 4 rfl) ?_
      refine x_mmin X hl.1 q2826 q638 q173 q639 ⟨Nat.le_of_ble_eq_true rfl, Nat.le_of_ble_eq_true rfl⟩ (Nat.le_of_ble_eq_true rfl) ⟨Nat.le_of_ble_eq_true rfl, Nat.le_of_ble_eq_true rfl⟩ dX7_mergedOf_19 ?_
      exact hret hf hI dX7_mergedOf_22
  · have hf := o_pos hf c1
    refine lv_iload_n hx hb dX7_mergedOf_4 rfl (lv_at hl 3 rfl) ?_
    refine lv_iload hx hb dX7_mergedOf_5 (lv_at hl 4 rfl) ?_
    refine x_mmax X hl.1 q2903 q546 q173 q547 ⟨Nat.le_of_ble_eq_true rfl, Nat.le_of_ble_eq_true rfl⟩ (Nat.le_of_ble_eq_true rfl) ⟨Nat.le_of_ble_eq_true rfl, Nat.le_of_ble_eq_true rfl⟩ dX7_mergedOf_7 ?_
    exact hret hf hI dX7_mergedOf_10
/-! mergeOf -/
def f7_mergeOf_b6 (K6 : Int32 → Int32 → Int32 → Int32 → Int32 → MS → oI Int32) (x1 : Int32) (x2 : Int32) (x3 : Int32) (x4 : Int32) (x5 : Int32) (σ : MS) : oI Int32 :=
  bnd (f7_cells σ) fun r2 σ1 =>
  if r2 ≤ x5 then (some (x4, σ1)) else (grd (inB x5 3) <|
  bnd (f7_valueOf x1 x5 σ1) fun r6 σ5 =>
  bnd (f7_valueOf x2 x5 σ5) fun r8 σ7 =>
  bnd (f7_valueOf x3 x5 σ7) fun r10 σ9 =>
  bnd (f7_mergedOf (gA σ1 15 x5.toNatClampNeg) r6 r8 r10 σ9) fun r12 σ11 =>
  bnd (f7_withValue x4 x5 r12 σ11) fun r14 σ13 =>
  K6 x1 x2 x3 r14 (x5 + 1) σ13)
def f7_mergeOf_l6 : Nat → Int32 → Int32 → Int32 → Int32 → Int32 → MS → oI Int32
  | 0 => fun _ _ _ _ _ _ => none
  | n + 1 => fun x1 x2 x3 x4 x5 σ => f7_mergeOf_b6 (f7_mergeOf_l6 n) x1 x2 x3 x4 x5 σ
def f7_mergeOf (p0 : Int32) (p1 : Int32) (p2 : Int32) (σ : MS) : oI Int32 :=
  f7_mergeOf_l6 FU p0 p1 p2 0 0 σ
abbrev r7_mergeOf : Room := { frames := 3, cells := 0, slots := 0, locals := 68 }
theorem cw7_mergeOf {R : Room} {s : State} {args : Array Value} (ht : ∀ w ∈ lw_all, w.before args s = true) (hR : r7_mergeOf.frames + 1 ≤ R.frames ∧ 8 + (6 + 11) + r7_mergeOf.locals ≤ R.locals) : CallW R s args RX7 RX7 344 yX7_mergeOf cX7_mergeOf 6 (some .int) (ws_ yX7_mergeOf cX7_mergeOf 6 (some .int)) r7_mergeOf 0 0 3 :=
  cwV 3 ht (lw_V q3134 q3136 qs135 q178 q3137) rfl rfl rfl (by decide +kernel) hR
theorem m7_mergeOf (l : Launch) (D : va_G) (cl : vC2) (Z : (Nat → Prop) → State → Heap → Prop) (hz : ZK Z) (ci : Nat) (A : Nat → Nat) (d : Nat → ClassId) (tm : List (ClassId × FieldType)) (hc : cl.1[ci]? = some (RX7, TX7, 42)) (p0 : Int32) (p1 : Int32) (p2 : Int32) (σ : MS) (r : Int32) (σ' : MS) (hf : f7_mergeOf p0 p1 p2 σ = some (r, σ')) : MMi l yX7_mergeOf (ws_ yX7_mergeOf cX7_mergeOf 6 (some .int)) r7_mergeOf D cl Z ci A d tm σ [.int p0, .int p1, .int p2] r σ' := by
  refine m_openi hz (by decide) (by exact Nat.le_of_ble_eq_true rfl) (fun p e s m args below meth c ls A0 Q X hI hl hret => ?_)
  have X : XC p s m args meth c cX7_mergeOf 6 RX7 D cl (mty d tm) A0 Z := X
  have hx := X.1
  have hb := X.2.1
  have hown := X.2.2.2.1
  have hts := X.2.2.2.2.1
  have L6 : ∀ (n : Nat) (x1 : Int32) (x2 : Int32) (x3 : Int32) (x4 : Int32) (x5 : Int32) (σ : MS), f7_mergeOf_l6 n x1 x2 x3 x4 x5 σ = some (r, σ') → ∀ (H : Heap) (locs : List Loc), XI D cl (mw ci A d σ) A0 s.heap H locs → ∀ (ls : Array Slot), lv_has ls 6 [(0, .ref (A 0)), (1, .int x1), (2, .int x2), (3, .int x3), (4, .int x4), (5, .int x5)] → W p l e r7_mergeOf s m args below meth c H locs 0 0 Q (F0 m 6 ls []) := by
    intro n6
    induction n6 with
    | zero => intro x1 x2 x3 x4 x5 σ hf; cases hf
    | succ n6 ih6 =>
      intro x1 x2 x3 x4 x5 σ hf H locs hI ls hl
      have hf : f7_mergeOf_b6 (f7_mergeOf_l6 n6) x1 x2 x3 x4 x5 σ = some (r, σ') := hf
      unfold f7_mergeOf_b6 at hf
      refine lv_iload hx hb dX7_mergeOf_6 (lv_at hl 5 rfl) ?_
      refine lv_aload_n hx hb dX7_mergeOf_8 rfl (lv_at hl 0 rfl) ?_
      obtain ⟨r2, σ1, hσ1, hf⟩ := bnd_some hf
      refine m_calli X hI hc [] (m7_cells l D cl Z hz ci A d tm hc σ r2 σ1 hσ1) (cw7_cells hts ⟨Nat.le_of_ble_eq_true rfl, Nat.le_of_ble_eq_true rfl⟩) rfl hl.1 (Nat.le_of_ble_eq_true rfl) rfl dX7_mergeOf_9 ⟨Nat.le_of_ble_eq_true rfl, Nat.le_of_ble_eq_true rfl⟩ (fun H locs hI => ?_)
      refine lv_icmp_ge (tgt := 63) hx hb dX7_mergeOf_12 (by decide) (fun c3 => ?_) (fun c3 => ?_)
      · have hf := o_pos hf c3
        refine lv_iload hx hb dX7_mergeOf_63 (lv_at hl 4 rfl) ?_
        exact hret hf hI dX7_mergeOf_65
      · have hf := o_neg hf c3
        refine lv_aload_n hx hb dX7_mergeOf_15 rfl (lv_at hl 0 rfl) ?_
        refine lv_iload hx hb dX7_mergeOf_16 (lv_at hl 4 rfl) ?_
        refine lv_iload hx hb dX7_mergeOf_18 (lv_at hl 5 rfl) ?_
        refine lv_aload_n hx hb dX7_mergeOf_20 rfl (lv_at hl 0 rfl) ?_
        refine lv_aload_n hx hb dX7_mergeOf_21 rfl (lv_at hl 0 rfl) ?_
        refine m_get (v := .ref (A 15)) X hI hc 15 (by decide) q2673 rfl dX7_mergeOf_22 ?_
        refine lv_iload hx hb dX7_mergeOf_25 (lv_at hl 5 rfl) ?_
        obtain ⟨g4, hf⟩ := grd_some hf
        refine m_iald X hI 15 7 3 rfl rfl g4 dX7_mergeOf_27 ?_
        refine lv_aload_n hx hb dX7_mergeOf_28 rfl (lv_at hl 0 rfl) ?_
        refine lv_iload_n hx hb dX7_mergeOf_29 rfl (lv_at hl 1 rfl) ?_
        refine lv_iload hx hb dX7_mergeOf_30 (lv_at hl 5 rfl) ?_
        obtain ⟨r6, σ5, hσ5, hf⟩ := bnd_some hf
        refine m_calli X hI hc [.int x1, .int x5] (m7_valueOf l D cl Z hz ci A d tm hc x1 x5 σ1 r6 σ5 hσ5) (cw7_valueOf hts ⟨Nat.le_of_ble_eq_true rfl, Nat.le_of_ble_eq_true rfl⟩) rfl hl.1 (Nat.le_of_ble_eq_true rfl) rfl dX7_mergeOf_32 ⟨Nat.le_of_ble_eq_true rfl, Nat.le_of_ble_eq_true rfl⟩ (fun H locs hI => ?_)
        refine lv_aload_n hx hb dX7_mergeOf_35 rfl (lv_at hl 0 rfl) ?_
        refine lv_iload_n hx hb dX7_mergeOf_36 rfl (lv_at hl 2 rfl) ?_
        refine lv_iload hx hb dX7_mergeOf_37 (lv_at hl 5 rfl) ?_
        obtain ⟨r8, σ7, hσ7, hf⟩ := bnd_some hf
        refine m_calli X hI hc [.int x2, .int x5] (m7_valueOf l D cl Z hz ci A d tm hc x2 x5 σ5 r8 σ7 hσ7) (cw7_valueOf hts ⟨Nat.le_of_ble_eq_true rfl, Nat.le_of_ble_eq_true rfl⟩) rfl hl.1 (Nat.le_of_ble_eq_true rfl) rfl dX7_mergeOf_39 ⟨Nat.le_of_ble_eq_true rfl, Nat.le_of_ble_eq_true rfl⟩ (fun H locs hI => ?_)
        refine lv_aload_n hx hb dX7_mergeOf_42 rfl (lv_at hl 0 rfl) ?_
        refine lv_iload_n hx hb dX7_mergeOf_43 rfl (lv_at hl 3 rfl) ?_
        refine lv_iload hx hb dX7_mergeOf_44 (lv_at hl 5 rfl) ?_
        obtain ⟨r10, σ9, hσ9, hf⟩ := bnd_some hf
        refine m_calli X hI hc [.int x3, .int x5] (m7_valueOf l D cl Z hz ci A d tm hc x3 x5 σ7 r10 σ9 hσ9) (cw7_valueOf hts ⟨Nat.le_of_ble_eq_true rfl, Nat.le_of_ble_eq_true rfl⟩) rfl hl.1 (Nat.le_of_ble_eq_true rfl) rfl dX7_mergeOf_46 ⟨Nat.le_of_ble_eq_true rfl, Nat.le_of_ble_eq_true rfl⟩ (fun H locs hI => ?_)
        obtain ⟨r12, σ11, hσ11, hf⟩ := bnd_some hf
        refine m_calli X hI hc [.int (gA σ1 15 x5.toNatClampNeg), .int r6, .int r8, .int r10] (m7_mergedOf l D cl Z hz ci A d tm hc (gA σ1 15 x5.toNatClampNeg) r6 r8 r10 σ9 r12 σ11 hσ11) (cw7_mergedOf hts ⟨Nat.le_of_ble_eq_true rfl, Nat.le_of_ble_eq_true rfl⟩) rfl hl.1 (Nat.le_of_ble_eq_true rfl) rfl dX7_mergeOf_49 ⟨Nat.le_of_ble_eq_true rfl, Nat.le_of_ble_eq_true rfl⟩ (fun H locs hI => ?_)
        obtain ⟨r14, σ13, hσ13, hf⟩ := bnd_some hf
        refine m_calli X hI hc [.int x4, .int x5, .int r12] (m7_withValue l D cl Z hz ci A d tm hc x4 x5 r12 σ11 r14 σ13 hσ13) (cw7_withValue hts ⟨Nat.le_of_ble_eq_true rfl, Nat.le_of_ble_eq_true rfl⟩) rfl hl.1 (Nat.le_of_ble_eq_true rfl) rfl dX7_mergeOf_52 ⟨Nat.le_of_ble_eq_true rfl, Nat.le_of_ble_eq_true rfl⟩ (fun H locs hI => ?_)
        refine lv_istore (lv' := [(4, .int r14), (0, .ref (A 0)), (1, .int x1), (2, .int x2), (3, .int x3), (5, .int x5)]) hx hb dX7_mergeOf_55 hl (by decide) rfl (fun ls hl => ?_)
        refine lv_iinc (v := x5 + 1) (lv' := [(5, .int (x5 + 1)), (4, .int r14), (0, .ref (A 0)), (1, .int x1), (2, .int x2), (3, .int x3)]) hx hb dX7_mergeOf_57 hl (k := 5) rfl rfl (by decide) rfl (fun ls hl => ?_)
        refine lv_goto (tgt := 6) hx hb dX7_mergeOf_60 (by decide) ?_
        exact ih6 x1 x2 x3 r14 (x5 + 1) σ13 hf H locs hI ls (lv_sub hl [2, 3, 4, 5, 1, 0] rfl)
  have hl : lv_has ls 6 [(0, .ref (A 0)), (1, .int p0), (2, .int p1), (3, .int p2)] := hl
  unfold f7_mergeOf at hf
  obtain ⟨H, eH⟩ : ∃ H, H = s.heap := ⟨_, rfl⟩
  obtain ⟨locs, eL⟩ : ∃ locs : List Loc, locs = [] := ⟨_, rfl⟩
  have hI : XI D cl (mw ci A d σ) A0 s.heap H locs := by rw [eH, eL]; exact hI
  rw [← eL]
  suffices h : W p l e r7_mergeOf s m args below meth c H locs 0 0 Q (F0 m 0 ls []) by rw [eH] at h; exact h
  clear eH eL
  refine lv_iconst (v := 0) hx hb dX7_mergeOf_0 (by decide) ?_
  refine lv_istore (lv' := [(4, .int 0), (0, .ref (A 0)), (1, .int p0), (2, .int p1), (3, .int p2)]) hx hb dX7_mergeOf_1 hl (by decide) rfl (fun ls hl => ?_)
  refine lv_iconst (v := 0) hx hb dX7_mergeOf_3 (by decide) ?_
  refine lv_istore (lv' := [(5, .int 0), (4, .int 0), (0, .ref (A 0)), (1, .int p0), (2, .int p1), (3, .int p2)]) hx hb dX7_mergeOf_4 hl (by decide) rfl (fun ls hl => ?_)
  exact L6 FU p0 p1 p2 0 0 σ hf H locs hI ls (lv_sub hl [2, 3, 4, 5, 1, 0] rfl)
/-! merge -/
def f7_merge (p0 : Int32) (p1 : Int32) (p2 : Int32) (σ : MS) : oI Int32 :=
  bnd (f7_asks σ) fun r2 σ1 =>
  if r2 = 0 then (some ((-2), σ1)) else (bnd (f7_isState p0.toInt64 σ1) fun r5 σ4 =>
  if r5 = 0 then (some ((-2), σ4)) else (bnd (f7_isState p1.toInt64 σ4) fun r8 σ7 =>
  if r8 = 0 then (some ((-2), σ7)) else (bnd (f7_isState p2.toInt64 σ7) fun r11 σ10 =>
  if r11 = 0 then (some ((-2), σ10)) else (bnd (f7_mergeOf p0 p1 p2 σ10) fun r14 σ13 =>
  some (r14, σ13)))))
abbrev r7_merge : Room := { frames := 6, cells := 0, slots := 0, locals := 140 }
theorem m7_merge (l : Launch) (D : va_G) (cl : vC2) (Z : (Nat → Prop) → State → Heap → Prop) (hz : ZK Z) (ci : Nat) (A : Nat → Nat) (d : Nat → ClassId) (tm : List (ClassId × FieldType)) (hc : cl.1[ci]? = some (RX7, TX7, 42)) (p0 : Int32) (p1 : Int32) (p2 : Int32) (σ : MS) (r : Int32) (σ' : MS) (hf : f7_merge p0 p1 p2 σ = some (r, σ')) : MMi l yX7_merge (ws_ yX7_merge cX7_merge 4 (some .int)) r7_merge D cl Z ci A d tm σ [.int p0, .int p1, .int p2] r σ' := by
  refine m_openi hz (by decide) (by exact Nat.le_of_ble_eq_true rfl) (fun p e s m args below meth c ls A0 Q X hI hl hret => ?_)
  have X : XC p s m args meth c cX7_merge 4 RX7 D cl (mty d tm) A0 Z := X
  have hx := X.1
  have hb := X.2.1
  have hown := X.2.2.2.1
  have hts := X.2.2.2.2.1
  have hl : lv_has ls 4 [(0, .ref (A 0)), (1, .int p0), (2, .int p1), (3, .int p2)] := hl
  unfold f7_merge at hf
  obtain ⟨H, eH⟩ : ∃ H, H = s.heap := ⟨_, rfl⟩
  obtain ⟨locs, eL⟩ : ∃ locs : List Loc, locs = [] := ⟨_, rfl⟩
  have hI : XI D cl (mw ci A d σ) A0 s.heap H locs := by rw [eH, eL]; exact hI
  rw [← eL]
  suffices h : W p l e r7_merge s m args below meth c H locs 0 0 Q (F0 m 0 ls []) by rw [eH] at h; exact h
  clear eH eL
  refine lv_aload_n hx hb dX7_merge_0 rfl (lv_at hl 0 rfl) ?_
  obtain ⟨r2, σ1, hσ1, hf⟩ := bnd_some hf
  refine m_calli X hI hc [] (m7_asks l D cl Z hz ci A d tm hc σ r2 σ1 hσ1) (cw7_asks hts ⟨Nat.le_of_ble_eq_true rfl, Nat.le_of_ble_eq_true rfl⟩) rfl hl.1 (Nat.le_of_ble_eq_true rfl) rfl dX7_merge_1 ⟨Nat.le_of_ble_eq_true rfl, Nat.le_of_ble_eq_true rfl⟩ (fun H locs hI => ?_)
  refine lv_if_eq (tgt := 44) hx hb dX7_merge_4 (by decide) (fun c3 => ?_) (fun c3 => ?_)
  · have hf := o_pos hf c3
    refine lv_bipush (v := -2) hx hb dX7_merge_44 (by decide) ?_
    exact hret hf hI dX7_merge_46
  · have hf := o_neg hf c3
    refine lv_aload_n hx hb dX7_merge_7 rfl (lv_at hl 0 rfl) ?_
    refine lv_iload_n hx hb dX7_merge_8 rfl (lv_at hl 1 rfl) ?_
    refine lv_i2l hx hb dX7_merge_9 rfl ?_
    obtain ⟨r5, σ4, hσ4, hf⟩ := bnd_some hf
    refine m_calli X hI hc [.long p0.toInt64] (m7_isState l D cl Z hz ci A d tm hc p0.toInt64 σ1 r5 σ4 hσ4) (cw7_isState hts ⟨Nat.le_of_ble_eq_true rfl, Nat.le_of_ble_eq_true rfl⟩) rfl hl.1 (Nat.le_of_ble_eq_true rfl) rfl dX7_merge_10 ⟨Nat.le_of_ble_eq_true rfl, Nat.le_of_ble_eq_true rfl⟩ (fun H locs hI => ?_)
    refine lv_if_eq (tgt := 44) hx hb dX7_merge_13 (by decide) (fun c6 => ?_) (fun c6 => ?_)
    · have hf := o_pos hf c6
      refine lv_bipush (v := -2) hx hb dX7_merge_44 (by decide) ?_
      exact hret hf hI dX7_merge_46
    · have hf := o_neg hf c6
      refine lv_aload_n hx hb dX7_merge_16 rfl (lv_at hl 0 rfl) ?_
      refine lv_iload_n hx hb dX7_merge_17 rfl (lv_at hl 2 rfl) ?_
      refine lv_i2l hx hb dX7_merge_18 rfl ?_
      obtain ⟨r8, σ7, hσ7, hf⟩ := bnd_some hf
      refine m_calli X hI hc [.long p1.toInt64] (m7_isState l D cl Z hz ci A d tm hc p1.toInt64 σ4 r8 σ7 hσ7) (cw7_isState hts ⟨Nat.le_of_ble_eq_true rfl, Nat.le_of_ble_eq_true rfl⟩) rfl hl.1 (Nat.le_of_ble_eq_true rfl) rfl dX7_merge_19 ⟨Nat.le_of_ble_eq_true rfl, Nat.le_of_ble_eq_true rfl⟩ (fun H locs hI => ?_)
      refine lv_if_eq (tgt := 44) hx hb dX7_merge_22 (by decide) (fun c9 => ?_) (fun c9 => ?_)
      · have hf := o_pos hf c9
        refine lv_bipush (v := -2) hx hb dX7_merge_44 (by decide) ?_
        exact hret hf hI dX7_merge_46
      · have hf := o_neg hf c9
        refine lv_aload_n hx hb dX7_merge_25 rfl (lv_at hl 0 rfl) ?_
        refine lv_iload_n hx hb dX7_merge_26 rfl (lv_at hl 3 rfl) ?_
        refine lv_i2l hx hb dX7_merge_27 rfl ?_
        obtain ⟨r11, σ10, hσ10, hf⟩ := bnd_some hf
        refine m_calli X hI hc [.long p2.toInt64] (m7_isState l D cl Z hz ci A d tm hc p2.toInt64 σ7 r11 σ10 hσ10) (cw7_isState hts ⟨Nat.le_of_ble_eq_true rfl, Nat.le_of_ble_eq_true rfl⟩) rfl hl.1 (Nat.le_of_ble_eq_true rfl) rfl dX7_merge_28 ⟨Nat.le_of_ble_eq_true rfl, Nat.le_of_ble_eq_true rfl⟩ (fun H locs hI => ?_)
        refine lv_if_eq (tgt := 44) hx hb dX7_merge_31 (by decide) (fun c12 => ?_) (fun c12 => ?_)
        · have hf := o_pos hf c12
          refine lv_bipush (v := -2) hx hb dX7_merge_44 (by decide) ?_
          exact hret hf hI dX7_merge_46
        · have hf := o_neg hf c12
          refine lv_aload_n hx hb dX7_merge_34 rfl (lv_at hl 0 rfl) ?_
          refine lv_iload_n hx hb dX7_merge_35 rfl (lv_at hl 1 rfl) ?_
          refine lv_iload_n hx hb dX7_merge_36 rfl (lv_at hl 2 rfl) ?_
          refine lv_iload_n hx hb dX7_merge_37 rfl (lv_at hl 3 rfl) ?_
          obtain ⟨r14, σ13, hσ13, hf⟩ := bnd_some hf
          refine m_calli X hI hc [.int p0, .int p1, .int p2] (m7_mergeOf l D cl Z hz ci A d tm hc p0 p1 p2 σ10 r14 σ13 hσ13) (cw7_mergeOf hts ⟨Nat.le_of_ble_eq_true rfl, Nat.le_of_ble_eq_true rfl⟩) rfl hl.1 (Nat.le_of_ble_eq_true rfl) rfl dX7_merge_38 ⟨Nat.le_of_ble_eq_true rfl, Nat.le_of_ble_eq_true rfl⟩ (fun H locs hI => ?_)
          refine lv_goto (tgt := 46) hx hb dX7_merge_41 (by decide) ?_
          exact hret hf hI dX7_merge_46
/-! even -/
def f7_even (p0 : Int32) (p1 : Int32) (p2 : Int32) (σ : MS) : oI Int32 :=
  bnd (f7_asks σ) fun r2 σ1 =>
  if r2 = 0 then (some ((-2), σ1)) else (bnd (f7_isState p0.toInt64 σ1) fun r5 σ4 =>
  if r5 = 0 then (some ((-2), σ4)) else (bnd (f7_isState p1.toInt64 σ4) fun r8 σ7 =>
  if r8 = 0 then (some ((-2), σ7)) else (bnd (f7_isState p2.toInt64 σ7) fun r11 σ10 =>
  if r11 = 0 then (some ((-2), σ10)) else (bnd (f7_mergeOf p0 p1 p2 σ10) fun r14 σ13 =>
  bnd (f7_mergeOf p0 p2 p1 σ13) fun r16 σ15 =>
  if r14 = r16 then (some (1, σ15)) else (some (0, σ15))))))
abbrev r7_even : Room := { frames := 6, cells := 0, slots := 0, locals := 140 }
theorem m7_even (l : Launch) (D : va_G) (cl : vC2) (Z : (Nat → Prop) → State → Heap → Prop) (hz : ZK Z) (ci : Nat) (A : Nat → Nat) (d : Nat → ClassId) (tm : List (ClassId × FieldType)) (hc : cl.1[ci]? = some (RX7, TX7, 42)) (p0 : Int32) (p1 : Int32) (p2 : Int32) (σ : MS) (r : Int32) (σ' : MS) (hf : f7_even p0 p1 p2 σ = some (r, σ')) : MMi l yX7_even (ws_ yX7_even cX7_even 4 (some .int)) r7_even D cl Z ci A d tm σ [.int p0, .int p1, .int p2] r σ' := by
  refine m_openi hz (by decide) (by exact Nat.le_of_ble_eq_true rfl) (fun p e s m args below meth c ls A0 Q X hI hl hret => ?_)
  have X : XC p s m args meth c cX7_even 4 RX7 D cl (mty d tm) A0 Z := X
  have hx := X.1
  have hb := X.2.1
  have hown := X.2.2.2.1
  have hts := X.2.2.2.2.1
  have hl : lv_has ls 4 [(0, .ref (A 0)), (1, .int p0), (2, .int p1), (3, .int p2)] := hl
  unfold f7_even at hf
  obtain ⟨H, eH⟩ : ∃ H, H = s.heap := ⟨_, rfl⟩
  obtain ⟨locs, eL⟩ : ∃ locs : List Loc, locs = [] := ⟨_, rfl⟩
  have hI : XI D cl (mw ci A d σ) A0 s.heap H locs := by rw [eH, eL]; exact hI
  rw [← eL]
  suffices h : W p l e r7_even s m args below meth c H locs 0 0 Q (F0 m 0 ls []) by rw [eH] at h; exact h
  clear eH eL
  refine lv_aload_n hx hb dX7_even_0 rfl (lv_at hl 0 rfl) ?_
  obtain ⟨r2, σ1, hσ1, hf⟩ := bnd_some hf
  refine m_calli X hI hc [] (m7_asks l D cl Z hz ci A d tm hc σ r2 σ1 hσ1) (cw7_asks hts ⟨Nat.le_of_ble_eq_true rfl, Nat.le_of_ble_eq_true rfl⟩) rfl hl.1 (Nat.le_of_ble_eq_true rfl) rfl dX7_even_1 ⟨Nat.le_of_ble_eq_true rfl, Nat.le_of_ble_eq_true rfl⟩ (fun H locs hI => ?_)
  refine lv_if_eq (tgt := 34) hx hb dX7_even_4 (by decide) (fun c3 => ?_) (fun c3 => ?_)
  · have hf := o_pos hf c3
    refine lv_bipush (v := -2) hx hb dX7_even_34 (by decide) ?_
    exact hret hf hI dX7_even_36
  · have hf := o_neg hf c3
    refine lv_aload_n hx hb dX7_even_7 rfl (lv_at hl 0 rfl) ?_
    refine lv_iload_n hx hb dX7_even_8 rfl (lv_at hl 1 rfl) ?_
    refine lv_i2l hx hb dX7_even_9 rfl ?_
    obtain ⟨r5, σ4, hσ4, hf⟩ := bnd_some hf
    refine m_calli X hI hc [.long p0.toInt64] (m7_isState l D cl Z hz ci A d tm hc p0.toInt64 σ1 r5 σ4 hσ4) (cw7_isState hts ⟨Nat.le_of_ble_eq_true rfl, Nat.le_of_ble_eq_true rfl⟩) rfl hl.1 (Nat.le_of_ble_eq_true rfl) rfl dX7_even_10 ⟨Nat.le_of_ble_eq_true rfl, Nat.le_of_ble_eq_true rfl⟩ (fun H locs hI => ?_)
    refine lv_if_eq (tgt := 34) hx hb dX7_even_13 (by decide) (fun c6 => ?_) (fun c6 => ?_)
    · have hf := o_pos hf c6
      refine lv_bipush (v := -2) hx hb dX7_even_34 (by decide) ?_
      exact hret hf hI dX7_even_36
    · have hf := o_neg hf c6
      refine lv_aload_n hx hb dX7_even_16 rfl (lv_at hl 0 rfl) ?_
      refine lv_iload_n hx hb dX7_even_17 rfl (lv_at hl 2 rfl) ?_
      refine lv_i2l hx hb dX7_even_18 rfl ?_
      obtain ⟨r8, σ7, hσ7, hf⟩ := bnd_some hf
      refine m_calli X hI hc [.long p1.toInt64] (m7_isState l D cl Z hz ci A d tm hc p1.toInt64 σ4 r8 σ7 hσ7) (cw7_isState hts ⟨Nat.le_of_ble_eq_true rfl, Nat.le_of_ble_eq_true rfl⟩) rfl hl.1 (Nat.le_of_ble_eq_true rfl) rfl dX7_even_19 ⟨Nat.le_of_ble_eq_true rfl, Nat.le_of_ble_eq_true rfl⟩ (fun H locs hI => ?_)
      refine lv_if_eq (tgt := 34) hx hb dX7_even_22 (by decide) (fun c9 => ?_) (fun c9 => ?_)
      · have hf := o_pos hf c9
        refine lv_bipush (v := -2) hx hb dX7_even_34 (by decide) ?_
        exact hret hf hI dX7_even_36
      · have hf := o_neg hf c9
        refine lv_aload_n hx hb dX7_even_25 rfl (lv_at hl 0 rfl) ?_
        refine lv_iload_n hx hb dX7_even_26 rfl (lv_at hl 3 rfl) ?_
        refine lv_i2l hx hb dX7_even_27 rfl ?_
        obtain ⟨r11, σ10, hσ10, hf⟩ := bnd_some hf
        refine m_calli X hI hc [.long p2.toInt64] (m7_isState l D cl Z hz ci A d tm hc p2.toInt64 σ7 r11 σ10 hσ10) (cw7_isState hts ⟨Nat.le_of_ble_eq_true rfl, Nat.le_of_ble_eq_true rfl⟩) rfl hl.1 (Nat.le_of_ble_eq_true rfl) rfl dX7_even_28 ⟨Nat.le_of_ble_eq_true rfl, Nat.le_of_ble_eq_true rfl⟩ (fun H locs hI => ?_)
        refine lv_if_ne (tgt := 37) hx hb dX7_even_31 (by decide) (fun c12 => ?_) (fun c12 => ?_)
        · have hf := o_neg hf c12
          refine lv_aload_n hx hb dX7_even_37 rfl (lv_at hl 0 rfl) ?_
          refine lv_iload_n hx hb dX7_even_38 rfl (lv_at hl 1 rfl) ?_
          refine lv_iload_n hx hb dX7_even_39 rfl (lv_at hl 2 rfl) ?_
          refine lv_iload_n hx hb dX7_even_40 rfl (lv_at hl 3 rfl) ?_
          obtain ⟨r14, σ13, hσ13, hf⟩ := bnd_some hf
          refine m_calli X hI hc [.int p0, .int p1, .int p2] (m7_mergeOf l D cl Z hz ci A d tm hc p0 p1 p2 σ10 r14 σ13 hσ13) (cw7_mergeOf hts ⟨Nat.le_of_ble_eq_true rfl, Nat.le_of_ble_eq_true rfl⟩) rfl hl.1 (Nat.le_of_ble_eq_true rfl) rfl dX7_even_41 ⟨Nat.le_of_ble_eq_true rfl, Nat.le_of_ble_eq_true rfl⟩ (fun H locs hI => ?_)
          refine lv_aload_n hx hb dX7_even_44 rfl (lv_at hl 0 rfl) ?_
          refine lv_iload_n hx hb dX7_even_45 rfl (lv_at hl 1 rfl) ?_
          refine lv_iload_n hx hb dX7_even_46 rfl (lv_at hl 3 rfl) ?_
          refine lv_iload_n hx hb dX7_even_47 rfl (lv_at hl 2 rfl) ?_
          obtain ⟨r16, σ15, hσ15, hf⟩ := bnd_some hf
          refine m_calli X hI hc [.int p0, .int p2, .int p1] (m7_mergeOf l D cl Z hz ci A d tm hc p0 p2 p1 σ13 r16 σ15 hσ15) (cw7_mergeOf hts ⟨Nat.le_of_ble_eq_true rfl, Nat.le_of_ble_eq_true rfl⟩) rfl hl.1 (Nat.le_of_ble_eq_true rfl) rfl dX7_even_48 ⟨Nat.le_of_ble_eq_true rfl, Nat.le_of_ble_eq_true rfl⟩ (fun H locs hI => ?_)
          refine lv_icmp_ne (tgt := 58) hx hb dX7_even_51 (by decide) (fun c17 => ?_) (fun c17 => ?_)
          · have hf := o_neg hf c17
            refine lv_iconst (v := 0) hx hb dX7_even_58 (by decide) ?_
            exact hret hf hI dX7_even_59
          · have hf := o_pos hf c17
            refine lv_iconst (v := 1) hx hb dX7_even_54 (by decide) ?_
            refine lv_goto (tgt := 59) hx hb dX7_even_55 (by decide) ?_
            exact hret hf hI dX7_even_59
        · have hf := o_pos hf c12
          refine lv_bipush (v := -2) hx hb dX7_even_34 (by decide) ?_
          exact hret hf hI dX7_even_36
/-! clashes -/
def f7_clashes_b111 (K31 : Int32 → Int32 → Int32 → Int32 → MS → oI Int32) (x1 : Int32) (x2 : Int32) (x3 : Int32) (x4 : Int32) (σ : MS) : oI Int32 :=
  K31 x1 x2 x3 (x4 + 1) σ
def f7_clashes_b109 (K31 : Int32 → Int32 → Int32 → Int32 → MS → oI Int32) (x1 : Int32) (x2 : Int32) (x4 : Int32) (z0 : Int32) (z1 : Int32) (σ : MS) : oI Int32 :=
  f7_clashes_b111 K31 x1 x2 (z0 + z1) x4 σ
def f7_clashes_b31 (K31 : Int32 → Int32 → Int32 → Int32 → MS → oI Int32) (x1 : Int32) (x2 : Int32) (x3 : Int32) (x4 : Int32) (σ : MS) : oI Int32 :=
  bnd (f7_stateMany σ) fun r11 σ10 =>
  if r11 ≤ x4 then (some (x3, σ10)) else (grd (inB x4 64) <|
  if (gA σ10 19 x4.toNatClampNeg) = 0 then (f7_clashes_b111 K31 x1 x2 x3 x4 σ10) else (bnd (f7_goesTo x1 x4 σ10) fun r16 σ15 =>
  if r16 = (-1) then (f7_clashes_b111 K31 x1 x2 x3 x4 σ15) else (bnd (f7_goesTo x2 x4 σ15) fun r19 σ18 =>
  if r19 = (-1) then (f7_clashes_b111 K31 x1 x2 x3 x4 σ18) else (bnd (f7_goesTo x1 x4 σ18) fun r22 σ21 =>
  bnd (f7_goesTo x2 x4 σ21) fun r24 σ23 =>
  bnd (f7_mergeOf x4 r22 r24 σ23) fun r26 σ25 =>
  grd (inB r26 64) <|
  if (gA σ25 19 r26.toNatClampNeg) = 0 then (f7_clashes_b109 K31 x1 x2 x4 x3 1 σ25) else (f7_clashes_b109 K31 x1 x2 x4 x3 0 σ25)))))
def f7_clashes_l31 : Nat → Int32 → Int32 → Int32 → Int32 → MS → oI Int32
  | 0 => fun _ _ _ _ _ => none
  | n + 1 => fun x1 x2 x3 x4 σ => f7_clashes_b31 (f7_clashes_l31 n) x1 x2 x3 x4 σ
def f7_clashes (p0 : Int32) (p1 : Int32) (σ : MS) : oI Int32 :=
  bnd (f7_asks σ) fun r2 σ1 =>
  if r2 = 0 then (some ((-2), σ1)) else (bnd (f7_isOp p0 σ1) fun r5 σ4 =>
  if r5 = 0 then (some ((-2), σ4)) else (bnd (f7_isOp p1 σ4) fun r8 σ7 =>
  if r8 = 0 then (some ((-2), σ7)) else (f7_clashes_l31 FU p0 p1 0 0 σ7)))
abbrev r7_clashes : Room := { frames := 6, cells := 0, slots := 0, locals := 140 }
theorem m7_clashes (l : Launch) (D : va_G) (cl : vC2) (Z : (Nat → Prop) → State → Heap → Prop) (hz : ZK Z) (ci : Nat) (A : Nat → Nat) (d : Nat → ClassId) (tm : List (ClassId × FieldType)) (hc : cl.1[ci]? = some (RX7, TX7, 42)) (p0 : Int32) (p1 : Int32) (σ : MS) (r : Int32) (σ' : MS) (hf : f7_clashes p0 p1 σ = some (r, σ')) : MMi l yX7_clashes (ws_ yX7_clashes cX7_clashes 5 (some .int)) r7_clashes D cl Z ci A d tm σ [.int p0, .int p1] r σ' := by
  refine m_openi hz (by decide) (by exact Nat.le_of_ble_eq_true rfl) (fun p e s m args below meth c ls A0 Q X hI hl hret => ?_)
  have X : XC p s m args meth c cX7_clashes 5 RX7 D cl (mty d tm) A0 Z := X
  have hx := X.1
  have hb := X.2.1
  have hown := X.2.2.2.1
  have hts := X.2.2.2.2.1
  have L31 : ∀ (n : Nat) (x1 : Int32) (x2 : Int32) (x3 : Int32) (x4 : Int32) (σ : MS), f7_clashes_l31 n x1 x2 x3 x4 σ = some (r, σ') → ∀ (H : Heap) (locs : List Loc), XI D cl (mw ci A d σ) A0 s.heap H locs → ∀ (ls : Array Slot), lv_has ls 5 [(0, .ref (A 0)), (1, .int x1), (2, .int x2), (3, .int x3), (4, .int x4)] → W p l e r7_clashes s m args below meth c H locs 0 0 Q (F0 m 31 ls []) := by
    intro n31
    induction n31 with
    | zero => intro x1 x2 x3 x4 σ hf; cases hf
    | succ n31 ih31 =>
      have J111 : ∀ (x1 : Int32) (x2 : Int32) (x3 : Int32) (x4 : Int32) (σ : MS), f7_clashes_b111 (f7_clashes_l31 n31) x1 x2 x3 x4 σ = some (r, σ') → ∀ (H : Heap) (locs : List Loc), XI D cl (mw ci A d σ) A0 s.heap H locs → ∀ (ls : Array Slot), lv_has ls 5 [(0, .ref (A 0)), (1, .int x1), (2, .int x2), (3, .int x3), (4, .int x4)] → W p l e r7_clashes s m args below meth c H locs 0 0 Q (F0 m 111 ls []) := by
        intro x1 x2 x3 x4 σ hf H locs hI ls hl
        unfold f7_clashes_b111 at hf
        refine lv_iinc (v := x4 + 1) (lv' := [(4, .int (x4 + 1)), (0, .ref (A 0)), (1, .int x1), (2, .int x2), (3, .int x3)]) hx hb dX7_clashes_111 hl (k := 4) rfl rfl (by decide) rfl (fun ls hl => ?_)
        refine lv_goto (tgt := 31) hx hb dX7_clashes_114 (by decide) ?_
        exact ih31 x1 x2 x3 (x4 + 1) σ hf H locs hI ls (lv_sub hl [1, 2, 3, 4, 0] rfl)
      have J109 : ∀ (x1 : Int32) (x2 : Int32) (x4 : Int32) (z0 : Int32) (z1 : Int32) (σ : MS), f7_clashes_b109 (f7_clashes_l31 n31) x1 x2 x4 z0 z1 σ = some (r, σ') → ∀ (H : Heap) (locs : List Loc), XI D cl (mw ci A d σ) A0 s.heap H locs → ∀ (ls : Array Slot), lv_has ls 5 [(0, .ref (A 0)), (1, .int x1), (2, .int x2), (4, .int x4)] → W p l e r7_clashes s m args below meth c H locs 0 0 Q (F0 m 109 ls [.int z1, .int z0]) := by
        intro x1 x2 x4 z0 z1 σ hf H locs hI ls hl
        unfold f7_clashes_b109 at hf
        refine lv_iadd hx hb dX7_clashes_109 ?_
        refine lv_istore_n (lv' := [(3, .int (z0 + z1)), (0, .ref (A 0)), (1, .int x1), (2, .int x2), (4, .int x4)]) hx hb dX7_clashes_110 rfl hl (by decide) rfl (fun ls hl => ?_)
        exact J111 x1 x2 (z0 + z1) x4 σ hf H locs hI ls (lv_sub hl [1, 2, 3, 0, 4] rfl)
      intro x1 x2 x3 x4 σ hf H locs hI ls hl
      have hf : f7_clashes_b31 (f7_clashes_l31 n31) x1 x2 x3 x4 σ = some (r, σ') := hf
      unfold f7_clashes_b31 at hf
      refine lv_iload hx hb dX7_clashes_31 (lv_at hl 4 rfl) ?_
      refine lv_aload_n hx hb dX7_clashes_33 rfl (lv_at hl 0 rfl) ?_
      obtain ⟨r11, σ10, hσ10, hf⟩ := bnd_some hf
      refine m_calli X hI hc [] (m7_stateMany l D cl Z hz ci A d tm hc σ r11 σ10 hσ10) (cw7_stateMany hts ⟨Nat.le_of_ble_eq_true rfl, Nat.le_of_ble_eq_true rfl⟩) rfl hl.1 (Nat.le_of_ble_eq_true rfl) rfl dX7_clashes_34 ⟨Nat.le_of_ble_eq_true rfl, Nat.le_of_ble_eq_true rfl⟩ (fun H locs hI => ?_)
      refine lv_icmp_ge (tgt := 117) hx hb dX7_clashes_37 (by decide) (fun c12 => ?_) (fun c12 => ?_)
      · have hf := o_pos hf c12
        refine lv_iload_n hx hb dX7_clashes_117 rfl (lv_at hl 3 rfl) ?_
        exact hret hf hI dX7_clashes_118
      · have hf := o_neg hf c12
        refine lv_aload_n hx hb dX7_clashes_40 rfl (lv_at hl 0 rfl) ?_
        refine m_get (v := .ref (A 19)) X hI hc 19 (by decide) q2677 rfl dX7_clashes_41 ?_
        refine lv_iload hx hb dX7_clashes_44 (lv_at hl 4 rfl) ?_
        obtain ⟨g13, hf⟩ := grd_some hf
        refine m_zald X hI 19 8 64 rfl rfl g13 dX7_clashes_46 ?_
        refine lv_if_eq (tgt := 111) hx hb dX7_clashes_47 (by decide) (fun c14 => ?_) (fun c14 => ?_)
        · have hf := o_pos hf c14
          exact J111 x1 x2 x3 x4 σ10 hf H locs hI ls (lv_sub hl [0, 1, 2, 3, 4] rfl)
        · have hf := o_neg hf c14
          refine lv_aload_n hx hb dX7_clashes_50 rfl (lv_at hl 0 rfl) ?_
          refine lv_iload_n hx hb dX7_clashes_51 rfl (lv_at hl 1 rfl) ?_
          refine lv_iload hx hb dX7_clashes_52 (lv_at hl 4 rfl) ?_
          obtain ⟨r16, σ15, hσ15, hf⟩ := bnd_some hf
          refine m_calli X hI hc [.int x1, .int x4] (m7_goesTo l D cl Z hz ci A d tm hc x1 x4 σ10 r16 σ15 hσ15) (cw7_goesTo hts ⟨Nat.le_of_ble_eq_true rfl, Nat.le_of_ble_eq_true rfl⟩) rfl hl.1 (Nat.le_of_ble_eq_true rfl) rfl dX7_clashes_54 ⟨Nat.le_of_ble_eq_true rfl, Nat.le_of_ble_eq_true rfl⟩ (fun H locs hI => ?_)
          refine lv_iconst (v := -1) hx hb dX7_clashes_57 (by decide) ?_
          refine lv_icmp_eq (tgt := 111) hx hb dX7_clashes_58 (by decide) (fun c17 => ?_) (fun c17 => ?_)
          · have hf := o_pos hf c17
            exact J111 x1 x2 x3 x4 σ15 hf H locs hI ls (lv_sub hl [0, 1, 2, 3, 4] rfl)
          · have hf := o_neg hf c17
            refine lv_aload_n hx hb dX7_clashes_61 rfl (lv_at hl 0 rfl) ?_
            refine lv_iload_n hx hb dX7_clashes_62 rfl (lv_at hl 2 rfl) ?_
            refine lv_iload hx hb dX7_clashes_63 (lv_at hl 4 rfl) ?_
            obtain ⟨r19, σ18, hσ18, hf⟩ := bnd_some hf
            refine m_calli X hI hc [.int x2, .int x4] (m7_goesTo l D cl Z hz ci A d tm hc x2 x4 σ15 r19 σ18 hσ18) (cw7_goesTo hts ⟨Nat.le_of_ble_eq_true rfl, Nat.le_of_ble_eq_true rfl⟩) rfl hl.1 (Nat.le_of_ble_eq_true rfl) rfl dX7_clashes_65 ⟨Nat.le_of_ble_eq_true rfl, Nat.le_of_ble_eq_true rfl⟩ (fun H locs hI => ?_)
            refine lv_iconst (v := -1) hx hb dX7_clashes_68 (by decide) ?_
            refine lv_icmp_ne (tgt := 75) hx hb dX7_clashes_69 (by decide) (fun c20 => ?_) (fun c20 => ?_)
            · have hf := o_neg hf c20
              refine lv_iload_n hx hb dX7_clashes_75 rfl (lv_at hl 3 rfl) ?_
              refine lv_aload_n hx hb dX7_clashes_76 rfl (lv_at hl 0 rfl) ?_
              refine m_get (v := .ref (A 19)) X hI hc 19 (by decide) q2677 rfl dX7_clashes_77 ?_
              refine lv_aload_n hx hb dX7_clashes_80 rfl (lv_at hl 0 rfl) ?_
              refine lv_iload hx hb dX7_clashes_81 (lv_at hl 4 rfl) ?_
              refine lv_aload_n hx hb dX7_clashes_83 rfl (lv_at hl 0 rfl) ?_
              refine lv_iload_n hx hb dX7_clashes_84 rfl (lv_at hl 1 rfl) ?_
              refine lv_iload hx hb dX7_clashes_85 (lv_at hl 4 rfl) ?_
              obtain ⟨r22, σ21, hσ21, hf⟩ := bnd_some hf
              refine m_calli X hI hc [.int x1, .int x4] (m7_goesTo l D cl Z hz ci A d tm hc x1 x4 σ18 r22 σ21 hσ21) (cw7_goesTo hts ⟨Nat.le_of_ble_eq_true rfl, Nat.le_of_ble_eq_true rfl⟩) rfl hl.1 (Nat.le_of_ble_eq_true rfl) rfl dX7_clashes_87 ⟨Nat.le_of_ble_eq_true rfl, Nat.le_of_ble_eq_true rfl⟩ (fun H locs hI => ?_)
              refine lv_aload_n hx hb dX7_clashes_90 rfl (lv_at hl 0 rfl) ?_
              refine lv_iload_n hx hb dX7_clashes_91 rfl (lv_at hl 2 rfl) ?_
              refine lv_iload hx hb dX7_clashes_92 (lv_at hl 4 rfl) ?_
              obtain ⟨r24, σ23, hσ23, hf⟩ := bnd_some hf
              refine m_calli X hI hc [.int x2, .int x4] (m7_goesTo l D cl Z hz ci A d tm hc x2 x4 σ21 r24 σ23 hσ23) (cw7_goesTo hts ⟨Nat.le_of_ble_eq_true rfl, Nat.le_of_ble_eq_true rfl⟩) rfl hl.1 (Nat.le_of_ble_eq_true rfl) rfl dX7_clashes_94 ⟨Nat.le_of_ble_eq_true rfl, Nat.le_of_ble_eq_true rfl⟩ (fun H locs hI => ?_)
              obtain ⟨r26, σ25, hσ25, hf⟩ := bnd_some hf
              refine m_calli X hI hc [.int x4, .int r22, .int r24] (m7_mergeOf l D cl Z hz ci A d tm hc x4 r22 r24 σ23 r26 σ25 hσ25) (cw7_mergeOf hts ⟨Nat.le_of_ble_eq_true rfl, Nat.le_of_ble_eq_true rfl⟩) rfl hl.1 (Nat.le_of_ble_eq_true rfl) rfl dX7_clashes_97 ⟨Nat.le_of_ble_eq_true rfl, Nat.le_of_ble_eq_true rfl⟩ (fun H locs hI => ?_)
              obtain ⟨g27, hf⟩ := grd_some hf
              refine m_zald X hI 19 8 64 rfl rfl g27 dX7_clashes_100 ?_
              refine lv_if_eq (tgt := 108) hx hb dX7_clashes_101 (by decide) (fun c28 => ?_) (fun c28 => ?_)
              · have hf := o_pos hf c28
                refine lv_iconst (v := 1) hx hb dX7_clashes_108 (by decide) ?_
                exact J109 x1 x2 x4 x3 1 σ25 hf H locs hI ls (lv_sub hl [0, 1, 2, 4] rfl)
              · have hf := o_neg hf c28
                refine lv_iconst (v := 0) hx hb dX7_clashes_104 (by decide) ?_
                refine lv_goto (tgt := 109) hx hb dX7_clashes_105 (by decide) ?_
                exact J109 x1 x2 x4 x3 0 σ25 hf H locs hI ls (lv_sub hl [0, 1, 2, 4] rfl)
            · have hf := o_pos hf c20
              refine lv_goto (tgt := 111) hx hb dX7_clashes_72 (by decide) ?_
              exact J111 x1 x2 x3 x4 σ18 hf H locs hI ls (lv_sub hl [0, 1, 2, 3, 4] rfl)
  have hl : lv_has ls 5 [(0, .ref (A 0)), (1, .int p0), (2, .int p1)] := hl
  unfold f7_clashes at hf
  obtain ⟨H, eH⟩ : ∃ H, H = s.heap := ⟨_, rfl⟩
  obtain ⟨locs, eL⟩ : ∃ locs : List Loc, locs = [] := ⟨_, rfl⟩
  have hI : XI D cl (mw ci A d σ) A0 s.heap H locs := by rw [eH, eL]; exact hI
  rw [← eL]
  suffices h : W p l e r7_clashes s m args below meth c H locs 0 0 Q (F0 m 0 ls []) by rw [eH] at h; exact h
  clear eH eL
  refine lv_aload_n hx hb dX7_clashes_0 rfl (lv_at hl 0 rfl) ?_
  obtain ⟨r2, σ1, hσ1, hf⟩ := bnd_some hf
  refine m_calli X hI hc [] (m7_asks l D cl Z hz ci A d tm hc σ r2 σ1 hσ1) (cw7_asks hts ⟨Nat.le_of_ble_eq_true rfl, Nat.le_of_ble_eq_true rfl⟩) rfl hl.1 (Nat.le_of_ble_eq_true rfl) rfl dX7_clashes_1 ⟨Nat.le_of_ble_eq_true rfl, Nat.le_of_ble_eq_true rfl⟩ (fun H locs hI => ?_)
  refine lv_if_eq (tgt := 23) hx hb dX7_clashes_4 (by decide) (fun c3 => ?_) (fun c3 => ?_)
  · have hf := o_pos hf c3
    refine lv_bipush (v := -2) hx hb dX7_clashes_23 (by decide) ?_
    exact hret hf hI dX7_clashes_25
  · have hf := o_neg hf c3
    refine lv_aload_n hx hb dX7_clashes_7 rfl (lv_at hl 0 rfl) ?_
    refine lv_iload_n hx hb dX7_clashes_8 rfl (lv_at hl 1 rfl) ?_
    obtain ⟨r5, σ4, hσ4, hf⟩ := bnd_some hf
    refine m_calli X hI hc [.int p0] (m7_isOp l D cl Z hz ci A d tm hc p0 σ1 r5 σ4 hσ4) (cw7_isOp hts ⟨Nat.le_of_ble_eq_true rfl, Nat.le_of_ble_eq_true rfl⟩) rfl hl.1 (Nat.le_of_ble_eq_true rfl) rfl dX7_clashes_9 ⟨Nat.le_of_ble_eq_true rfl, Nat.le_of_ble_eq_true rfl⟩ (fun H locs hI => ?_)
    refine lv_if_eq (tgt := 23) hx hb dX7_clashes_12 (by decide) (fun c6 => ?_) (fun c6 => ?_)
    · have hf := o_pos hf c6
      refine lv_bipush (v := -2) hx hb dX7_clashes_23 (by decide) ?_
      exact hret hf hI dX7_clashes_25
    · have hf := o_neg hf c6
      refine lv_aload_n hx hb dX7_clashes_15 rfl (lv_at hl 0 rfl) ?_
      refine lv_iload_n hx hb dX7_clashes_16 rfl (lv_at hl 2 rfl) ?_
      obtain ⟨r8, σ7, hσ7, hf⟩ := bnd_some hf
      refine m_calli X hI hc [.int p1] (m7_isOp l D cl Z hz ci A d tm hc p1 σ4 r8 σ7 hσ7) (cw7_isOp hts ⟨Nat.le_of_ble_eq_true rfl, Nat.le_of_ble_eq_true rfl⟩) rfl hl.1 (Nat.le_of_ble_eq_true rfl) rfl dX7_clashes_17 ⟨Nat.le_of_ble_eq_true rfl, Nat.le_of_ble_eq_true rfl⟩ (fun H locs hI => ?_)
      refine lv_if_ne (tgt := 26) hx hb dX7_clashes_20 (by decide) (fun c9 => ?_) (fun c9 => ?_)
      · have hf := o_neg hf c9
        refine lv_iconst (v := 0) hx hb dX7_clashes_26 (by decide) ?_
        refine lv_istore_n (lv' := [(3, .int 0), (0, .ref (A 0)), (1, .int p0), (2, .int p1)]) hx hb dX7_clashes_27 rfl hl (by decide) rfl (fun ls hl => ?_)
        refine lv_iconst (v := 0) hx hb dX7_clashes_28 (by decide) ?_
        refine lv_istore (lv' := [(4, .int 0), (3, .int 0), (0, .ref (A 0)), (1, .int p0), (2, .int p1)]) hx hb dX7_clashes_29 hl (by decide) rfl (fun ls hl => ?_)
        exact L31 FU p0 p1 0 0 σ7 hf H locs hI ls (lv_sub hl [2, 3, 4, 1, 0] rfl)
      · have hf := o_pos hf c9
        refine lv_bipush (v := -2) hx hb dX7_clashes_23 (by decide) ?_
        exact hret hf hI dX7_clashes_25
/-! layFar_21 -/
def f7_layFar_21_b136 (K40 : Int32 → Int32 → MS → Option MS) (K49 : Int32 → Int32 → Int32 → MS → Option MS) (x3 : Int32) (x4 : Int32) (x5 : Int32) (σ : MS) : Option MS :=
  K49 x3 x4 (x5 + 1) σ
def f7_layFar_21_b130 (K40 : Int32 → Int32 → MS → Option MS) (K49 : Int32 → Int32 → Int32 → MS → Option MS) (K73 : Int32 → Int32 → Int32 → Int32 → MS → Option MS) (x3 : Int32) (x4 : Int32) (x5 : Int32) (x6 : Int32) (σ : MS) : Option MS :=
  K73 x3 x4 x5 (x6 + 1) σ
def f7_layFar_21_b73 (K40 : Int32 → Int32 → MS → Option MS) (K49 : Int32 → Int32 → Int32 → MS → Option MS) (K73 : Int32 → Int32 → Int32 → Int32 → MS → Option MS) (x3 : Int32) (x4 : Int32) (x5 : Int32) (x6 : Int32) (σ : MS) : Option MS :=
  bnd (f7_ops σ) fun r15 σ14 =>
  if r15 ≤ x6 then (f7_layFar_21_b136 K40 K49 x3 x4 x5 σ14) else (bn1 (f7_bit x3 x6) fun r17 =>
  if r17 = 0 then (bnd (f7_goesTo x6 x5 σ14) fun r20 σ19 =>
  if r20 = (-1) then (f7_layFar_21_b130 K40 K49 K73 x3 x4 x5 x6 σ19) else (bnd (f7_goesTo x6 x5 σ19) fun r23 σ22 =>
  bnd (f7_goesTo x6 x5 σ22) fun r25 σ24 =>
  grd (inB r25 64) <|
  grd (inB r23 64) <|
  nxt (sA σ24 21 r23.toNatClampNeg (if (x4 + 1) < (gA σ24 21 r25.toNatClampNeg) then (x4 + 1) else (gA σ24 21 r25.toNatClampNeg))) fun σ28 =>
  f7_layFar_21_b130 K40 K49 K73 x3 x4 x5 x6 σ28)) else (f7_layFar_21_b130 K40 K49 K73 x3 x4 x5 x6 σ14))
def f7_layFar_21_l73 (K40 : Int32 → Int32 → MS → Option MS) (K49 : Int32 → Int32 → Int32 → MS → Option MS) : Nat → Int32 → Int32 → Int32 → Int32 → MS → Option MS
  | 0 => fun _ _ _ _ _ => none
  | n + 1 => fun x3 x4 x5 x6 σ => f7_layFar_21_b73 K40 K49 (f7_layFar_21_l73 K40 K49 n) x3 x4 x5 x6 σ
def f7_layFar_21_b49 (K40 : Int32 → Int32 → MS → Option MS) (K49 : Int32 → Int32 → Int32 → MS → Option MS) (x3 : Int32) (x4 : Int32) (x5 : Int32) (σ : MS) : Option MS :=
  bnd (f7_stateMany σ) fun r10 σ9 =>
  if r10 ≤ x5 then (K40 x3 (x4 + 1) σ9) else (grd (inB x5 64) <|
  if (gA σ9 21 x5.toNatClampNeg) = x4 then (f7_layFar_21_l73 K40 K49 FU x3 x4 x5 0 σ9) else (f7_layFar_21_b136 K40 K49 x3 x4 x5 σ9))
def f7_layFar_21_l49 (K40 : Int32 → Int32 → MS → Option MS) : Nat → Int32 → Int32 → Int32 → MS → Option MS
  | 0 => fun _ _ _ _ => none
  | n + 1 => fun x3 x4 x5 σ => f7_layFar_21_b49 K40 (f7_layFar_21_l49 K40 n) x3 x4 x5 σ
def f7_layFar_21_b40 (K40 : Int32 → Int32 → MS → Option MS) (x3 : Int32) (x4 : Int32) (σ : MS) : Option MS :=
  if 3 ≤ x4 then (some σ) else (f7_layFar_21_l49 K40 FU x3 x4 0 σ)
def f7_layFar_21_l40 : Nat → Int32 → Int32 → MS → Option MS
  | 0 => fun _ _ _ => none
  | n + 1 => fun x3 x4 σ => f7_layFar_21_b40 (f7_layFar_21_l40 n) x3 x4 σ
def f7_layFar_21_b3 (K3 : Int32 → Int32 → Int32 → MS → Option MS) (x2 : Int32) (x3 : Int32) (x4 : Int32) (σ : MS) : Option MS :=
  if 64 ≤ x4 then (grd (inB x2 64) <|
  if (gA σ 19 x2.toNatClampNeg) = 0 then (some σ) else (grd (inB x2 64) <|
  nxt (sA σ 21 x2.toNatClampNeg 0) fun σ5 =>
  f7_layFar_21_l40 FU x3 0 σ5)) else (grd (inB x4 64) <|
  nxt (sA σ 21 x4.toNatClampNeg 1000000000) fun σ7 =>
  K3 x2 x3 (x4 + 1) σ7)
def f7_layFar_21_l3 : Nat → Int32 → Int32 → Int32 → MS → Option MS
  | 0 => fun _ _ _ _ => none
  | n + 1 => fun x2 x3 x4 σ => f7_layFar_21_b3 (f7_layFar_21_l3 n) x2 x3 x4 σ
def f7_layFar_21 (p1 : Int32) (p2 : Int32) (σ : MS) : Option MS :=
  f7_layFar_21_l3 FU p1 p2 0 σ
abbrev r7_layFar : Room := { frames := 2, cells := 0, slots := 0, locals := 42 }
theorem cw7_layFar {R : Room} {s : State} {args : Array Value} (ht : ∀ w ∈ lw_all, w.before args s = true) (hR : r7_layFar.frames + 1 ≤ R.frames ∧ 8 + (7 + 11) + r7_layFar.locals ≤ R.locals) : CallW R s args RX7 RX7 347 yX7_layFar cX7_layFar 7 none (ws_ yX7_layFar cX7_layFar 7 none) r7_layFar 0 0 3 :=
  cwV 3 ht (lw_V q3166 q3168 qs140 q178 q3169) rfl rfl rfl (by decide +kernel) hR
theorem m7_layFar_21 (l : Launch) (D : va_G) (cl : vC2) (Z : (Nat → Prop) → State → Heap → Prop) (hz : ZK Z) (ci : Nat) (A : Nat → Nat) (d : Nat → ClassId) (tm : List (ClassId × FieldType)) (hc : cl.1[ci]? = some (RX7, TX7, 42)) (p1 : Int32) (p2 : Int32) (σ : MS) (σ' : MS) (hf : f7_layFar_21 p1 p2 σ = some σ') : MMv l yX7_layFar (ws_ yX7_layFar cX7_layFar 7 none) r7_layFar D cl Z ci A d tm σ [.ref (A 21), .int p1, .int p2] σ' := by
  refine m_openv hz (by decide) (by exact Nat.le_of_ble_eq_true rfl) (fun p e s m args below meth c ls A0 Q X hI hl hret => ?_)
  have X : XC p s m args meth c cX7_layFar 7 RX7 D cl (mty d tm) A0 Z := X
  have hx := X.1
  have hb := X.2.1
  have hown := X.2.2.2.1
  have hts := X.2.2.2.2.1
  have L40 : ∀ (n : Nat) (x3 : Int32) (x4 : Int32) (σ : MS), f7_layFar_21_l40 n x3 x4 σ = some σ' → ∀ (H : Heap) (locs : List Loc), XI D cl (mw ci A d σ) A0 s.heap H locs → ∀ (ls : Array Slot), lv_has ls 7 [(0, .ref (A 0)), (1, .ref (A 21)), (3, .int x3), (4, .int x4)] → W p l e r7_layFar s m args below meth c H locs 0 0 Q (F0 m 40 ls []) := by
    intro n40
    induction n40 with
    | zero => intro x3 x4 σ hf; cases hf
    | succ n40 ih40 =>
      have L49 : ∀ (n : Nat) (x3 : Int32) (x4 : Int32) (x5 : Int32) (σ : MS), f7_layFar_21_l49 (f7_layFar_21_l40 n40) n x3 x4 x5 σ = some σ' → ∀ (H : Heap) (locs : List Loc), XI D cl (mw ci A d σ) A0 s.heap H locs → ∀ (ls : Array Slot), lv_has ls 7 [(0, .ref (A 0)), (1, .ref (A 21)), (3, .int x3), (4, .int x4), (5, .int x5)] → W p l e r7_layFar s m args below meth c H locs 0 0 Q (F0 m 49 ls []) := by
        intro n49
        induction n49 with
        | zero => intro x3 x4 x5 σ hf; cases hf
        | succ n49 ih49 =>
          have J136 : ∀ (x3 : Int32) (x4 : Int32) (x5 : Int32) (σ : MS), f7_layFar_21_b136 (f7_layFar_21_l40 n40) (f7_layFar_21_l49 (f7_layFar_21_l40 n40) n49) x3 x4 x5 σ = some σ' → ∀ (H : Heap) (locs : List Loc), XI D cl (mw ci A d σ) A0 s.heap H locs → ∀ (ls : Array Slot), lv_has ls 7 [(0, .ref (A 0)), (1, .ref (A 21)), (3, .int x3), (4, .int x4), (5, .int x5)] → W p l e r7_layFar s m args below meth c H locs 0 0 Q (F0 m 136 ls []) := by
            intro x3 x4 x5 σ hf H locs hI ls hl
            unfold f7_layFar_21_b136 at hf
            refine lv_iinc (v := x5 + 1) (lv' := [(5, .int (x5 + 1)), (0, .ref (A 0)), (1, .ref (A 21)), (3, .int x3), (4, .int x4)]) hx hb dX7_layFar_136 hl (k := 4) rfl rfl (by decide) rfl (fun ls hl => ?_)
            refine lv_goto (tgt := 49) hx hb dX7_layFar_139 (by decide) ?_
            exact ih49 x3 x4 (x5 + 1) σ hf H locs hI ls (lv_sub hl [1, 2, 3, 4, 0] rfl)
          have L73 : ∀ (n : Nat) (x3 : Int32) (x4 : Int32) (x5 : Int32) (x6 : Int32) (σ : MS), f7_layFar_21_l73 (f7_layFar_21_l40 n40) (f7_layFar_21_l49 (f7_layFar_21_l40 n40) n49) n x3 x4 x5 x6 σ = some σ' → ∀ (H : Heap) (locs : List Loc), XI D cl (mw ci A d σ) A0 s.heap H locs → ∀ (ls : Array Slot), lv_has ls 7 [(0, .ref (A 0)), (1, .ref (A 21)), (3, .int x3), (4, .int x4), (5, .int x5), (6, .int x6)] → W p l e r7_layFar s m args below meth c H locs 0 0 Q (F0 m 73 ls []) := by
            intro n73
            induction n73 with
            | zero => intro x3 x4 x5 x6 σ hf; cases hf
            | succ n73 ih73 =>
              have J130 : ∀ (x3 : Int32) (x4 : Int32) (x5 : Int32) (x6 : Int32) (σ : MS), f7_layFar_21_b130 (f7_layFar_21_l40 n40) (f7_layFar_21_l49 (f7_layFar_21_l40 n40) n49) (f7_layFar_21_l73 (f7_layFar_21_l40 n40) (f7_layFar_21_l49 (f7_layFar_21_l40 n40) n49) n73) x3 x4 x5 x6 σ = some σ' → ∀ (H : Heap) (locs : List Loc), XI D cl (mw ci A d σ) A0 s.heap H locs → ∀ (ls : Array Slot), lv_has ls 7 [(0, .ref (A 0)), (1, .ref (A 21)), (3, .int x3), (4, .int x4), (5, .int x5), (6, .int x6)] → W p l e r7_layFar s m args below meth c H locs 0 0 Q (F0 m 130 ls []) := by
                intro x3 x4 x5 x6 σ hf H locs hI ls hl
                unfold f7_layFar_21_b130 at hf
                refine lv_iinc (v := x6 + 1) (lv' := [(6, .int (x6 + 1)), (0, .ref (A 0)), (1, .ref (A 21)), (3, .int x3), (4, .int x4), (5, .int x5)]) hx hb dX7_layFar_130 hl (k := 5) rfl rfl (by decide) rfl (fun ls hl => ?_)
                refine lv_goto (tgt := 73) hx hb dX7_layFar_133 (by decide) ?_
                exact ih73 x3 x4 x5 (x6 + 1) σ hf H locs hI ls (lv_sub hl [1, 2, 3, 4, 5, 0] rfl)
              intro x3 x4 x5 x6 σ hf H locs hI ls hl
              have hf : f7_layFar_21_b73 (f7_layFar_21_l40 n40) (f7_layFar_21_l49 (f7_layFar_21_l40 n40) n49) (f7_layFar_21_l73 (f7_layFar_21_l40 n40) (f7_layFar_21_l49 (f7_layFar_21_l40 n40) n49) n73) x3 x4 x5 x6 σ = some σ' := hf
              unfold f7_layFar_21_b73 at hf
              refine lv_iload hx hb dX7_layFar_73 (lv_at hl 5 rfl) ?_
              refine lv_aload_n hx hb dX7_layFar_75 rfl (lv_at hl 0 rfl) ?_
              obtain ⟨r15, σ14, hσ14, hf⟩ := bnd_some hf
              refine m_calli X hI hc [] (m7_ops l D cl Z hz ci A d tm hc σ r15 σ14 hσ14) (cw7_ops hts ⟨Nat.le_of_ble_eq_true rfl, Nat.le_of_ble_eq_true rfl⟩) rfl hl.1 (Nat.le_of_ble_eq_true rfl) rfl dX7_layFar_76 ⟨Nat.le_of_ble_eq_true rfl, Nat.le_of_ble_eq_true rfl⟩ (fun H locs hI => ?_)
              refine lv_icmp_ge (tgt := 136) hx hb dX7_layFar_79 (by decide) (fun c16 => ?_) (fun c16 => ?_)
              · have hf := o_pos hf c16
                exact J136 x3 x4 x5 σ14 hf H locs hI ls (lv_sub hl [0, 1, 2, 3, 4] rfl)
              · have hf := o_neg hf c16
                refine lv_iload_n hx hb dX7_layFar_82 rfl (lv_at hl 2 rfl) ?_
                refine lv_iload hx hb dX7_layFar_83 (lv_at hl 5 rfl) ?_
                obtain ⟨r17, hr17, hf⟩ := bn1_some hf
                refine x_callSi (As := [.int x3, .int x6]) X hI (m7_bit l x3 x6 r17 hr17) (cw7_bit hts ⟨Nat.le_of_ble_eq_true rfl, Nat.le_of_ble_eq_true rfl⟩) rfl hl.1 (Nat.le_of_ble_eq_true rfl) rfl dX7_layFar_85 ⟨Nat.le_of_ble_eq_true rfl, Nat.le_of_ble_eq_true rfl⟩ (fun H locs hI => ?_)
                refine lv_if_ne (tgt := 130) hx hb dX7_layFar_88 (by decide) (fun c18 => ?_) (fun c18 => ?_)
                · have hf := o_neg hf c18
                  exact J130 x3 x4 x5 x6 σ14 hf H locs hI ls (lv_sub hl [0, 1, 2, 3, 4, 5] rfl)
                · have hf := o_pos hf c18
                  refine lv_aload_n hx hb dX7_layFar_91 rfl (lv_at hl 0 rfl) ?_
                  refine lv_iload hx hb dX7_layFar_92 (lv_at hl 5 rfl) ?_
                  refine lv_iload hx hb dX7_layFar_94 (lv_at hl 4 rfl) ?_
                  obtain ⟨r20, σ19, hσ19, hf⟩ := bnd_some hf
                  refine m_calli X hI hc [.int x6, .int x5] (m7_goesTo l D cl Z hz ci A d tm hc x6 x5 σ14 r20 σ19 hσ19) (cw7_goesTo hts ⟨Nat.le_of_ble_eq_true rfl, Nat.le_of_ble_eq_true rfl⟩) rfl hl.1 (Nat.le_of_ble_eq_true rfl) rfl dX7_layFar_96 ⟨Nat.le_of_ble_eq_true rfl, Nat.le_of_ble_eq_true rfl⟩ (fun H locs hI => ?_)
                  refine lv_iconst (v := -1) hx hb dX7_layFar_99 (by decide) ?_
                  refine lv_icmp_eq (tgt := 130) hx hb dX7_layFar_100 (by decide) (fun c21 => ?_) (fun c21 => ?_)
                  · have hf := o_pos hf c21
                    exact J130 x3 x4 x5 x6 σ19 hf H locs hI ls (lv_sub hl [0, 1, 2, 3, 4, 5] rfl)
                  · have hf := o_neg hf c21
                    refine lv_aload_n hx hb dX7_layFar_103 rfl (lv_at hl 1 rfl) ?_
                    refine lv_aload_n hx hb dX7_layFar_104 rfl (lv_at hl 0 rfl) ?_
                    refine lv_iload hx hb dX7_layFar_105 (lv_at hl 5 rfl) ?_
                    refine lv_iload hx hb dX7_layFar_107 (lv_at hl 4 rfl) ?_
                    obtain ⟨r23, σ22, hσ22, hf⟩ := bnd_some hf
                    refine m_calli X hI hc [.int x6, .int x5] (m7_goesTo l D cl Z hz ci A d tm hc x6 x5 σ19 r23 σ22 hσ22) (cw7_goesTo hts ⟨Nat.le_of_ble_eq_true rfl, Nat.le_of_ble_eq_true rfl⟩) rfl hl.1 (Nat.le_of_ble_eq_true rfl) rfl dX7_layFar_109 ⟨Nat.le_of_ble_eq_true rfl, Nat.le_of_ble_eq_true rfl⟩ (fun H locs hI => ?_)
                    refine lv_aload_n hx hb dX7_layFar_112 rfl (lv_at hl 1 rfl) ?_
                    refine lv_aload_n hx hb dX7_layFar_113 rfl (lv_at hl 0 rfl) ?_
                    refine lv_iload hx hb dX7_layFar_114 (lv_at hl 5 rfl) ?_
                    refine lv_iload hx hb dX7_layFar_116 (lv_at hl 4 rfl) ?_
                    obtain ⟨r25, σ24, hσ24, hf⟩ := bnd_some hf
                    refine m_calli X hI hc [.int x6, .int x5] (m7_goesTo l D cl Z hz ci A d tm hc x6 x5 σ22 r25 σ24 hσ24) (cw7_goesTo hts ⟨Nat.le_of_ble_eq_true rfl, Nat.le_of_ble_eq_true rfl⟩) rfl hl.1 (Nat.le_of_ble_eq_true rfl) rfl dX7_layFar_118 ⟨Nat.le_of_ble_eq_true rfl, Nat.le_of_ble_eq_true rfl⟩ (fun H locs hI => ?_)
                    obtain ⟨g26, hf⟩ := grd_some hf
                    refine m_iald X hI 21 10 64 rfl rfl g26 dX7_layFar_121 ?_
                    refine lv_iload hx hb dX7_layFar_122 (lv_at hl 3 rfl) ?_
                    refine lv_iconst (v := 1) hx hb dX7_layFar_124 (by decide) ?_
                    refine lv_iadd hx hb dX7_layFar_125 ?_
                    refine x_mmin X hl.1 q2826 q638 q173 q639 ⟨Nat.le_of_ble_eq_true rfl, Nat.le_of_ble_eq_true rfl⟩ (Nat.le_of_ble_eq_true rfl) ⟨Nat.le_of_ble_eq_true rfl, Nat.le_of_ble_eq_true rfl⟩ dX7_layFar_126 ?_
                    obtain ⟨g27, hf⟩ := grd_some hf
                    refine m_iast X hI 21 10 64 rfl rfl g27 rfl dX7_layFar_129 (fun H locs hI => ?_)
                    obtain ⟨σ28, eσ28, hf⟩ := nxt_some hf
                    rw [← eσ28] at hI
                    clear eσ28
                    exact J130 x3 x4 x5 x6 σ28 hf H locs hI ls (lv_sub hl [0, 1, 2, 3, 4, 5] rfl)
          intro x3 x4 x5 σ hf H locs hI ls hl
          have hf : f7_layFar_21_b49 (f7_layFar_21_l40 n40) (f7_layFar_21_l49 (f7_layFar_21_l40 n40) n49) x3 x4 x5 σ = some σ' := hf
          unfold f7_layFar_21_b49 at hf
          refine lv_iload hx hb dX7_layFar_49 (lv_at hl 4 rfl) ?_
          refine lv_aload_n hx hb dX7_layFar_51 rfl (lv_at hl 0 rfl) ?_
          obtain ⟨r10, σ9, hσ9, hf⟩ := bnd_some hf
          refine m_calli X hI hc [] (m7_stateMany l D cl Z hz ci A d tm hc σ r10 σ9 hσ9) (cw7_stateMany hts ⟨Nat.le_of_ble_eq_true rfl, Nat.le_of_ble_eq_true rfl⟩) rfl hl.1 (Nat.le_of_ble_eq_true rfl) rfl dX7_layFar_52 ⟨Nat.le_of_ble_eq_true rfl, Nat.le_of_ble_eq_true rfl⟩ (fun H locs hI => ?_)
          refine lv_icmp_ge (tgt := 142) hx hb dX7_layFar_55 (by decide) (fun c11 => ?_) (fun c11 => ?_)
          · have hf := o_pos hf c11
            refine lv_iinc (v := x4 + 1) (lv' := [(4, .int (x4 + 1)), (0, .ref (A 0)), (1, .ref (A 21)), (3, .int x3), (5, .int x5)]) hx hb dX7_layFar_142 hl (k := 3) rfl rfl (by decide) rfl (fun ls hl => ?_)
            refine lv_goto (tgt := 40) hx hb dX7_layFar_145 (by decide) ?_
            exact ih40 x3 (x4 + 1) σ9 hf H locs hI ls (lv_sub hl [1, 2, 3, 0] rfl)
          · have hf := o_neg hf c11
            refine lv_aload_n hx hb dX7_layFar_58 rfl (lv_at hl 1 rfl) ?_
            refine lv_iload hx hb dX7_layFar_59 (lv_at hl 4 rfl) ?_
            obtain ⟨g12, hf⟩ := grd_some hf
            refine m_iald X hI 21 10 64 rfl rfl g12 dX7_layFar_61 ?_
            refine lv_iload hx hb dX7_layFar_62 (lv_at hl 3 rfl) ?_
            refine lv_icmp_eq (tgt := 70) hx hb dX7_layFar_64 (by decide) (fun c13 => ?_) (fun c13 => ?_)
            · have hf := o_pos hf c13
              refine lv_iconst (v := 0) hx hb dX7_layFar_70 (by decide) ?_
              refine lv_istore (lv' := [(6, .int 0), (0, .ref (A 0)), (1, .ref (A 21)), (3, .int x3), (4, .int x4), (5, .int x5)]) hx hb dX7_layFar_71 hl (by decide) rfl (fun ls hl => ?_)
              exact L73 FU x3 x4 x5 0 σ9 hf H locs hI ls (lv_sub hl [1, 2, 3, 4, 5, 0] rfl)
            · have hf := o_neg hf c13
              refine lv_goto (tgt := 136) hx hb dX7_layFar_67 (by decide) ?_
              exact J136 x3 x4 x5 σ9 hf H locs hI ls (lv_sub hl [0, 1, 2, 3, 4] rfl)
      intro x3 x4 σ hf H locs hI ls hl
      have hf : f7_layFar_21_b40 (f7_layFar_21_l40 n40) x3 x4 σ = some σ' := hf
      unfold f7_layFar_21_b40 at hf
      refine lv_iload hx hb dX7_layFar_40 (lv_at hl 3 rfl) ?_
      refine lv_iconst (v := 3) hx hb dX7_layFar_42 (by decide) ?_
      refine lv_icmp_ge (tgt := 148) hx hb dX7_layFar_43 (by decide) (fun c8 => ?_) (fun c8 => ?_)
      · have hf := o_pos hf c8
        exact hret hf hI dX7_layFar_148
      · have hf := o_neg hf c8
        refine lv_iconst (v := 0) hx hb dX7_layFar_46 (by decide) ?_
        refine lv_istore (lv' := [(5, .int 0), (0, .ref (A 0)), (1, .ref (A 21)), (3, .int x3), (4, .int x4)]) hx hb dX7_layFar_47 hl (by decide) rfl (fun ls hl => ?_)
        exact L49 FU x3 x4 0 σ hf H locs hI ls (lv_sub hl [1, 2, 3, 4, 0] rfl)
  have L3 : ∀ (n : Nat) (x2 : Int32) (x3 : Int32) (x4 : Int32) (σ : MS), f7_layFar_21_l3 n x2 x3 x4 σ = some σ' → ∀ (H : Heap) (locs : List Loc), XI D cl (mw ci A d σ) A0 s.heap H locs → ∀ (ls : Array Slot), lv_has ls 7 [(0, .ref (A 0)), (1, .ref (A 21)), (2, .int x2), (3, .int x3), (4, .int x4)] → W p l e r7_layFar s m args below meth c H locs 0 0 Q (F0 m 3 ls []) := by
    intro n3
    induction n3 with
    | zero => intro x2 x3 x4 σ hf; cases hf
    | succ n3 ih3 =>
      intro x2 x3 x4 σ hf H locs hI ls hl
      have hf : f7_layFar_21_b3 (f7_layFar_21_l3 n3) x2 x3 x4 σ = some σ' := hf
      unfold f7_layFar_21_b3 at hf
      refine lv_iload hx hb dX7_layFar_3 (lv_at hl 4 rfl) ?_
      refine lv_bipush (v := 64) hx hb dX7_layFar_5 (by decide) ?_
      refine lv_icmp_ge (tgt := 23) hx hb dX7_layFar_7 (by decide) (fun c1 => ?_) (fun c1 => ?_)
      · have hf := o_pos hf c1
        refine lv_aload_n hx hb dX7_layFar_23 rfl (lv_at hl 0 rfl) ?_
        refine m_get (v := .ref (A 19)) X hI hc 19 (by decide) q2677 rfl dX7_layFar_24 ?_
        refine lv_iload_n hx hb dX7_layFar_27 rfl (lv_at hl 2 rfl) ?_
        obtain ⟨g2, hf⟩ := grd_some hf
        refine m_zald X hI 19 8 64 rfl rfl g2 dX7_layFar_28 ?_
        refine lv_if_ne (tgt := 33) hx hb dX7_layFar_29 (by decide) (fun c3 => ?_) (fun c3 => ?_)
        · have hf := o_neg hf c3
          refine lv_aload_n hx hb dX7_layFar_33 rfl (lv_at hl 1 rfl) ?_
          refine lv_iload_n hx hb dX7_layFar_34 rfl (lv_at hl 2 rfl) ?_
          refine lv_iconst (v := 0) hx hb dX7_layFar_35 (by decide) ?_
          obtain ⟨g4, hf⟩ := grd_some hf
          refine m_iast X hI 21 10 64 rfl rfl g4 rfl dX7_layFar_36 (fun H locs hI => ?_)
          obtain ⟨σ5, eσ5, hf⟩ := nxt_some hf
          rw [← eσ5] at hI
          clear eσ5
          refine lv_iconst (v := 0) hx hb dX7_layFar_37 (by decide) ?_
          refine lv_istore (lv' := [(4, .int 0), (0, .ref (A 0)), (1, .ref (A 21)), (2, .int x2), (3, .int x3)]) hx hb dX7_layFar_38 hl (by decide) rfl (fun ls hl => ?_)
          exact L40 FU x3 0 σ5 hf H locs hI ls (lv_sub hl [1, 2, 4, 0] rfl)
        · have hf := o_pos hf c3
          exact hret hf hI dX7_layFar_32
      · have hf := o_neg hf c1
        refine lv_aload_n hx hb dX7_layFar_10 rfl (lv_at hl 1 rfl) ?_
        refine lv_iload hx hb dX7_layFar_11 (lv_at hl 4 rfl) ?_
        refine lv_ldcw (v := 1000000000) hx hb hown (hts _ q3077) dX7_layFar_13 ?_
        obtain ⟨g6, hf⟩ := grd_some hf
        refine m_iast X hI 21 10 64 rfl rfl g6 rfl dX7_layFar_16 (fun H locs hI => ?_)
        obtain ⟨σ7, eσ7, hf⟩ := nxt_some hf
        rw [← eσ7] at hI
        clear eσ7
        refine lv_iinc (v := x4 + 1) (lv' := [(4, .int (x4 + 1)), (0, .ref (A 0)), (1, .ref (A 21)), (2, .int x2), (3, .int x3)]) hx hb dX7_layFar_17 hl (k := 4) rfl rfl (by decide) rfl (fun ls hl => ?_)
        refine lv_goto (tgt := 3) hx hb dX7_layFar_20 (by decide) ?_
        exact ih3 x2 x3 (x4 + 1) σ7 hf H locs hI ls (lv_sub hl [1, 2, 3, 4, 0] rfl)
  have hl : lv_has ls 7 [(0, .ref (A 0)), (1, .ref (A 21)), (2, .int p1), (3, .int p2)] := hl
  unfold f7_layFar_21 at hf
  obtain ⟨H, eH⟩ : ∃ H, H = s.heap := ⟨_, rfl⟩
  obtain ⟨locs, eL⟩ : ∃ locs : List Loc, locs = [] := ⟨_, rfl⟩
  have hI : XI D cl (mw ci A d σ) A0 s.heap H locs := by rw [eH, eL]; exact hI
  rw [← eL]
  suffices h : W p l e r7_layFar s m args below meth c H locs 0 0 Q (F0 m 0 ls []) by rw [eH] at h; exact h
  clear eH eL
  refine lv_iconst (v := 0) hx hb dX7_layFar_0 (by decide) ?_
  refine lv_istore (lv' := [(4, .int 0), (0, .ref (A 0)), (1, .ref (A 21)), (2, .int p1), (3, .int p2)]) hx hb dX7_layFar_1 hl (by decide) rfl (fun ls hl => ?_)
  exact L3 FU p1 p2 0 σ hf H locs hI ls (lv_sub hl [1, 2, 3, 4, 0] rfl)
/-! layFar_22 -/
def f7_layFar_22_b136 (K40 : Int32 → Int32 → MS → Option MS) (K49 : Int32 → Int32 → Int32 → MS → Option MS) (x3 : Int32) (x4 : Int32) (x5 : Int32) (σ : MS) : Option MS :=
  K49 x3 x4 (x5 + 1) σ
def f7_layFar_22_b130 (K40 : Int32 → Int32 → MS → Option MS) (K49 : Int32 → Int32 → Int32 → MS → Option MS) (K73 : Int32 → Int32 → Int32 → Int32 → MS → Option MS) (x3 : Int32) (x4 : Int32) (x5 : Int32) (x6 : Int32) (σ : MS) : Option MS :=
  K73 x3 x4 x5 (x6 + 1) σ
def f7_layFar_22_b73 (K40 : Int32 → Int32 → MS → Option MS) (K49 : Int32 → Int32 → Int32 → MS → Option MS) (K73 : Int32 → Int32 → Int32 → Int32 → MS → Option MS) (x3 : Int32) (x4 : Int32) (x5 : Int32) (x6 : Int32) (σ : MS) : Option MS :=
  bnd (f7_ops σ) fun r15 σ14 =>
  if r15 ≤ x6 then (f7_layFar_22_b136 K40 K49 x3 x4 x5 σ14) else (bn1 (f7_bit x3 x6) fun r17 =>
  if r17 = 0 then (bnd (f7_goesTo x6 x5 σ14) fun r20 σ19 =>
  if r20 = (-1) then (f7_layFar_22_b130 K40 K49 K73 x3 x4 x5 x6 σ19) else (bnd (f7_goesTo x6 x5 σ19) fun r23 σ22 =>
  bnd (f7_goesTo x6 x5 σ22) fun r25 σ24 =>
  grd (inB r25 64) <|
  grd (inB r23 64) <|
  nxt (sA σ24 22 r23.toNatClampNeg (if (x4 + 1) < (gA σ24 22 r25.toNatClampNeg) then (x4 + 1) else (gA σ24 22 r25.toNatClampNeg))) fun σ28 =>
  f7_layFar_22_b130 K40 K49 K73 x3 x4 x5 x6 σ28)) else (f7_layFar_22_b130 K40 K49 K73 x3 x4 x5 x6 σ14))
def f7_layFar_22_l73 (K40 : Int32 → Int32 → MS → Option MS) (K49 : Int32 → Int32 → Int32 → MS → Option MS) : Nat → Int32 → Int32 → Int32 → Int32 → MS → Option MS
  | 0 => fun _ _ _ _ _ => none
  | n + 1 => fun x3 x4 x5 x6 σ => f7_layFar_22_b73 K40 K49 (f7_layFar_22_l73 K40 K49 n) x3 x4 x5 x6 σ
def f7_layFar_22_b49 (K40 : Int32 → Int32 → MS → Option MS) (K49 : Int32 → Int32 → Int32 → MS → Option MS) (x3 : Int32) (x4 : Int32) (x5 : Int32) (σ : MS) : Option MS :=
  bnd (f7_stateMany σ) fun r10 σ9 =>
  if r10 ≤ x5 then (K40 x3 (x4 + 1) σ9) else (grd (inB x5 64) <|
  if (gA σ9 22 x5.toNatClampNeg) = x4 then (f7_layFar_22_l73 K40 K49 FU x3 x4 x5 0 σ9) else (f7_layFar_22_b136 K40 K49 x3 x4 x5 σ9))
def f7_layFar_22_l49 (K40 : Int32 → Int32 → MS → Option MS) : Nat → Int32 → Int32 → Int32 → MS → Option MS
  | 0 => fun _ _ _ _ => none
  | n + 1 => fun x3 x4 x5 σ => f7_layFar_22_b49 K40 (f7_layFar_22_l49 K40 n) x3 x4 x5 σ
def f7_layFar_22_b40 (K40 : Int32 → Int32 → MS → Option MS) (x3 : Int32) (x4 : Int32) (σ : MS) : Option MS :=
  if 3 ≤ x4 then (some σ) else (f7_layFar_22_l49 K40 FU x3 x4 0 σ)
def f7_layFar_22_l40 : Nat → Int32 → Int32 → MS → Option MS
  | 0 => fun _ _ _ => none
  | n + 1 => fun x3 x4 σ => f7_layFar_22_b40 (f7_layFar_22_l40 n) x3 x4 σ
def f7_layFar_22_b3 (K3 : Int32 → Int32 → Int32 → MS → Option MS) (x2 : Int32) (x3 : Int32) (x4 : Int32) (σ : MS) : Option MS :=
  if 64 ≤ x4 then (grd (inB x2 64) <|
  if (gA σ 19 x2.toNatClampNeg) = 0 then (some σ) else (grd (inB x2 64) <|
  nxt (sA σ 22 x2.toNatClampNeg 0) fun σ5 =>
  f7_layFar_22_l40 FU x3 0 σ5)) else (grd (inB x4 64) <|
  nxt (sA σ 22 x4.toNatClampNeg 1000000000) fun σ7 =>
  K3 x2 x3 (x4 + 1) σ7)
def f7_layFar_22_l3 : Nat → Int32 → Int32 → Int32 → MS → Option MS
  | 0 => fun _ _ _ _ => none
  | n + 1 => fun x2 x3 x4 σ => f7_layFar_22_b3 (f7_layFar_22_l3 n) x2 x3 x4 σ
def f7_layFar_22 (p1 : Int32) (p2 : Int32) (σ : MS) : Option MS :=
  f7_layFar_22_l3 FU p1 p2 0 σ
theorem m7_layFar_22 (l : Launch) (D : va_G) (cl : vC2) (Z : (Nat → Prop) → State → Heap → Prop) (hz : ZK Z) (ci : Nat) (A : Nat → Nat) (d : Nat → ClassId) (tm : List (ClassId × FieldType)) (hc : cl.1[ci]? = some (RX7, TX7, 42)) (p1 : Int32) (p2 : Int32) (σ : MS) (σ' : MS) (hf : f7_layFar_22 p1 p2 σ = some σ') : MMv l yX7_layFar (ws_ yX7_layFar cX7_layFar 7 none) r7_layFar D cl Z ci A d tm σ [.ref (A 22), .int p1, .int p2] σ' := by
  refine m_openv hz (by decide) (by exact Nat.le_of_ble_eq_true rfl) (fun p e s m args below meth c ls A0 Q X hI hl hret => ?_)
  have X : XC p s m args meth c cX7_layFar 7 RX7 D cl (mty d tm) A0 Z := X
  have hx := X.1
  have hb := X.2.1
  have hown := X.2.2.2.1
  have hts := X.2.2.2.2.1
  have L40 : ∀ (n : Nat) (x3 : Int32) (x4 : Int32) (σ : MS), f7_layFar_22_l40 n x3 x4 σ = some σ' → ∀ (H : Heap) (locs : List Loc), XI D cl (mw ci A d σ) A0 s.heap H locs → ∀ (ls : Array Slot), lv_has ls 7 [(0, .ref (A 0)), (1, .ref (A 22)), (3, .int x3), (4, .int x4)] → W p l e r7_layFar s m args below meth c H locs 0 0 Q (F0 m 40 ls []) := by
    intro n40
    induction n40 with
    | zero => intro x3 x4 σ hf; cases hf
    | succ n40 ih40 =>
      have L49 : ∀ (n : Nat) (x3 : Int32) (x4 : Int32) (x5 : Int32) (σ : MS), f7_layFar_22_l49 (f7_layFar_22_l40 n40) n x3 x4 x5 σ = some σ' → ∀ (H : Heap) (locs : List Loc), XI D cl (mw ci A d σ) A0 s.heap H locs → ∀ (ls : Array Slot), lv_has ls 7 [(0, .ref (A 0)), (1, .ref (A 22)), (3, .int x3), (4, .int x4), (5, .int x5)] → W p l e r7_layFar s m args below meth c H locs 0 0 Q (F0 m 49 ls []) := by
        intro n49
        induction n49 with
        | zero => intro x3 x4 x5 σ hf; cases hf
        | succ n49 ih49 =>
          have J136 : ∀ (x3 : Int32) (x4 : Int32) (x5 : Int32) (σ : MS), f7_layFar_22_b136 (f7_layFar_22_l40 n40) (f7_layFar_22_l49 (f7_layFar_22_l40 n40) n49) x3 x4 x5 σ = some σ' → ∀ (H : Heap) (locs : List Loc), XI D cl (mw ci A d σ) A0 s.heap H locs → ∀ (ls : Array Slot), lv_has ls 7 [(0, .ref (A 0)), (1, .ref (A 22)), (3, .int x3), (4, .int x4), (5, .int x5)] → W p l e r7_layFar s m args below meth c H locs 0 0 Q (F0 m 136 ls []) := by
            intro x3 x4 x5 σ hf H locs hI ls hl
            unfold f7_layFar_22_b136 at hf
            refine lv_iinc (v := x5 + 1) (lv' := [(5, .int (x5 + 1)), (0, .ref (A 0)), (1, .ref (A 22)), (3, .int x3), (4, .int x4)]) hx hb dX7_layFar_136 hl (k := 4) rfl rfl (by decide) rfl (fun ls hl => ?_)
            refine lv_goto (tgt := 49) hx hb dX7_layFar_139 (by decide) ?_
            exact ih49 x3 x4 (x5 + 1) σ hf H locs hI ls (lv_sub hl [1, 2, 3, 4, 0] rfl)
          have L73 : ∀ (n : Nat) (x3 : Int32) (x4 : Int32) (x5 : Int32) (x6 : Int32) (σ : MS), f7_layFar_22_l73 (f7_layFar_22_l40 n40) (f7_layFar_22_l49 (f7_layFar_22_l40 n40) n49) n x3 x4 x5 x6 σ = some σ' → ∀ (H : Heap) (locs : List Loc), XI D cl (mw ci A d σ) A0 s.heap H locs → ∀ (ls : Array Slot), lv_has ls 7 [(0, .ref (A 0)), (1, .ref (A 22)), (3, .int x3), (4, .int x4), (5, .int x5), (6, .int x6)] → W p l e r7_layFar s m args below meth c H locs 0 0 Q (F0 m 73 ls []) := by
            intro n73
            induction n73 with
            | zero => intro x3 x4 x5 x6 σ hf; cases hf
            | succ n73 ih73 =>
              have J130 : ∀ (x3 : Int32) (x4 : Int32) (x5 : Int32) (x6 : Int32) (σ : MS), f7_layFar_22_b130 (f7_layFar_22_l40 n40) (f7_layFar_22_l49 (f7_layFar_22_l40 n40) n49) (f7_layFar_22_l73 (f7_layFar_22_l40 n40) (f7_layFar_22_l49 (f7_layFar_22_l40 n40) n49) n73) x3 x4 x5 x6 σ = some σ' → ∀ (H : Heap) (locs : List Loc), XI D cl (mw ci A d σ) A0 s.heap H locs → ∀ (ls : Array Slot), lv_has ls 7 [(0, .ref (A 0)), (1, .ref (A 22)), (3, .int x3), (4, .int x4), (5, .int x5), (6, .int x6)] → W p l e r7_layFar s m args below meth c H locs 0 0 Q (F0 m 130 ls []) := by
                intro x3 x4 x5 x6 σ hf H locs hI ls hl
                unfold f7_layFar_22_b130 at hf
                refine lv_iinc (v := x6 + 1) (lv' := [(6, .int (x6 + 1)), (0, .ref (A 0)), (1, .ref (A 22)), (3, .int x3), (4, .int x4), (5, .int x5)]) hx hb dX7_layFar_130 hl (k := 5) rfl rfl (by decide) rfl (fun ls hl => ?_)
                refine lv_goto (tgt := 73) hx hb dX7_layFar_133 (by decide) ?_
                exact ih73 x3 x4 x5 (x6 + 1) σ hf H locs hI ls (lv_sub hl [1, 2, 3, 4, 5, 0] rfl)
              intro x3 x4 x5 x6 σ hf H locs hI ls hl
              have hf : f7_layFar_22_b73 (f7_layFar_22_l40 n40) (f7_layFar_22_l49 (f7_layFar_22_l40 n40) n49) (f7_layFar_22_l73 (f7_layFar_22_l40 n40) (f7_layFar_22_l49 (f7_layFar_22_l40 n40) n49) n73) x3 x4 x5 x6 σ = some σ' := hf
              unfold f7_layFar_22_b73 at hf
              refine lv_iload hx hb dX7_layFar_73 (lv_at hl 5 rfl) ?_
              refine lv_aload_n hx hb dX7_layFar_75 rfl (lv_at hl 0 rfl) ?_
              obtain ⟨r15, σ14, hσ14, hf⟩ := bnd_some hf
              refine m_calli X hI hc [] (m7_ops l D cl Z hz ci A d tm hc σ r15 σ14 hσ14) (cw7_ops hts ⟨Nat.le_of_ble_eq_true rfl, Nat.le_of_ble_eq_true rfl⟩) rfl hl.1 (Nat.le_of_ble_eq_true rfl) rfl dX7_layFar_76 ⟨Nat.le_of_ble_eq_true rfl, Nat.le_of_ble_eq_true rfl⟩ (fun H locs hI => ?_)
              refine lv_icmp_ge (tgt := 136) hx hb dX7_layFar_79 (by decide) (fun c16 => ?_) (fun c16 => ?_)
              · have hf := o_pos hf c16
                exact J136 x3 x4 x5 σ14 hf H locs hI ls (lv_sub hl [0, 1, 2, 3, 4] rfl)
              · have hf := o_neg hf c16
                refine lv_iload_n hx hb dX7_layFar_82 rfl (lv_at hl 2 rfl) ?_
                refine lv_iload hx hb dX7_layFar_83 (lv_at hl 5 rfl) ?_
                obtain ⟨r17, hr17, hf⟩ := bn1_some hf
                refine x_callSi (As := [.int x3, .int x6]) X hI (m7_bit l x3 x6 r17 hr17) (cw7_bit hts ⟨Nat.le_of_ble_eq_true rfl, Nat.le_of_ble_eq_true rfl⟩) rfl hl.1 (Nat.le_of_ble_eq_true rfl) rfl dX7_layFar_85 ⟨Nat.le_of_ble_eq_true rfl, Nat.le_of_ble_eq_true rfl⟩ (fun H locs hI => ?_)
                refine lv_if_ne (tgt := 130) hx hb dX7_layFar_88 (by decide) (fun c18 => ?_) (fun c18 => ?_)
                · have hf := o_neg hf c18
                  exact J130 x3 x4 x5 x6 σ14 hf H locs hI ls (lv_sub hl [0, 1, 2, 3, 4, 5] rfl)
                · have hf := o_pos hf c18
                  refine lv_aload_n hx hb dX7_layFar_91 rfl (lv_at hl 0 rfl) ?_
                  refine lv_iload hx hb dX7_layFar_92 (lv_at hl 5 rfl) ?_
                  refine lv_iload hx hb dX7_layFar_94 (lv_at hl 4 rfl) ?_
                  obtain ⟨r20, σ19, hσ19, hf⟩ := bnd_some hf
                  refine m_calli X hI hc [.int x6, .int x5] (m7_goesTo l D cl Z hz ci A d tm hc x6 x5 σ14 r20 σ19 hσ19) (cw7_goesTo hts ⟨Nat.le_of_ble_eq_true rfl, Nat.le_of_ble_eq_true rfl⟩) rfl hl.1 (Nat.le_of_ble_eq_true rfl) rfl dX7_layFar_96 ⟨Nat.le_of_ble_eq_true rfl, Nat.le_of_ble_eq_true rfl⟩ (fun H locs hI => ?_)
                  refine lv_iconst (v := -1) hx hb dX7_layFar_99 (by decide) ?_
                  refine lv_icmp_eq (tgt := 130) hx hb dX7_layFar_100 (by decide) (fun c21 => ?_) (fun c21 => ?_)
                  · have hf := o_pos hf c21
                    exact J130 x3 x4 x5 x6 σ19 hf H locs hI ls (lv_sub hl [0, 1, 2, 3, 4, 5] rfl)
                  · have hf := o_neg hf c21
                    refine lv_aload_n hx hb dX7_layFar_103 rfl (lv_at hl 1 rfl) ?_
                    refine lv_aload_n hx hb dX7_layFar_104 rfl (lv_at hl 0 rfl) ?_
                    refine lv_iload hx hb dX7_layFar_105 (lv_at hl 5 rfl) ?_
                    refine lv_iload hx hb dX7_layFar_107 (lv_at hl 4 rfl) ?_
                    obtain ⟨r23, σ22, hσ22, hf⟩ := bnd_some hf
                    refine m_calli X hI hc [.int x6, .int x5] (m7_goesTo l D cl Z hz ci A d tm hc x6 x5 σ19 r23 σ22 hσ22) (cw7_goesTo hts ⟨Nat.le_of_ble_eq_true rfl, Nat.le_of_ble_eq_true rfl⟩) rfl hl.1 (Nat.le_of_ble_eq_true rfl) rfl dX7_layFar_109 ⟨Nat.le_of_ble_eq_true rfl, Nat.le_of_ble_eq_true rfl⟩ (fun H locs hI => ?_)
                    refine lv_aload_n hx hb dX7_layFar_112 rfl (lv_at hl 1 rfl) ?_
                    refine lv_aload_n hx hb dX7_layFar_113 rfl (lv_at hl 0 rfl) ?_
                    refine lv_iload hx hb dX7_layFar_114 (lv_at hl 5 rfl) ?_
                    refine lv_iload hx hb dX7_layFar_116 (lv_at hl 4 rfl) ?_
                    obtain ⟨r25, σ24, hσ24, hf⟩ := bnd_some hf
                    refine m_calli X hI hc [.int x6, .int x5] (m7_goesTo l D cl Z hz ci A d tm hc x6 x5 σ22 r25 σ24 hσ24) (cw7_goesTo hts ⟨Nat.le_of_ble_eq_true rfl, Nat.le_of_ble_eq_true rfl⟩) rfl hl.1 (Nat.le_of_ble_eq_true rfl) rfl dX7_layFar_118 ⟨Nat.le_of_ble_eq_true rfl, Nat.le_of_ble_eq_true rfl⟩ (fun H locs hI => ?_)
                    obtain ⟨g26, hf⟩ := grd_some hf
                    refine m_iald X hI 22 11 64 rfl rfl g26 dX7_layFar_121 ?_
                    refine lv_iload hx hb dX7_layFar_122 (lv_at hl 3 rfl) ?_
                    refine lv_iconst (v := 1) hx hb dX7_layFar_124 (by decide) ?_
                    refine lv_iadd hx hb dX7_layFar_125 ?_
                    refine x_mmin X hl.1 q2826 q638 q173 q639 ⟨Nat.le_of_ble_eq_true rfl, Nat.le_of_ble_eq_true rfl⟩ (Nat.le_of_ble_eq_true rfl) ⟨Nat.le_of_ble_eq_true rfl, Nat.le_of_ble_eq_true rfl⟩ dX7_layFar_126 ?_
                    obtain ⟨g27, hf⟩ := grd_some hf
                    refine m_iast X hI 22 11 64 rfl rfl g27 rfl dX7_layFar_129 (fun H locs hI => ?_)
                    obtain ⟨σ28, eσ28, hf⟩ := nxt_some hf
                    rw [← eσ28] at hI
                    clear eσ28
                    exact J130 x3 x4 x5 x6 σ28 hf H locs hI ls (lv_sub hl [0, 1, 2, 3, 4, 5] rfl)
          intro x3 x4 x5 σ hf H locs hI ls hl
          have hf : f7_layFar_22_b49 (f7_layFar_22_l40 n40) (f7_layFar_22_l49 (f7_layFar_22_l40 n40) n49) x3 x4 x5 σ = some σ' := hf
          unfold f7_layFar_22_b49 at hf
          refine lv_iload hx hb dX7_layFar_49 (lv_at hl 4 rfl) ?_
          refine lv_aload_n hx hb dX7_layFar_51 rfl (lv_at hl 0 rfl) ?_
          obtain ⟨r10, σ9, hσ9, hf⟩ := bnd_some hf
          refine m_calli X hI hc [] (m7_stateMany l D cl Z hz ci A d tm hc σ r10 σ9 hσ9) (cw7_stateMany hts ⟨Nat.le_of_ble_eq_true rfl, Nat.le_of_ble_eq_true rfl⟩) rfl hl.1 (Nat.le_of_ble_eq_true rfl) rfl dX7_layFar_52 ⟨Nat.le_of_ble_eq_true rfl, Nat.le_of_ble_eq_true rfl⟩ (fun H locs hI => ?_)
          refine lv_icmp_ge (tgt := 142) hx hb dX7_layFar_55 (by decide) (fun c11 => ?_) (fun c11 => ?_)
          · have hf := o_pos hf c11
            refine lv_iinc (v := x4 + 1) (lv' := [(4, .int (x4 + 1)), (0, .ref (A 0)), (1, .ref (A 22)), (3, .int x3), (5, .int x5)]) hx hb dX7_layFar_142 hl (k := 3) rfl rfl (by decide) rfl (fun ls hl => ?_)
            refine lv_goto (tgt := 40) hx hb dX7_layFar_145 (by decide) ?_
            exact ih40 x3 (x4 + 1) σ9 hf H locs hI ls (lv_sub hl [1, 2, 3, 0] rfl)
          · have hf := o_neg hf c11
            refine lv_aload_n hx hb dX7_layFar_58 rfl (lv_at hl 1 rfl) ?_
            refine lv_iload hx hb dX7_layFar_59 (lv_at hl 4 rfl) ?_
            obtain ⟨g12, hf⟩ := grd_some hf
            refine m_iald X hI 22 11 64 rfl rfl g12 dX7_layFar_61 ?_
            refine lv_iload hx hb dX7_layFar_62 (lv_at hl 3 rfl) ?_
            refine lv_icmp_eq (tgt := 70) hx hb dX7_layFar_64 (by decide) (fun c13 => ?_) (fun c13 => ?_)
            · have hf := o_pos hf c13
              refine lv_iconst (v := 0) hx hb dX7_layFar_70 (by decide) ?_
              refine lv_istore (lv' := [(6, .int 0), (0, .ref (A 0)), (1, .ref (A 22)), (3, .int x3), (4, .int x4), (5, .int x5)]) hx hb dX7_layFar_71 hl (by decide) rfl (fun ls hl => ?_)
              exact L73 FU x3 x4 x5 0 σ9 hf H locs hI ls (lv_sub hl [1, 2, 3, 4, 5, 0] rfl)
            · have hf := o_neg hf c13
              refine lv_goto (tgt := 136) hx hb dX7_layFar_67 (by decide) ?_
              exact J136 x3 x4 x5 σ9 hf H locs hI ls (lv_sub hl [0, 1, 2, 3, 4] rfl)
      intro x3 x4 σ hf H locs hI ls hl
      have hf : f7_layFar_22_b40 (f7_layFar_22_l40 n40) x3 x4 σ = some σ' := hf
      unfold f7_layFar_22_b40 at hf
      refine lv_iload hx hb dX7_layFar_40 (lv_at hl 3 rfl) ?_
      refine lv_iconst (v := 3) hx hb dX7_layFar_42 (by decide) ?_
      refine lv_icmp_ge (tgt := 148) hx hb dX7_layFar_43 (by decide) (fun c8 => ?_) (fun c8 => ?_)
      · have hf := o_pos hf c8
        exact hret hf hI dX7_layFar_148
      · have hf := o_neg hf c8
        refine lv_iconst (v := 0) hx hb dX7_layFar_46 (by decide) ?_
        refine lv_istore (lv' := [(5, .int 0), (0, .ref (A 0)), (1, .ref (A 22)), (3, .int x3), (4, .int x4)]) hx hb dX7_layFar_47 hl (by decide) rfl (fun ls hl => ?_)
        exact L49 FU x3 x4 0 σ hf H locs hI ls (lv_sub hl [1, 2, 3, 4, 0] rfl)
  have L3 : ∀ (n : Nat) (x2 : Int32) (x3 : Int32) (x4 : Int32) (σ : MS), f7_layFar_22_l3 n x2 x3 x4 σ = some σ' → ∀ (H : Heap) (locs : List Loc), XI D cl (mw ci A d σ) A0 s.heap H locs → ∀ (ls : Array Slot), lv_has ls 7 [(0, .ref (A 0)), (1, .ref (A 22)), (2, .int x2), (3, .int x3), (4, .int x4)] → W p l e r7_layFar s m args below meth c H locs 0 0 Q (F0 m 3 ls []) := by
    intro n3
    induction n3 with
    | zero => intro x2 x3 x4 σ hf; cases hf
    | succ n3 ih3 =>
      intro x2 x3 x4 σ hf H locs hI ls hl
      have hf : f7_layFar_22_b3 (f7_layFar_22_l3 n3) x2 x3 x4 σ = some σ' := hf
      unfold f7_layFar_22_b3 at hf
      refine lv_iload hx hb dX7_layFar_3 (lv_at hl 4 rfl) ?_
      refine lv_bipush (v := 64) hx hb dX7_layFar_5 (by decide) ?_
      refine lv_icmp_ge (tgt := 23) hx hb dX7_layFar_7 (by decide) (fun c1 => ?_) (fun c1 => ?_)
      · have hf := o_pos hf c1
        refine lv_aload_n hx hb dX7_layFar_23 rfl (lv_at hl 0 rfl) ?_
        refine m_get (v := .ref (A 19)) X hI hc 19 (by decide) q2677 rfl dX7_layFar_24 ?_
        refine lv_iload_n hx hb dX7_layFar_27 rfl (lv_at hl 2 rfl) ?_
        obtain ⟨g2, hf⟩ := grd_some hf
        refine m_zald X hI 19 8 64 rfl rfl g2 dX7_layFar_28 ?_
        refine lv_if_ne (tgt := 33) hx hb dX7_layFar_29 (by decide) (fun c3 => ?_) (fun c3 => ?_)
        · have hf := o_neg hf c3
          refine lv_aload_n hx hb dX7_layFar_33 rfl (lv_at hl 1 rfl) ?_
          refine lv_iload_n hx hb dX7_layFar_34 rfl (lv_at hl 2 rfl) ?_
          refine lv_iconst (v := 0) hx hb dX7_layFar_35 (by decide) ?_
          obtain ⟨g4, hf⟩ := grd_some hf
          refine m_iast X hI 22 11 64 rfl rfl g4 rfl dX7_layFar_36 (fun H locs hI => ?_)
          obtain ⟨σ5, eσ5, hf⟩ := nxt_some hf
          rw [← eσ5] at hI
          clear eσ5
          refine lv_iconst (v := 0) hx hb dX7_layFar_37 (by decide) ?_
          refine lv_istore (lv' := [(4, .int 0), (0, .ref (A 0)), (1, .ref (A 22)), (2, .int x2), (3, .int x3)]) hx hb dX7_layFar_38 hl (by decide) rfl (fun ls hl => ?_)
          exact L40 FU x3 0 σ5 hf H locs hI ls (lv_sub hl [1, 2, 4, 0] rfl)
        · have hf := o_pos hf c3
          exact hret hf hI dX7_layFar_32
      · have hf := o_neg hf c1
        refine lv_aload_n hx hb dX7_layFar_10 rfl (lv_at hl 1 rfl) ?_
        refine lv_iload hx hb dX7_layFar_11 (lv_at hl 4 rfl) ?_
        refine lv_ldcw (v := 1000000000) hx hb hown (hts _ q3077) dX7_layFar_13 ?_
        obtain ⟨g6, hf⟩ := grd_some hf
        refine m_iast X hI 22 11 64 rfl rfl g6 rfl dX7_layFar_16 (fun H locs hI => ?_)
        obtain ⟨σ7, eσ7, hf⟩ := nxt_some hf
        rw [← eσ7] at hI
        clear eσ7
        refine lv_iinc (v := x4 + 1) (lv' := [(4, .int (x4 + 1)), (0, .ref (A 0)), (1, .ref (A 22)), (2, .int x2), (3, .int x3)]) hx hb dX7_layFar_17 hl (k := 4) rfl rfl (by decide) rfl (fun ls hl => ?_)
        refine lv_goto (tgt := 3) hx hb dX7_layFar_20 (by decide) ?_
        exact ih3 x2 x3 (x4 + 1) σ7 hf H locs hI ls (lv_sub hl [1, 2, 3, 4, 0] rfl)
  have hl : lv_has ls 7 [(0, .ref (A 0)), (1, .ref (A 22)), (2, .int p1), (3, .int p2)] := hl
  unfold f7_layFar_22 at hf
  obtain ⟨H, eH⟩ : ∃ H, H = s.heap := ⟨_, rfl⟩
  obtain ⟨locs, eL⟩ : ∃ locs : List Loc, locs = [] := ⟨_, rfl⟩
  have hI : XI D cl (mw ci A d σ) A0 s.heap H locs := by rw [eH, eL]; exact hI
  rw [← eL]
  suffices h : W p l e r7_layFar s m args below meth c H locs 0 0 Q (F0 m 0 ls []) by rw [eH] at h; exact h
  clear eH eL
  refine lv_iconst (v := 0) hx hb dX7_layFar_0 (by decide) ?_
  refine lv_istore (lv' := [(4, .int 0), (0, .ref (A 0)), (1, .ref (A 22)), (2, .int p1), (3, .int p2)]) hx hb dX7_layFar_1 hl (by decide) rfl (fun ls hl => ?_)
  exact L3 FU p1 p2 0 σ hf H locs hI ls (lv_sub hl [1, 2, 3, 4, 0] rfl)
/-! laySides -/
def f7_laySides (p0 : Int32) (σ : MS) : Option MS :=
  bn1 (f7_layFar_21 p0 0 σ) fun σ1 =>
  bn1 (f7_layFar_22 p0 (gI σ1 17) σ1) fun σ2 =>
  some σ2
abbrev r7_laySides : Room := { frames := 3, cells := 0, slots := 0, locals := 68 }
theorem cw7_laySides {R : Room} {s : State} {args : Array Value} (ht : ∀ w ∈ lw_all, w.before args s = true) (hR : r7_laySides.frames + 1 ≤ R.frames ∧ 8 + (2 + 11) + r7_laySides.locals ≤ R.locals) : CallW R s args RX7 RX7 351 yX7_laySides cX7_laySides 2 none (ws_ yX7_laySides cX7_laySides 2 none) r7_laySides 0 0 1 :=
  cwV 1 ht (lw_V q3162 q3164 qs139 q178 q3165) rfl rfl rfl (by decide +kernel) hR
theorem m7_laySides (l : Launch) (D : va_G) (cl : vC2) (Z : (Nat → Prop) → State → Heap → Prop) (hz : ZK Z) (ci : Nat) (A : Nat → Nat) (d : Nat → ClassId) (tm : List (ClassId × FieldType)) (hc : cl.1[ci]? = some (RX7, TX7, 42)) (p0 : Int32) (σ : MS) (σ' : MS) (hf : f7_laySides p0 σ = some σ') : MMv l yX7_laySides (ws_ yX7_laySides cX7_laySides 2 none) r7_laySides D cl Z ci A d tm σ [.int p0] σ' := by
  refine m_openv hz (by decide) (by exact Nat.le_of_ble_eq_true rfl) (fun p e s m args below meth c ls A0 Q X hI hl hret => ?_)
  have X : XC p s m args meth c cX7_laySides 2 RX7 D cl (mty d tm) A0 Z := X
  have hx := X.1
  have hb := X.2.1
  have hown := X.2.2.2.1
  have hts := X.2.2.2.2.1
  have hl : lv_has ls 2 [(0, .ref (A 0)), (1, .int p0)] := hl
  unfold f7_laySides at hf
  obtain ⟨H, eH⟩ : ∃ H, H = s.heap := ⟨_, rfl⟩
  obtain ⟨locs, eL⟩ : ∃ locs : List Loc, locs = [] := ⟨_, rfl⟩
  have hI : XI D cl (mw ci A d σ) A0 s.heap H locs := by rw [eH, eL]; exact hI
  rw [← eL]
  suffices h : W p l e r7_laySides s m args below meth c H locs 0 0 Q (F0 m 0 ls []) by rw [eH] at h; exact h
  clear eH eL
  refine lv_aload_n hx hb dX7_laySides_0 rfl (lv_at hl 0 rfl) ?_
  refine lv_aload_n hx hb dX7_laySides_1 rfl (lv_at hl 0 rfl) ?_
  refine m_get (v := .ref (A 21)) X hI hc 21 (by decide) q2679 rfl dX7_laySides_2 ?_
  refine lv_iload_n hx hb dX7_laySides_5 rfl (lv_at hl 1 rfl) ?_
  refine lv_iconst (v := 0) hx hb dX7_laySides_6 (by decide) ?_
  obtain ⟨σ1, hσ1, hf⟩ := bn1_some hf
  refine m_callv X hI hc [.ref (A 21), .int p0, .int 0] (m7_layFar_21 l D cl Z hz ci A d tm hc p0 0 σ σ1 hσ1) (cw7_layFar hts ⟨Nat.le_of_ble_eq_true rfl, Nat.le_of_ble_eq_true rfl⟩) rfl hl.1 (Nat.le_of_ble_eq_true rfl) rfl dX7_laySides_7 ⟨Nat.le_of_ble_eq_true rfl, Nat.le_of_ble_eq_true rfl⟩ (fun H locs hI => ?_)
  refine lv_aload_n hx hb dX7_laySides_10 rfl (lv_at hl 0 rfl) ?_
  refine lv_aload_n hx hb dX7_laySides_11 rfl (lv_at hl 0 rfl) ?_
  refine m_get (v := .ref (A 22)) X hI hc 22 (by decide) q2680 rfl dX7_laySides_12 ?_
  refine lv_iload_n hx hb dX7_laySides_15 rfl (lv_at hl 1 rfl) ?_
  refine lv_aload_n hx hb dX7_laySides_16 rfl (lv_at hl 0 rfl) ?_
  refine m_get (v := .int (gI σ1 17)) X hI hc 17 (by decide) q2675 rfl dX7_laySides_17 ?_
  obtain ⟨σ2, hσ2, hf⟩ := bn1_some hf
  refine m_callv X hI hc [.ref (A 22), .int p0, .int (gI σ1 17)] (m7_layFar_22 l D cl Z hz ci A d tm hc p0 (gI σ1 17) σ1 σ2 hσ2) (cw7_layFar hts ⟨Nat.le_of_ble_eq_true rfl, Nat.le_of_ble_eq_true rfl⟩) rfl hl.1 (Nat.le_of_ble_eq_true rfl) rfl dX7_laySides_20 ⟨Nat.le_of_ble_eq_true rfl, Nat.le_of_ble_eq_true rfl⟩ (fun H locs hI => ?_)
  exact hret hf hI dX7_laySides_23
/-! asksSides -/
def f7_asksSides (p0 : Int32) (σ : MS) : oI Int32 :=
  bnd (f7_asks σ) fun r2 σ1 =>
  if r2 = 0 then (some (0, σ1)) else (bnd (f7_isState p0.toInt64 σ1) fun r5 σ4 =>
  if r5 = 0 then (some (0, σ4)) else (bn1 (f7_laySides p0 σ4) fun σ7 =>
  some (1, σ7)))
abbrev r7_asksSides : Room := { frames := 6, cells := 0, slots := 0, locals := 140 }
theorem cw7_asksSides {R : Room} {s : State} {args : Array Value} (ht : ∀ w ∈ lw_all, w.before args s = true) (hR : r7_asksSides.frames + 1 ≤ R.frames ∧ 8 + (2 + 11) + r7_asksSides.locals ≤ R.locals) : CallW R s args RX7 RX7 354 yX7_asksSides cX7_asksSides 2 (some .boolean) (ws_ yX7_asksSides cX7_asksSides 2 (some .boolean)) r7_asksSides 0 0 1 :=
  cwV 1 ht (lw_V q3158 q3160 qs138 q178 q3161) rfl rfl rfl (by decide +kernel) hR
theorem m7_asksSides (l : Launch) (D : va_G) (cl : vC2) (Z : (Nat → Prop) → State → Heap → Prop) (hz : ZK Z) (ci : Nat) (A : Nat → Nat) (d : Nat → ClassId) (tm : List (ClassId × FieldType)) (hc : cl.1[ci]? = some (RX7, TX7, 42)) (p0 : Int32) (σ : MS) (r : Int32) (σ' : MS) (hf : f7_asksSides p0 σ = some (r, σ')) : MMi l yX7_asksSides (ws_ yX7_asksSides cX7_asksSides 2 (some .boolean)) r7_asksSides D cl Z ci A d tm σ [.int p0] r σ' := by
  refine m_openz hz (by decide) (by exact Nat.le_of_ble_eq_true rfl) (fun p e s m args below meth c ls A0 Q X hI hl hret => ?_)
  have X : XC p s m args meth c cX7_asksSides 2 RX7 D cl (mty d tm) A0 Z := X
  have hx := X.1
  have hb := X.2.1
  have hown := X.2.2.2.1
  have hts := X.2.2.2.2.1
  have hl : lv_has ls 2 [(0, .ref (A 0)), (1, .int p0)] := hl
  unfold f7_asksSides at hf
  obtain ⟨H, eH⟩ : ∃ H, H = s.heap := ⟨_, rfl⟩
  obtain ⟨locs, eL⟩ : ∃ locs : List Loc, locs = [] := ⟨_, rfl⟩
  have hI : XI D cl (mw ci A d σ) A0 s.heap H locs := by rw [eH, eL]; exact hI
  rw [← eL]
  suffices h : W p l e r7_asksSides s m args below meth c H locs 0 0 Q (F0 m 0 ls []) by rw [eH] at h; exact h
  clear eH eL
  refine lv_aload_n hx hb dX7_asksSides_0 rfl (lv_at hl 0 rfl) ?_
  obtain ⟨r2, σ1, hσ1, hf⟩ := bnd_some hf
  refine m_calli X hI hc [] (m7_asks l D cl Z hz ci A d tm hc σ r2 σ1 hσ1) (cw7_asks hts ⟨Nat.le_of_ble_eq_true rfl, Nat.le_of_ble_eq_true rfl⟩) rfl hl.1 (Nat.le_of_ble_eq_true rfl) rfl dX7_asksSides_1 ⟨Nat.le_of_ble_eq_true rfl, Nat.le_of_ble_eq_true rfl⟩ (fun H locs hI => ?_)
  refine lv_if_eq (tgt := 16) hx hb dX7_asksSides_4 (by decide) (fun c3 => ?_) (fun c3 => ?_)
  · have hf := o_pos hf c3
    refine lv_iconst (v := 0) hx hb dX7_asksSides_16 (by decide) ?_
    exact hret hf rfl hI dX7_asksSides_17
  · have hf := o_neg hf c3
    refine lv_aload_n hx hb dX7_asksSides_7 rfl (lv_at hl 0 rfl) ?_
    refine lv_iload_n hx hb dX7_asksSides_8 rfl (lv_at hl 1 rfl) ?_
    refine lv_i2l hx hb dX7_asksSides_9 rfl ?_
    obtain ⟨r5, σ4, hσ4, hf⟩ := bnd_some hf
    refine m_calli X hI hc [.long p0.toInt64] (m7_isState l D cl Z hz ci A d tm hc p0.toInt64 σ1 r5 σ4 hσ4) (cw7_isState hts ⟨Nat.le_of_ble_eq_true rfl, Nat.le_of_ble_eq_true rfl⟩) rfl hl.1 (Nat.le_of_ble_eq_true rfl) rfl dX7_asksSides_10 ⟨Nat.le_of_ble_eq_true rfl, Nat.le_of_ble_eq_true rfl⟩ (fun H locs hI => ?_)
    refine lv_if_ne (tgt := 18) hx hb dX7_asksSides_13 (by decide) (fun c6 => ?_) (fun c6 => ?_)
    · have hf := o_neg hf c6
      refine lv_aload_n hx hb dX7_asksSides_18 rfl (lv_at hl 0 rfl) ?_
      refine lv_iload_n hx hb dX7_asksSides_19 rfl (lv_at hl 1 rfl) ?_
      obtain ⟨σ7, hσ7, hf⟩ := bn1_some hf
      refine m_callv X hI hc [.int p0] (m7_laySides l D cl Z hz ci A d tm hc p0 σ4 σ7 hσ7) (cw7_laySides hts ⟨Nat.le_of_ble_eq_true rfl, Nat.le_of_ble_eq_true rfl⟩) rfl hl.1 (Nat.le_of_ble_eq_true rfl) rfl dX7_asksSides_20 ⟨Nat.le_of_ble_eq_true rfl, Nat.le_of_ble_eq_true rfl⟩ (fun H locs hI => ?_)
      refine lv_iconst (v := 1) hx hb dX7_asksSides_23 (by decide) ?_
      exact hret hf rfl hI dX7_asksSides_24
    · have hf := o_pos hf c6
      refine lv_iconst (v := 0) hx hb dX7_asksSides_16 (by decide) ?_
      exact hret hf rfl hI dX7_asksSides_17
/-! isDepth -/
def f7_isDepth (p0 : Int32) : Option Int32 :=
  bn1 (f7_in p0.toInt64 0 3) fun r1 =>
  grd (bZ r1) <|
  some r1
abbrev r7_isDepth : Room := { frames := 1, cells := 0, slots := 0, locals := 25 }
theorem cw7_isDepth {R : Room} {s : State} {args : Array Value} (ht : ∀ w ∈ lw_all, w.before args s = true) (hR : r7_isDepth.frames + 1 ≤ R.frames ∧ 8 + (1 + 11) + r7_isDepth.locals ≤ R.locals) : CallB R s args RX7 357 yX7_isDepth cX7_isDepth 1 (some .boolean) (ws_ yX7_isDepth cX7_isDepth 1 (some .boolean)) r7_isDepth 0 0 1 ∧ (Cond.static yX7_isDepth).before args s = true :=
  va_cwS 1 ht (lw_S q3170 q3171 q178 q3172) rfl rfl rfl (by decide +kernel) hR
theorem m7_isDepth (l : Launch) (p0 : Int32) (r : Int32) (hf : f7_isDepth p0 = some r) : XPi l yX7_isDepth (ws_ yX7_isDepth cX7_isDepth 1 (some .boolean)) r7_isDepth [.int p0] r := by
  refine s_openz (by decide) (by exact Nat.le_of_ble_eq_true rfl) (fun p e s m args below meth c ls A0 Q D cl tys X hI hl hret => ?_)
  have X : XC p s m args meth c cX7_isDepth 1 RX7 D cl tys A0 ZT := X
  have hx := X.1
  have hb := X.2.1
  have hown := X.2.2.2.1
  have hts := X.2.2.2.2.1
  have hl : lv_has ls 1 [(0, .int p0)] := hl
  unfold f7_isDepth at hf
  obtain ⟨H, eH⟩ : ∃ H, H = s.heap := ⟨_, rfl⟩
  obtain ⟨locs, eL⟩ : ∃ locs : List Loc, locs = [] := ⟨_, rfl⟩
  have hI : XI D cl [] A0 s.heap H locs := by rw [eH, eL]; exact hI
  rw [← eL]
  suffices h : W p l e r7_isDepth s m args below meth c H locs 0 0 Q (F0 m 0 ls []) by rw [eH] at h; exact h
  clear eH eL
  refine lv_iload_n hx hb dX7_isDepth_0 rfl (lv_at hl 0 rfl) ?_
  refine lv_i2l hx hb dX7_isDepth_1 rfl ?_
  refine lv_lconst (v := 0) hx hb dX7_isDepth_2 (by decide) ?_
  refine lv_ldc2 (v := 3) hx hb hown (hts _ q2974) dX7_isDepth_3 ?_
  obtain ⟨r1, hr1, hf⟩ := bn1_some hf
  refine x_callSi (As := [.long p0.toInt64, .long 0, .long 3]) X hI (m7_in l p0.toInt64 0 3 r1 hr1) (cw7_in hts ⟨Nat.le_of_ble_eq_true rfl, Nat.le_of_ble_eq_true rfl⟩) rfl hl.1 (Nat.le_of_ble_eq_true rfl) rfl dX7_isDepth_6 ⟨Nat.le_of_ble_eq_true rfl, Nat.le_of_ble_eq_true rfl⟩ (fun H locs hI => ?_)
  obtain ⟨g2, hf⟩ := grd_some hf
  exact hret hf g2 hI dX7_isDepth_9
/-! within_21 -/
def f7_within_21_b23 (K4 : Int32 → Int32 → Int32 → MS → oI Int32) (x1 : Int32) (x3 : Int32) (z0 : Int32) (z1 : Int32) (σ : MS) : oI Int32 :=
  K4 x1 (z0 + z1) (x3 + 1) σ
def f7_within_21_b4 (K4 : Int32 → Int32 → Int32 → MS → oI Int32) (x1 : Int32) (x2 : Int32) (x3 : Int32) (σ : MS) : oI Int32 :=
  if 64 ≤ x3 then (some (x2, σ)) else (grd (inB x3 64) <|
  if x1 < (gA σ 21 x3.toNatClampNeg) then (f7_within_21_b23 K4 x1 x3 x2 0 σ) else (f7_within_21_b23 K4 x1 x3 x2 1 σ))
def f7_within_21_l4 : Nat → Int32 → Int32 → Int32 → MS → oI Int32
  | 0 => fun _ _ _ _ => none
  | n + 1 => fun x1 x2 x3 σ => f7_within_21_b4 (f7_within_21_l4 n) x1 x2 x3 σ
def f7_within_21 (p1 : Int32) (σ : MS) : oI Int32 :=
  f7_within_21_l4 FU p1 0 0 σ
abbrev r7_within : Room := { frames := 0, cells := 0, slots := 0, locals := 0 }
theorem cw7_within {R : Room} {s : State} {args : Array Value} (ht : ∀ w ∈ lw_all, w.before args s = true) (hR : r7_within.frames + 1 ≤ R.frames ∧ 8 + (4 + 11) + r7_within.locals ≤ R.locals) : CallB R s args RX7 360 yX7_within cX7_within 4 (some .int) (ws_ yX7_within cX7_within 4 (some .int)) r7_within 0 0 2 ∧ (Cond.static yX7_within).before args s = true :=
  va_cwS 2 ht (lw_S q3173 q3174 q178 q3175) rfl rfl rfl (by decide +kernel) hR
theorem m7_within_21 (l : Launch) (D : va_G) (cl : vC2) (Z : (Nat → Prop) → State → Heap → Prop) (hz : ZK Z) (ci : Nat) (A : Nat → Nat) (d : Nat → ClassId) (tm : List (ClassId × FieldType)) (hc : cl.1[ci]? = some (RX7, TX7, 42)) (p1 : Int32) (σ : MS) (r : Int32) (σ' : MS) (hf : f7_within_21 p1 σ = some (r, σ')) : MSi l yX7_within (ws_ yX7_within cX7_within 4 (some .int)) r7_within D cl Z ci A d tm σ [.ref (A 21), .int p1] r σ' := by
  refine m_openS hz (by decide) (by exact Nat.le_of_ble_eq_true rfl) (fun p e s m args below meth c ls A0 Q X hI hl hret => ?_)
  have X : XC p s m args meth c cX7_within 4 RX7 D cl (mty d tm) A0 Z := X
  have hx := X.1
  have hb := X.2.1
  have hown := X.2.2.2.1
  have hts := X.2.2.2.2.1
  have L4 : ∀ (n : Nat) (x1 : Int32) (x2 : Int32) (x3 : Int32) (σ : MS), f7_within_21_l4 n x1 x2 x3 σ = some (r, σ') → ∀ (H : Heap) (locs : List Loc), XI D cl (mw ci A d σ) A0 s.heap H locs → ∀ (ls : Array Slot), lv_has ls 4 [(0, .ref (A 21)), (1, .int x1), (2, .int x2), (3, .int x3)] → W p l e r7_within s m args below meth c H locs 0 0 Q (F0 m 4 ls []) := by
    intro n4
    induction n4 with
    | zero => intro x1 x2 x3 σ hf; cases hf
    | succ n4 ih4 =>
      have J23 : ∀ (x1 : Int32) (x3 : Int32) (z0 : Int32) (z1 : Int32) (σ : MS), f7_within_21_b23 (f7_within_21_l4 n4) x1 x3 z0 z1 σ = some (r, σ') → ∀ (H : Heap) (locs : List Loc), XI D cl (mw ci A d σ) A0 s.heap H locs → ∀ (ls : Array Slot), lv_has ls 4 [(0, .ref (A 21)), (1, .int x1), (3, .int x3)] → W p l e r7_within s m args below meth c H locs 0 0 Q (F0 m 23 ls [.int z1, .int z0]) := by
        intro x1 x3 z0 z1 σ hf H locs hI ls hl
        unfold f7_within_21_b23 at hf
        refine lv_iadd hx hb dX7_within_23 ?_
        refine lv_istore_n (lv' := [(2, .int (z0 + z1)), (0, .ref (A 21)), (1, .int x1), (3, .int x3)]) hx hb dX7_within_24 rfl hl (by decide) rfl (fun ls hl => ?_)
        refine lv_iinc (v := x3 + 1) (lv' := [(3, .int (x3 + 1)), (2, .int (z0 + z1)), (0, .ref (A 21)), (1, .int x1)]) hx hb dX7_within_25 hl (k := 3) rfl rfl (by decide) rfl (fun ls hl => ?_)
        refine lv_goto (tgt := 4) hx hb dX7_within_28 (by decide) ?_
        exact ih4 x1 (z0 + z1) (x3 + 1) σ hf H locs hI ls (lv_sub hl [2, 3, 1, 0] rfl)
      intro x1 x2 x3 σ hf H locs hI ls hl
      have hf : f7_within_21_b4 (f7_within_21_l4 n4) x1 x2 x3 σ = some (r, σ') := hf
      unfold f7_within_21_b4 at hf
      refine lv_iload_n hx hb dX7_within_4 rfl (lv_at hl 3 rfl) ?_
      refine lv_bipush (v := 64) hx hb dX7_within_5 (by decide) ?_
      refine lv_icmp_ge (tgt := 31) hx hb dX7_within_7 (by decide) (fun c1 => ?_) (fun c1 => ?_)
      · have hf := o_pos hf c1
        refine lv_iload_n hx hb dX7_within_31 rfl (lv_at hl 2 rfl) ?_
        exact hret hf hI dX7_within_32
      · have hf := o_neg hf c1
        refine lv_iload_n hx hb dX7_within_10 rfl (lv_at hl 2 rfl) ?_
        refine lv_aload_n hx hb dX7_within_11 rfl (lv_at hl 0 rfl) ?_
        refine lv_iload_n hx hb dX7_within_12 rfl (lv_at hl 3 rfl) ?_
        obtain ⟨g2, hf⟩ := grd_some hf
        refine m_iald X hI 21 10 64 rfl rfl g2 dX7_within_13 ?_
        refine lv_iload_n hx hb dX7_within_14 rfl (lv_at hl 1 rfl) ?_
        refine lv_icmp_gt (tgt := 22) hx hb dX7_within_15 (by decide) (fun c3 => ?_) (fun c3 => ?_)
        · have hf := o_pos hf c3
          refine lv_iconst (v := 0) hx hb dX7_within_22 (by decide) ?_
          exact J23 x1 x3 x2 0 σ hf H locs hI ls (lv_sub hl [0, 1, 3] rfl)
        · have hf := o_neg hf c3
          refine lv_iconst (v := 1) hx hb dX7_within_18 (by decide) ?_
          refine lv_goto (tgt := 23) hx hb dX7_within_19 (by decide) ?_
          exact J23 x1 x3 x2 1 σ hf H locs hI ls (lv_sub hl [0, 1, 3] rfl)
  have hl : lv_has ls 4 [(0, .ref (A 21)), (1, .int p1)] := hl
  unfold f7_within_21 at hf
  obtain ⟨H, eH⟩ : ∃ H, H = s.heap := ⟨_, rfl⟩
  obtain ⟨locs, eL⟩ : ∃ locs : List Loc, locs = [] := ⟨_, rfl⟩
  have hI : XI D cl (mw ci A d σ) A0 s.heap H locs := by rw [eH, eL]; exact hI
  rw [← eL]
  suffices h : W p l e r7_within s m args below meth c H locs 0 0 Q (F0 m 0 ls []) by rw [eH] at h; exact h
  clear eH eL
  refine lv_iconst (v := 0) hx hb dX7_within_0 (by decide) ?_
  refine lv_istore_n (lv' := [(2, .int 0), (0, .ref (A 21)), (1, .int p1)]) hx hb dX7_within_1 rfl hl (by decide) rfl (fun ls hl => ?_)
  refine lv_iconst (v := 0) hx hb dX7_within_2 (by decide) ?_
  refine lv_istore_n (lv' := [(3, .int 0), (2, .int 0), (0, .ref (A 21)), (1, .int p1)]) hx hb dX7_within_3 rfl hl (by decide) rfl (fun ls hl => ?_)
  exact L4 FU p1 0 0 σ hf H locs hI ls (lv_sub hl [2, 3, 1, 0] rfl)
/-! within_22 -/
def f7_within_22_b23 (K4 : Int32 → Int32 → Int32 → MS → oI Int32) (x1 : Int32) (x3 : Int32) (z0 : Int32) (z1 : Int32) (σ : MS) : oI Int32 :=
  K4 x1 (z0 + z1) (x3 + 1) σ
def f7_within_22_b4 (K4 : Int32 → Int32 → Int32 → MS → oI Int32) (x1 : Int32) (x2 : Int32) (x3 : Int32) (σ : MS) : oI Int32 :=
  if 64 ≤ x3 then (some (x2, σ)) else (grd (inB x3 64) <|
  if x1 < (gA σ 22 x3.toNatClampNeg) then (f7_within_22_b23 K4 x1 x3 x2 0 σ) else (f7_within_22_b23 K4 x1 x3 x2 1 σ))
def f7_within_22_l4 : Nat → Int32 → Int32 → Int32 → MS → oI Int32
  | 0 => fun _ _ _ _ => none
  | n + 1 => fun x1 x2 x3 σ => f7_within_22_b4 (f7_within_22_l4 n) x1 x2 x3 σ
def f7_within_22 (p1 : Int32) (σ : MS) : oI Int32 :=
  f7_within_22_l4 FU p1 0 0 σ
theorem m7_within_22 (l : Launch) (D : va_G) (cl : vC2) (Z : (Nat → Prop) → State → Heap → Prop) (hz : ZK Z) (ci : Nat) (A : Nat → Nat) (d : Nat → ClassId) (tm : List (ClassId × FieldType)) (hc : cl.1[ci]? = some (RX7, TX7, 42)) (p1 : Int32) (σ : MS) (r : Int32) (σ' : MS) (hf : f7_within_22 p1 σ = some (r, σ')) : MSi l yX7_within (ws_ yX7_within cX7_within 4 (some .int)) r7_within D cl Z ci A d tm σ [.ref (A 22), .int p1] r σ' := by
  refine m_openS hz (by decide) (by exact Nat.le_of_ble_eq_true rfl) (fun p e s m args below meth c ls A0 Q X hI hl hret => ?_)
  have X : XC p s m args meth c cX7_within 4 RX7 D cl (mty d tm) A0 Z := X
  have hx := X.1
  have hb := X.2.1
  have hown := X.2.2.2.1
  have hts := X.2.2.2.2.1
  have L4 : ∀ (n : Nat) (x1 : Int32) (x2 : Int32) (x3 : Int32) (σ : MS), f7_within_22_l4 n x1 x2 x3 σ = some (r, σ') → ∀ (H : Heap) (locs : List Loc), XI D cl (mw ci A d σ) A0 s.heap H locs → ∀ (ls : Array Slot), lv_has ls 4 [(0, .ref (A 22)), (1, .int x1), (2, .int x2), (3, .int x3)] → W p l e r7_within s m args below meth c H locs 0 0 Q (F0 m 4 ls []) := by
    intro n4
    induction n4 with
    | zero => intro x1 x2 x3 σ hf; cases hf
    | succ n4 ih4 =>
      have J23 : ∀ (x1 : Int32) (x3 : Int32) (z0 : Int32) (z1 : Int32) (σ : MS), f7_within_22_b23 (f7_within_22_l4 n4) x1 x3 z0 z1 σ = some (r, σ') → ∀ (H : Heap) (locs : List Loc), XI D cl (mw ci A d σ) A0 s.heap H locs → ∀ (ls : Array Slot), lv_has ls 4 [(0, .ref (A 22)), (1, .int x1), (3, .int x3)] → W p l e r7_within s m args below meth c H locs 0 0 Q (F0 m 23 ls [.int z1, .int z0]) := by
        intro x1 x3 z0 z1 σ hf H locs hI ls hl
        unfold f7_within_22_b23 at hf
        refine lv_iadd hx hb dX7_within_23 ?_
        refine lv_istore_n (lv' := [(2, .int (z0 + z1)), (0, .ref (A 22)), (1, .int x1), (3, .int x3)]) hx hb dX7_within_24 rfl hl (by decide) rfl (fun ls hl => ?_)
        refine lv_iinc (v := x3 + 1) (lv' := [(3, .int (x3 + 1)), (2, .int (z0 + z1)), (0, .ref (A 22)), (1, .int x1)]) hx hb dX7_within_25 hl (k := 3) rfl rfl (by decide) rfl (fun ls hl => ?_)
        refine lv_goto (tgt := 4) hx hb dX7_within_28 (by decide) ?_
        exact ih4 x1 (z0 + z1) (x3 + 1) σ hf H locs hI ls (lv_sub hl [2, 3, 1, 0] rfl)
      intro x1 x2 x3 σ hf H locs hI ls hl
      have hf : f7_within_22_b4 (f7_within_22_l4 n4) x1 x2 x3 σ = some (r, σ') := hf
      unfold f7_within_22_b4 at hf
      refine lv_iload_n hx hb dX7_within_4 rfl (lv_at hl 3 rfl) ?_
      refine lv_bipush (v := 64) hx hb dX7_within_5 (by decide) ?_
      refine lv_icmp_ge (tgt := 31) hx hb dX7_within_7 (by decide) (fun c1 => ?_) (fun c1 => ?_)
      · have hf := o_pos hf c1
        refine lv_iload_n hx hb dX7_within_31 rfl (lv_at hl 2 rfl) ?_
        exact hret hf hI dX7_within_32
      · have hf := o_neg hf c1
        refine lv_iload_n hx hb dX7_within_10 rfl (lv_at hl 2 rfl) ?_
        refine lv_aload_n hx hb dX7_within_11 rfl (lv_at hl 0 rfl) ?_
        refine lv_iload_n hx hb dX7_within_12 rfl (lv_at hl 3 rfl) ?_
        obtain ⟨g2, hf⟩ := grd_some hf
        refine m_iald X hI 22 11 64 rfl rfl g2 dX7_within_13 ?_
        refine lv_iload_n hx hb dX7_within_14 rfl (lv_at hl 1 rfl) ?_
        refine lv_icmp_gt (tgt := 22) hx hb dX7_within_15 (by decide) (fun c3 => ?_) (fun c3 => ?_)
        · have hf := o_pos hf c3
          refine lv_iconst (v := 0) hx hb dX7_within_22 (by decide) ?_
          exact J23 x1 x3 x2 0 σ hf H locs hI ls (lv_sub hl [0, 1, 3] rfl)
        · have hf := o_neg hf c3
          refine lv_iconst (v := 1) hx hb dX7_within_18 (by decide) ?_
          refine lv_goto (tgt := 23) hx hb dX7_within_19 (by decide) ?_
          exact J23 x1 x3 x2 1 σ hf H locs hI ls (lv_sub hl [0, 1, 3] rfl)
  have hl : lv_has ls 4 [(0, .ref (A 22)), (1, .int p1)] := hl
  unfold f7_within_22 at hf
  obtain ⟨H, eH⟩ : ∃ H, H = s.heap := ⟨_, rfl⟩
  obtain ⟨locs, eL⟩ : ∃ locs : List Loc, locs = [] := ⟨_, rfl⟩
  have hI : XI D cl (mw ci A d σ) A0 s.heap H locs := by rw [eH, eL]; exact hI
  rw [← eL]
  suffices h : W p l e r7_within s m args below meth c H locs 0 0 Q (F0 m 0 ls []) by rw [eH] at h; exact h
  clear eH eL
  refine lv_iconst (v := 0) hx hb dX7_within_0 (by decide) ?_
  refine lv_istore_n (lv' := [(2, .int 0), (0, .ref (A 22)), (1, .int p1)]) hx hb dX7_within_1 rfl hl (by decide) rfl (fun ls hl => ?_)
  refine lv_iconst (v := 0) hx hb dX7_within_2 (by decide) ?_
  refine lv_istore_n (lv' := [(3, .int 0), (2, .int 0), (0, .ref (A 22)), (1, .int p1)]) hx hb dX7_within_3 rfl hl (by decide) rfl (fun ls hl => ?_)
  exact L4 FU p1 0 0 σ hf H locs hI ls (lv_sub hl [2, 3, 1, 0] rfl)
/-! orNone -/
def f7_orNone (p0 : Int32) (p1 : Int32) (σ : MS) : oI Int32 :=
  grd (inB p0 64) <|
  if (gA σ 19 p0.toNatClampNeg) = 0 then (some ((-1), σ)) else (some (p1, σ))
abbrev r7_orNone : Room := { frames := 0, cells := 0, slots := 0, locals := 0 }
theorem cw7_orNone {R : Room} {s : State} {args : Array Value} (ht : ∀ w ∈ lw_all, w.before args s = true) (hR : r7_orNone.frames + 1 ≤ R.frames ∧ 8 + (3 + 11) + r7_orNone.locals ≤ R.locals) : CallW R s args RX7 RX7 364 yX7_orNone cX7_orNone 3 (some .int) (ws_ yX7_orNone cX7_orNone 3 (some .int)) r7_orNone 0 0 2 :=
  cwV 2 ht (lw_V q3176 q3178 qs141 q178 q3179) rfl rfl rfl (by decide +kernel) hR
theorem m7_orNone (l : Launch) (D : va_G) (cl : vC2) (Z : (Nat → Prop) → State → Heap → Prop) (hz : ZK Z) (ci : Nat) (A : Nat → Nat) (d : Nat → ClassId) (tm : List (ClassId × FieldType)) (hc : cl.1[ci]? = some (RX7, TX7, 42)) (p0 : Int32) (p1 : Int32) (σ : MS) (r : Int32) (σ' : MS) (hf : f7_orNone p0 p1 σ = some (r, σ')) : MMi l yX7_orNone (ws_ yX7_orNone cX7_orNone 3 (some .int)) r7_orNone D cl Z ci A d tm σ [.int p0, .int p1] r σ' := by
  refine m_openi hz (by decide) (by exact Nat.le_of_ble_eq_true rfl) (fun p e s m args below meth c ls A0 Q X hI hl hret => ?_)
  have X : XC p s m args meth c cX7_orNone 3 RX7 D cl (mty d tm) A0 Z := X
  have hx := X.1
  have hb := X.2.1
  have hown := X.2.2.2.1
  have hts := X.2.2.2.2.1
  have hl : lv_has ls 3 [(0, .ref (A 0)), (1, .int p0), (2, .int p1)] := hl
  unfold f7_orNone at hf
  obtain ⟨H, eH⟩ : ∃ H, H = s.heap := ⟨_, rfl⟩
  obtain ⟨locs, eL⟩ : ∃ locs : List Loc, locs = [] := ⟨_, rfl⟩
  have hI : XI D cl (mw ci A d σ) A0 s.heap H locs := by rw [eH, eL]; exact hI
  rw [← eL]
  suffices h : W p l e r7_orNone s m args below meth c H locs 0 0 Q (F0 m 0 ls []) by rw [eH] at h; exact h
  clear eH eL
  refine lv_aload_n hx hb dX7_orNone_0 rfl (lv_at hl 0 rfl) ?_
  refine m_get (v := .ref (A 19)) X hI hc 19 (by decide) q2677 rfl dX7_orNone_1 ?_
  refine lv_iload_n hx hb dX7_orNone_4 rfl (lv_at hl 1 rfl) ?_
  obtain ⟨g1, hf⟩ := grd_some hf
  refine m_zald X hI 19 8 64 rfl rfl g1 dX7_orNone_5 ?_
  refine lv_if_eq (tgt := 13) hx hb dX7_orNone_6 (by decide) (fun c2 => ?_) (fun c2 => ?_)
  · have hf := o_pos hf c2
    refine lv_iconst (v := -1) hx hb dX7_orNone_13 (by decide) ?_
    exact hret hf hI dX7_orNone_14
  · have hf := o_neg hf c2
    refine lv_iload_n hx hb dX7_orNone_9 rfl (lv_at hl 2 rfl) ?_
    refine lv_goto (tgt := 14) hx hb dX7_orNone_10 (by decide) ?_
    exact hret hf hI dX7_orNone_14
/-! reach -/
def f7_reach (p0 : Int32) (p1 : Int32) (σ : MS) : oI Int32 :=
  bnd (f7_asksSides p0 σ) fun r2 σ1 =>
  if r2 = 0 then (some ((-2), σ1)) else (bn1 (f7_isDepth p1) fun r4 =>
  if r4 = 0 then (some ((-2), σ1)) else (bnd (f7_within_21 p1 σ1) fun r6 σ7 =>
  bnd (f7_orNone p0 r6 σ7) fun r9 σ8 =>
  some (r9, σ8)))
abbrev r7_reach : Room := { frames := 7, cells := 0, slots := 0, locals := 161 }
theorem m7_reach (l : Launch) (D : va_G) (cl : vC2) (Z : (Nat → Prop) → State → Heap → Prop) (hz : ZK Z) (ci : Nat) (A : Nat → Nat) (d : Nat → ClassId) (tm : List (ClassId × FieldType)) (hc : cl.1[ci]? = some (RX7, TX7, 42)) (p0 : Int32) (p1 : Int32) (σ : MS) (r : Int32) (σ' : MS) (hf : f7_reach p0 p1 σ = some (r, σ')) : MMi l yX7_reach (ws_ yX7_reach cX7_reach 3 (some .int)) r7_reach D cl Z ci A d tm σ [.int p0, .int p1] r σ' := by
  refine m_openi hz (by decide) (by exact Nat.le_of_ble_eq_true rfl) (fun p e s m args below meth c ls A0 Q X hI hl hret => ?_)
  have X : XC p s m args meth c cX7_reach 3 RX7 D cl (mty d tm) A0 Z := X
  have hx := X.1
  have hb := X.2.1
  have hown := X.2.2.2.1
  have hts := X.2.2.2.2.1
  have hl : lv_has ls 3 [(0, .ref (A 0)), (1, .int p0), (2, .int p1)] := hl
  unfold f7_reach at hf
  obtain ⟨H, eH⟩ : ∃ H, H = s.heap := ⟨_, rfl⟩
  obtain ⟨locs, eL⟩ : ∃ locs : List Loc, locs = [] := ⟨_, rfl⟩
  have hI : XI D cl (mw ci A d σ) A0 s.heap H locs := by rw [eH, eL]; exact hI
  rw [← eL]
  suffices h : W p l e r7_reach s m args below meth c H locs 0 0 Q (F0 m 0 ls []) by rw [eH] at h; exact h
  clear eH eL
  refine lv_aload_n hx hb dX7_reach_0 rfl (lv_at hl 0 rfl) ?_
  refine lv_iload_n hx hb dX7_reach_1 rfl (lv_at hl 1 rfl) ?_
  obtain ⟨r2, σ1, hσ1, hf⟩ := bnd_some hf
  refine m_calli X hI hc [.int p0] (m7_asksSides l D cl Z hz ci A d tm hc p0 σ r2 σ1 hσ1) (cw7_asksSides hts ⟨Nat.le_of_ble_eq_true rfl, Nat.le_of_ble_eq_true rfl⟩) rfl hl.1 (Nat.le_of_ble_eq_true rfl) rfl dX7_reach_2 ⟨Nat.le_of_ble_eq_true rfl, Nat.le_of_ble_eq_true rfl⟩ (fun H locs hI => ?_)
  refine lv_if_eq (tgt := 31) hx hb dX7_reach_5 (by decide) (fun c3 => ?_) (fun c3 => ?_)
  · have hf := o_pos hf c3
    refine lv_bipush (v := -2) hx hb dX7_reach_31 (by decide) ?_
    exact hret hf hI dX7_reach_33
  · have hf := o_neg hf c3
    refine lv_iload_n hx hb dX7_reach_8 rfl (lv_at hl 2 rfl) ?_
    obtain ⟨r4, hr4, hf⟩ := bn1_some hf
    refine x_callSi (As := [.int p1]) X hI (m7_isDepth l p1 r4 hr4) (cw7_isDepth hts ⟨Nat.le_of_ble_eq_true rfl, Nat.le_of_ble_eq_true rfl⟩) rfl hl.1 (Nat.le_of_ble_eq_true rfl) rfl dX7_reach_9 ⟨Nat.le_of_ble_eq_true rfl, Nat.le_of_ble_eq_true rfl⟩ (fun H locs hI => ?_)
    refine lv_if_eq (tgt := 31) hx hb dX7_reach_12 (by decide) (fun c5 => ?_) (fun c5 => ?_)
    · have hf := o_pos hf c5
      refine lv_bipush (v := -2) hx hb dX7_reach_31 (by decide) ?_
      exact hret hf hI dX7_reach_33
    · have hf := o_neg hf c5
      refine lv_aload_n hx hb dX7_reach_15 rfl (lv_at hl 0 rfl) ?_
      refine lv_iload_n hx hb dX7_reach_16 rfl (lv_at hl 1 rfl) ?_
      refine lv_aload_n hx hb dX7_reach_17 rfl (lv_at hl 0 rfl) ?_
      refine m_get (v := .ref (A 21)) X hI hc 21 (by decide) q2679 rfl dX7_reach_18 ?_
      refine lv_iload_n hx hb dX7_reach_21 rfl (lv_at hl 2 rfl) ?_
      obtain ⟨r6, σ7, hσ7, hf⟩ := bnd_some hf
      refine m_callsi X hI [.ref (A 21), .int p1] (m7_within_21 l D cl Z hz ci A d tm hc p1 σ1 r6 σ7 hσ7) (cw7_within hts ⟨Nat.le_of_ble_eq_true rfl, Nat.le_of_ble_eq_true rfl⟩) rfl hl.1 (Nat.le_of_ble_eq_true rfl) rfl dX7_reach_22 ⟨Nat.le_of_ble_eq_true rfl, Nat.le_of_ble_eq_true rfl⟩ (fun H locs hI => ?_)
      obtain ⟨r9, σ8, hσ8, hf⟩ := bnd_some hf
      refine m_calli X hI hc [.int p0, .int r6] (m7_orNone l D cl Z hz ci A d tm hc p0 r6 σ7 r9 σ8 hσ8) (cw7_orNone hts ⟨Nat.le_of_ble_eq_true rfl, Nat.le_of_ble_eq_true rfl⟩) rfl hl.1 (Nat.le_of_ble_eq_true rfl) rfl dX7_reach_25 ⟨Nat.le_of_ble_eq_true rfl, Nat.le_of_ble_eq_true rfl⟩ (fun H locs hI => ?_)
      refine lv_goto (tgt := 33) hx hb dX7_reach_28 (by decide) ?_
      exact hret hf hI dX7_reach_33
/-! freely -/
def f7_freely (p0 : Int32) (p1 : Int32) (σ : MS) : oI Int32 :=
  bnd (f7_asksSides p0 σ) fun r2 σ1 =>
  if r2 = 0 then (some ((-2), σ1)) else (bn1 (f7_isDepth p1) fun r4 =>
  if r4 = 0 then (some ((-2), σ1)) else (bnd (f7_within_22 p1 σ1) fun r6 σ7 =>
  bnd (f7_orNone p0 r6 σ7) fun r9 σ8 =>
  some (r9, σ8)))
abbrev r7_freely : Room := { frames := 7, cells := 0, slots := 0, locals := 161 }
theorem m7_freely (l : Launch) (D : va_G) (cl : vC2) (Z : (Nat → Prop) → State → Heap → Prop) (hz : ZK Z) (ci : Nat) (A : Nat → Nat) (d : Nat → ClassId) (tm : List (ClassId × FieldType)) (hc : cl.1[ci]? = some (RX7, TX7, 42)) (p0 : Int32) (p1 : Int32) (σ : MS) (r : Int32) (σ' : MS) (hf : f7_freely p0 p1 σ = some (r, σ')) : MMi l yX7_freely (ws_ yX7_freely cX7_freely 3 (some .int)) r7_freely D cl Z ci A d tm σ [.int p0, .int p1] r σ' := by
  refine m_openi hz (by decide) (by exact Nat.le_of_ble_eq_true rfl) (fun p e s m args below meth c ls A0 Q X hI hl hret => ?_)
  have X : XC p s m args meth c cX7_freely 3 RX7 D cl (mty d tm) A0 Z := X
  have hx := X.1
  have hb := X.2.1
  have hown := X.2.2.2.1
  have hts := X.2.2.2.2.1
  have hl : lv_has ls 3 [(0, .ref (A 0)), (1, .int p0), (2, .int p1)] := hl
  unfold f7_freely at hf
  obtain ⟨H, eH⟩ : ∃ H, H = s.heap := ⟨_, rfl⟩
  obtain ⟨locs, eL⟩ : ∃ locs : List Loc, locs = [] := ⟨_, rfl⟩
  have hI : XI D cl (mw ci A d σ) A0 s.heap H locs := by rw [eH, eL]; exact hI
  rw [← eL]
  suffices h : W p l e r7_freely s m args below meth c H locs 0 0 Q (F0 m 0 ls []) by rw [eH] at h; exact h
  clear eH eL
  refine lv_aload_n hx hb dX7_freely_0 rfl (lv_at hl 0 rfl) ?_
  refine lv_iload_n hx hb dX7_freely_1 rfl (lv_at hl 1 rfl) ?_
  obtain ⟨r2, σ1, hσ1, hf⟩ := bnd_some hf
  refine m_calli X hI hc [.int p0] (m7_asksSides l D cl Z hz ci A d tm hc p0 σ r2 σ1 hσ1) (cw7_asksSides hts ⟨Nat.le_of_ble_eq_true rfl, Nat.le_of_ble_eq_true rfl⟩) rfl hl.1 (Nat.le_of_ble_eq_true rfl) rfl dX7_freely_2 ⟨Nat.le_of_ble_eq_true rfl, Nat.le_of_ble_eq_true rfl⟩ (fun H locs hI => ?_)
  refine lv_if_eq (tgt := 31) hx hb dX7_freely_5 (by decide) (fun c3 => ?_) (fun c3 => ?_)
  · have hf := o_pos hf c3
    refine lv_bipush (v := -2) hx hb dX7_freely_31 (by decide) ?_
    exact hret hf hI dX7_freely_33
  · have hf := o_neg hf c3
    refine lv_iload_n hx hb dX7_freely_8 rfl (lv_at hl 2 rfl) ?_
    obtain ⟨r4, hr4, hf⟩ := bn1_some hf
    refine x_callSi (As := [.int p1]) X hI (m7_isDepth l p1 r4 hr4) (cw7_isDepth hts ⟨Nat.le_of_ble_eq_true rfl, Nat.le_of_ble_eq_true rfl⟩) rfl hl.1 (Nat.le_of_ble_eq_true rfl) rfl dX7_freely_9 ⟨Nat.le_of_ble_eq_true rfl, Nat.le_of_ble_eq_true rfl⟩ (fun H locs hI => ?_)
    refine lv_if_eq (tgt := 31) hx hb dX7_freely_12 (by decide) (fun c5 => ?_) (fun c5 => ?_)
    · have hf := o_pos hf c5
      refine lv_bipush (v := -2) hx hb dX7_freely_31 (by decide) ?_
      exact hret hf hI dX7_freely_33
    · have hf := o_neg hf c5
      refine lv_aload_n hx hb dX7_freely_15 rfl (lv_at hl 0 rfl) ?_
      refine lv_iload_n hx hb dX7_freely_16 rfl (lv_at hl 1 rfl) ?_
      refine lv_aload_n hx hb dX7_freely_17 rfl (lv_at hl 0 rfl) ?_
      refine m_get (v := .ref (A 22)) X hI hc 22 (by decide) q2680 rfl dX7_freely_18 ?_
      refine lv_iload_n hx hb dX7_freely_21 rfl (lv_at hl 2 rfl) ?_
      obtain ⟨r6, σ7, hσ7, hf⟩ := bnd_some hf
      refine m_callsi X hI [.ref (A 22), .int p1] (m7_within_22 l D cl Z hz ci A d tm hc p1 σ1 r6 σ7 hσ7) (cw7_within hts ⟨Nat.le_of_ble_eq_true rfl, Nat.le_of_ble_eq_true rfl⟩) rfl hl.1 (Nat.le_of_ble_eq_true rfl) rfl dX7_freely_22 ⟨Nat.le_of_ble_eq_true rfl, Nat.le_of_ble_eq_true rfl⟩ (fun H locs hI => ?_)
      obtain ⟨r9, σ8, hσ8, hf⟩ := bnd_some hf
      refine m_calli X hI hc [.int p0, .int r6] (m7_orNone l D cl Z hz ci A d tm hc p0 r6 σ7 r9 σ8 hσ8) (cw7_orNone hts ⟨Nat.le_of_ble_eq_true rfl, Nat.le_of_ble_eq_true rfl⟩) rfl hl.1 (Nat.le_of_ble_eq_true rfl) rfl dX7_freely_25 ⟨Nat.le_of_ble_eq_true rfl, Nat.le_of_ble_eq_true rfl⟩ (fun H locs hI => ?_)
      refine lv_goto (tgt := 33) hx hb dX7_freely_28 (by decide) ?_
      exact hret hf hI dX7_freely_33
/-! far -/
def f7_far (p0 : Int32) (p1 : Int32) (σ : MS) : oI Int32 :=
  bnd (f7_asksSides p0 σ) fun r2 σ1 =>
  if r2 = 0 then (some ((-2), σ1)) else (bnd (f7_isState p1.toInt64 σ1) fun r5 σ4 =>
  if r5 = 0 then (some ((-2), σ4)) else (grd (inB p1 64) <|
  if (gA σ4 21 p1.toNatClampNeg) = 1000000000 then (some ((-1), σ4)) else (grd (inB p1 64) <|
  some (gA σ4 21 p1.toNatClampNeg, σ4))))
abbrev r7_far : Room := { frames := 7, cells := 0, slots := 0, locals := 161 }
theorem m7_far (l : Launch) (D : va_G) (cl : vC2) (Z : (Nat → Prop) → State → Heap → Prop) (hz : ZK Z) (ci : Nat) (A : Nat → Nat) (d : Nat → ClassId) (tm : List (ClassId × FieldType)) (hc : cl.1[ci]? = some (RX7, TX7, 42)) (p0 : Int32) (p1 : Int32) (σ : MS) (r : Int32) (σ' : MS) (hf : f7_far p0 p1 σ = some (r, σ')) : MMi l yX7_far (ws_ yX7_far cX7_far 3 (some .int)) r7_far D cl Z ci A d tm σ [.int p0, .int p1] r σ' := by
  refine m_openi hz (by decide) (by exact Nat.le_of_ble_eq_true rfl) (fun p e s m args below meth c ls A0 Q X hI hl hret => ?_)
  have X : XC p s m args meth c cX7_far 3 RX7 D cl (mty d tm) A0 Z := X
  have hx := X.1
  have hb := X.2.1
  have hown := X.2.2.2.1
  have hts := X.2.2.2.2.1
  have hl : lv_has ls 3 [(0, .ref (A 0)), (1, .int p0), (2, .int p1)] := hl
  unfold f7_far at hf
  obtain ⟨H, eH⟩ : ∃ H, H = s.heap := ⟨_, rfl⟩
  obtain ⟨locs, eL⟩ : ∃ locs : List Loc, locs = [] := ⟨_, rfl⟩
  have hI : XI D cl (mw ci A d σ) A0 s.heap H locs := by rw [eH, eL]; exact hI
  rw [← eL]
  suffices h : W p l e r7_far s m args below meth c H locs 0 0 Q (F0 m 0 ls []) by rw [eH] at h; exact h
  clear eH eL
  refine lv_aload_n hx hb dX7_far_0 rfl (lv_at hl 0 rfl) ?_
  refine lv_iload_n hx hb dX7_far_1 rfl (lv_at hl 1 rfl) ?_
  obtain ⟨r2, σ1, hσ1, hf⟩ := bnd_some hf
  refine m_calli X hI hc [.int p0] (m7_asksSides l D cl Z hz ci A d tm hc p0 σ r2 σ1 hσ1) (cw7_asksSides hts ⟨Nat.le_of_ble_eq_true rfl, Nat.le_of_ble_eq_true rfl⟩) rfl hl.1 (Nat.le_of_ble_eq_true rfl) rfl dX7_far_2 ⟨Nat.le_of_ble_eq_true rfl, Nat.le_of_ble_eq_true rfl⟩ (fun H locs hI => ?_)
  refine lv_if_eq (tgt := 17) hx hb dX7_far_5 (by decide) (fun c3 => ?_) (fun c3 => ?_)
  · have hf := o_pos hf c3
    refine lv_bipush (v := -2) hx hb dX7_far_17 (by decide) ?_
    exact hret hf hI dX7_far_19
  · have hf := o_neg hf c3
    refine lv_aload_n hx hb dX7_far_8 rfl (lv_at hl 0 rfl) ?_
    refine lv_iload_n hx hb dX7_far_9 rfl (lv_at hl 2 rfl) ?_
    refine lv_i2l hx hb dX7_far_10 rfl ?_
    obtain ⟨r5, σ4, hσ4, hf⟩ := bnd_some hf
    refine m_calli X hI hc [.long p1.toInt64] (m7_isState l D cl Z hz ci A d tm hc p1.toInt64 σ1 r5 σ4 hσ4) (cw7_isState hts ⟨Nat.le_of_ble_eq_true rfl, Nat.le_of_ble_eq_true rfl⟩) rfl hl.1 (Nat.le_of_ble_eq_true rfl) rfl dX7_far_11 ⟨Nat.le_of_ble_eq_true rfl, Nat.le_of_ble_eq_true rfl⟩ (fun H locs hI => ?_)
    refine lv_if_ne (tgt := 20) hx hb dX7_far_14 (by decide) (fun c6 => ?_) (fun c6 => ?_)
    · have hf := o_neg hf c6
      refine lv_aload_n hx hb dX7_far_20 rfl (lv_at hl 0 rfl) ?_
      refine m_get (v := .ref (A 21)) X hI hc 21 (by decide) q2679 rfl dX7_far_21 ?_
      refine lv_iload_n hx hb dX7_far_24 rfl (lv_at hl 2 rfl) ?_
      obtain ⟨g7, hf⟩ := grd_some hf
      refine m_iald X hI 21 10 64 rfl rfl g7 dX7_far_25 ?_
      refine lv_ldcw (v := 1000000000) hx hb hown (hts _ q3077) dX7_far_26 ?_
      refine lv_icmp_ne (tgt := 36) hx hb dX7_far_29 (by decide) (fun c8 => ?_) (fun c8 => ?_)
      · have hf := o_neg hf c8
        refine lv_aload_n hx hb dX7_far_36 rfl (lv_at hl 0 rfl) ?_
        refine m_get (v := .ref (A 21)) X hI hc 21 (by decide) q2679 rfl dX7_far_37 ?_
        refine lv_iload_n hx hb dX7_far_40 rfl (lv_at hl 2 rfl) ?_
        obtain ⟨g9, hf⟩ := grd_some hf
        refine m_iald X hI 21 10 64 rfl rfl g9 dX7_far_41 ?_
        exact hret hf hI dX7_far_42
      · have hf := o_pos hf c8
        refine lv_iconst (v := -1) hx hb dX7_far_32 (by decide) ?_
        refine lv_goto (tgt := 42) hx hb dX7_far_33 (by decide) ?_
        exact hret hf hI dX7_far_42
    · have hf := o_pos hf c6
      refine lv_bipush (v := -2) hx hb dX7_far_17 (by decide) ?_
      exact hret hf hI dX7_far_19
/-! step -/
def f7_step_b107 (K53 : Int32 → Int32 → Int32 → Int32 → MS → oI Int32) (x1 : Int32) (x2 : Int32) (x3 : Int32) (x4 : Int32) (σ : MS) : oI Int32 :=
  K53 x1 x2 x3 (x4 + 1) σ
def f7_step_b53 (K53 : Int32 → Int32 → Int32 → Int32 → MS → oI Int32) (x1 : Int32) (x2 : Int32) (x3 : Int32) (x4 : Int32) (σ : MS) : oI Int32 :=
  bnd (f7_ops σ) fun r14 σ13 =>
  if r14 ≤ x4 then (some ((-1), σ13)) else (bnd (f7_goesTo x4 x1 σ13) fun r17 σ16 =>
  if r17 = (-1) then (f7_step_b107 K53 x1 x2 x3 x4 σ16) else (bnd (f7_goesTo x4 x1 σ16) fun r20 σ19 =>
  bn1 (f7_layFar_21 r20 0 σ19) fun σ21 =>
  grd (inB x2 64) <|
  if (gA σ21 21 x2.toNatClampNeg) = (x3 - 1) then (some (x4, σ21)) else (f7_step_b107 K53 x1 x2 x3 x4 σ21)))
def f7_step_l53 : Nat → Int32 → Int32 → Int32 → Int32 → MS → oI Int32
  | 0 => fun _ _ _ _ _ => none
  | n + 1 => fun x1 x2 x3 x4 σ => f7_step_b53 (f7_step_l53 n) x1 x2 x3 x4 σ
def f7_step (p0 : Int32) (p1 : Int32) (σ : MS) : oI Int32 :=
  bnd (f7_asksSides p0 σ) fun r2 σ1 =>
  if r2 = 0 then (some ((-2), σ1)) else (bnd (f7_isState p1.toInt64 σ1) fun r5 σ4 =>
  if r5 = 0 then (some ((-2), σ4)) else (grd (inB p1 64) <|
  if (gA σ4 21 p1.toNatClampNeg) = 1000000000 then (some ((-1), σ4)) else (grd (inB p1 64) <|
  if (gA σ4 21 p1.toNatClampNeg) = 0 then (some ((-1), σ4)) else (grd (inB p1 64) <|
  nxt (gA σ4 21 p1.toNatClampNeg) fun v12 =>
  f7_step_l53 FU p0 p1 v12 0 σ4))))
abbrev r7_step : Room := { frames := 7, cells := 0, slots := 0, locals := 161 }
theorem m7_step (l : Launch) (D : va_G) (cl : vC2) (Z : (Nat → Prop) → State → Heap → Prop) (hz : ZK Z) (ci : Nat) (A : Nat → Nat) (d : Nat → ClassId) (tm : List (ClassId × FieldType)) (hc : cl.1[ci]? = some (RX7, TX7, 42)) (p0 : Int32) (p1 : Int32) (σ : MS) (r : Int32) (σ' : MS) (hf : f7_step p0 p1 σ = some (r, σ')) : MMi l yX7_step (ws_ yX7_step cX7_step 5 (some .int)) r7_step D cl Z ci A d tm σ [.int p0, .int p1] r σ' := by
  refine m_openi hz (by decide) (by exact Nat.le_of_ble_eq_true rfl) (fun p e s m args below meth c ls A0 Q X hI hl hret => ?_)
  have X : XC p s m args meth c cX7_step 5 RX7 D cl (mty d tm) A0 Z := X
  have hx := X.1
  have hb := X.2.1
  have hown := X.2.2.2.1
  have hts := X.2.2.2.2.1
  have L53 : ∀ (n : Nat) (x1 : Int32) (x2 : Int32) (x3 : Int32) (x4 : Int32) (σ : MS), f7_step_l53 n x1 x2 x3 x4 σ = some (r, σ') → ∀ (H : Heap) (locs : List Loc), XI D cl (mw ci A d σ) A0 s.heap H locs → ∀ (ls : Array Slot), lv_has ls 5 [(0, .ref (A 0)), (1, .int x1), (2, .int x2), (3, .int x3), (4, .int x4)] → W p l e r7_step s m args below meth c H locs 0 0 Q (F0 m 53 ls []) := by
    intro n53
    induction n53 with
    | zero => intro x1 x2 x3 x4 σ hf; cases hf
    | succ n53 ih53 =>
      have J107 : ∀ (x1 : Int32) (x2 : Int32) (x3 : Int32) (x4 : Int32) (σ : MS), f7_step_b107 (f7_step_l53 n53) x1 x2 x3 x4 σ = some (r, σ') → ∀ (H : Heap) (locs : List Loc), XI D cl (mw ci A d σ) A0 s.heap H locs → ∀ (ls : Array Slot), lv_has ls 5 [(0, .ref (A 0)), (1, .int x1), (2, .int x2), (3, .int x3), (4, .int x4)] → W p l e r7_step s m args below meth c H locs 0 0 Q (F0 m 107 ls []) := by
        intro x1 x2 x3 x4 σ hf H locs hI ls hl
        unfold f7_step_b107 at hf
        refine lv_iinc (v := x4 + 1) (lv' := [(4, .int (x4 + 1)), (0, .ref (A 0)), (1, .int x1), (2, .int x2), (3, .int x3)]) hx hb dX7_step_107 hl (k := 4) rfl rfl (by decide) rfl (fun ls hl => ?_)
        refine lv_goto (tgt := 53) hx hb dX7_step_110 (by decide) ?_
        exact ih53 x1 x2 x3 (x4 + 1) σ hf H locs hI ls (lv_sub hl [1, 2, 3, 4, 0] rfl)
      intro x1 x2 x3 x4 σ hf H locs hI ls hl
      have hf : f7_step_b53 (f7_step_l53 n53) x1 x2 x3 x4 σ = some (r, σ') := hf
      unfold f7_step_b53 at hf
      refine lv_iload hx hb dX7_step_53 (lv_at hl 4 rfl) ?_
      refine lv_aload_n hx hb dX7_step_55 rfl (lv_at hl 0 rfl) ?_
      obtain ⟨r14, σ13, hσ13, hf⟩ := bnd_some hf
      refine m_calli X hI hc [] (m7_ops l D cl Z hz ci A d tm hc σ r14 σ13 hσ13) (cw7_ops hts ⟨Nat.le_of_ble_eq_true rfl, Nat.le_of_ble_eq_true rfl⟩) rfl hl.1 (Nat.le_of_ble_eq_true rfl) rfl dX7_step_56 ⟨Nat.le_of_ble_eq_true rfl, Nat.le_of_ble_eq_true rfl⟩ (fun H locs hI => ?_)
      refine lv_icmp_ge (tgt := 113) hx hb dX7_step_59 (by decide) (fun c15 => ?_) (fun c15 => ?_)
      · have hf := o_pos hf c15
        refine lv_iconst (v := -1) hx hb dX7_step_113 (by decide) ?_
        exact hret hf hI dX7_step_114
      · have hf := o_neg hf c15
        refine lv_aload_n hx hb dX7_step_62 rfl (lv_at hl 0 rfl) ?_
        refine lv_iload hx hb dX7_step_63 (lv_at hl 4 rfl) ?_
        refine lv_iload_n hx hb dX7_step_65 rfl (lv_at hl 1 rfl) ?_
        obtain ⟨r17, σ16, hσ16, hf⟩ := bnd_some hf
        refine m_calli X hI hc [.int x4, .int x1] (m7_goesTo l D cl Z hz ci A d tm hc x4 x1 σ13 r17 σ16 hσ16) (cw7_goesTo hts ⟨Nat.le_of_ble_eq_true rfl, Nat.le_of_ble_eq_true rfl⟩) rfl hl.1 (Nat.le_of_ble_eq_true rfl) rfl dX7_step_66 ⟨Nat.le_of_ble_eq_true rfl, Nat.le_of_ble_eq_true rfl⟩ (fun H locs hI => ?_)
        refine lv_iconst (v := -1) hx hb dX7_step_69 (by decide) ?_
        refine lv_icmp_ne (tgt := 76) hx hb dX7_step_70 (by decide) (fun c18 => ?_) (fun c18 => ?_)
        · have hf := o_neg hf c18
          refine lv_aload_n hx hb dX7_step_76 rfl (lv_at hl 0 rfl) ?_
          refine lv_aload_n hx hb dX7_step_77 rfl (lv_at hl 0 rfl) ?_
          refine m_get (v := .ref (A 21)) X hI hc 21 (by decide) q2679 rfl dX7_step_78 ?_
          refine lv_aload_n hx hb dX7_step_81 rfl (lv_at hl 0 rfl) ?_
          refine lv_iload hx hb dX7_step_82 (lv_at hl 4 rfl) ?_
          refine lv_iload_n hx hb dX7_step_84 rfl (lv_at hl 1 rfl) ?_
          obtain ⟨r20, σ19, hσ19, hf⟩ := bnd_some hf
          refine m_calli X hI hc [.int x4, .int x1] (m7_goesTo l D cl Z hz ci A d tm hc x4 x1 σ16 r20 σ19 hσ19) (cw7_goesTo hts ⟨Nat.le_of_ble_eq_true rfl, Nat.le_of_ble_eq_true rfl⟩) rfl hl.1 (Nat.le_of_ble_eq_true rfl) rfl dX7_step_85 ⟨Nat.le_of_ble_eq_true rfl, Nat.le_of_ble_eq_true rfl⟩ (fun H locs hI => ?_)
          refine lv_iconst (v := 0) hx hb dX7_step_88 (by decide) ?_
          obtain ⟨σ21, hσ21, hf⟩ := bn1_some hf
          refine m_callv X hI hc [.ref (A 21), .int r20, .int 0] (m7_layFar_21 l D cl Z hz ci A d tm hc r20 0 σ19 σ21 hσ21) (cw7_layFar hts ⟨Nat.le_of_ble_eq_true rfl, Nat.le_of_ble_eq_true rfl⟩) rfl hl.1 (Nat.le_of_ble_eq_true rfl) rfl dX7_step_89 ⟨Nat.le_of_ble_eq_true rfl, Nat.le_of_ble_eq_true rfl⟩ (fun H locs hI => ?_)
          refine lv_aload_n hx hb dX7_step_92 rfl (lv_at hl 0 rfl) ?_
          refine m_get (v := .ref (A 21)) X hI hc 21 (by decide) q2679 rfl dX7_step_93 ?_
          refine lv_iload_n hx hb dX7_step_96 rfl (lv_at hl 2 rfl) ?_
          obtain ⟨g22, hf⟩ := grd_some hf
          refine m_iald X hI 21 10 64 rfl rfl g22 dX7_step_97 ?_
          refine lv_iload_n hx hb dX7_step_98 rfl (lv_at hl 3 rfl) ?_
          refine lv_iconst (v := 1) hx hb dX7_step_99 (by decide) ?_
          refine lv_isub hx hb dX7_step_100 ?_
          refine lv_icmp_ne (tgt := 107) hx hb dX7_step_101 (by decide) (fun c23 => ?_) (fun c23 => ?_)
          · have hf := o_neg hf c23
            exact J107 x1 x2 x3 x4 σ21 hf H locs hI ls (lv_sub hl [0, 1, 2, 3, 4] rfl)
          · have hf := o_pos hf c23
            refine lv_iload hx hb dX7_step_104 (lv_at hl 4 rfl) ?_
            exact hret hf hI dX7_step_106
        · have hf := o_pos hf c18
          refine lv_goto (tgt := 107) hx hb dX7_step_73 (by decide) ?_
          exact J107 x1 x2 x3 x4 σ16 hf H locs hI ls (lv_sub hl [0, 1, 2, 3, 4] rfl)
  have hl : lv_has ls 5 [(0, .ref (A 0)), (1, .int p0), (2, .int p1)] := hl
  unfold f7_step at hf
  obtain ⟨H, eH⟩ : ∃ H, H = s.heap := ⟨_, rfl⟩
  obtain ⟨locs, eL⟩ : ∃ locs : List Loc, locs = [] := ⟨_, rfl⟩
  have hI : XI D cl (mw ci A d σ) A0 s.heap H locs := by rw [eH, eL]; exact hI
  rw [← eL]
  suffices h : W p l e r7_step s m args below meth c H locs 0 0 Q (F0 m 0 ls []) by rw [eH] at h; exact h
  clear eH eL
  refine lv_aload_n hx hb dX7_step_0 rfl (lv_at hl 0 rfl) ?_
  refine lv_iload_n hx hb dX7_step_1 rfl (lv_at hl 1 rfl) ?_
  obtain ⟨r2, σ1, hσ1, hf⟩ := bnd_some hf
  refine m_calli X hI hc [.int p0] (m7_asksSides l D cl Z hz ci A d tm hc p0 σ r2 σ1 hσ1) (cw7_asksSides hts ⟨Nat.le_of_ble_eq_true rfl, Nat.le_of_ble_eq_true rfl⟩) rfl hl.1 (Nat.le_of_ble_eq_true rfl) rfl dX7_step_2 ⟨Nat.le_of_ble_eq_true rfl, Nat.le_of_ble_eq_true rfl⟩ (fun H locs hI => ?_)
  refine lv_if_eq (tgt := 17) hx hb dX7_step_5 (by decide) (fun c3 => ?_) (fun c3 => ?_)
  · have hf := o_pos hf c3
    refine lv_bipush (v := -2) hx hb dX7_step_17 (by decide) ?_
    exact hret hf hI dX7_step_19
  · have hf := o_neg hf c3
    refine lv_aload_n hx hb dX7_step_8 rfl (lv_at hl 0 rfl) ?_
    refine lv_iload_n hx hb dX7_step_9 rfl (lv_at hl 2 rfl) ?_
    refine lv_i2l hx hb dX7_step_10 rfl ?_
    obtain ⟨r5, σ4, hσ4, hf⟩ := bnd_some hf
    refine m_calli X hI hc [.long p1.toInt64] (m7_isState l D cl Z hz ci A d tm hc p1.toInt64 σ1 r5 σ4 hσ4) (cw7_isState hts ⟨Nat.le_of_ble_eq_true rfl, Nat.le_of_ble_eq_true rfl⟩) rfl hl.1 (Nat.le_of_ble_eq_true rfl) rfl dX7_step_11 ⟨Nat.le_of_ble_eq_true rfl, Nat.le_of_ble_eq_true rfl⟩ (fun H locs hI => ?_)
    refine lv_if_ne (tgt := 20) hx hb dX7_step_14 (by decide) (fun c6 => ?_) (fun c6 => ?_)
    · have hf := o_neg hf c6
      refine lv_aload_n hx hb dX7_step_20 rfl (lv_at hl 0 rfl) ?_
      refine m_get (v := .ref (A 21)) X hI hc 21 (by decide) q2679 rfl dX7_step_21 ?_
      refine lv_iload_n hx hb dX7_step_24 rfl (lv_at hl 2 rfl) ?_
      obtain ⟨g7, hf⟩ := grd_some hf
      refine m_iald X hI 21 10 64 rfl rfl g7 dX7_step_25 ?_
      refine lv_ldcw (v := 1000000000) hx hb hown (hts _ q3077) dX7_step_26 ?_
      refine lv_icmp_eq (tgt := 41) hx hb dX7_step_29 (by decide) (fun c8 => ?_) (fun c8 => ?_)
      · have hf := o_pos hf c8
        refine lv_iconst (v := -1) hx hb dX7_step_41 (by decide) ?_
        exact hret hf hI dX7_step_42
      · have hf := o_neg hf c8
        refine lv_aload_n hx hb dX7_step_32 rfl (lv_at hl 0 rfl) ?_
        refine m_get (v := .ref (A 21)) X hI hc 21 (by decide) q2679 rfl dX7_step_33 ?_
        refine lv_iload_n hx hb dX7_step_36 rfl (lv_at hl 2 rfl) ?_
        obtain ⟨g9, hf⟩ := grd_some hf
        refine m_iald X hI 21 10 64 rfl rfl g9 dX7_step_37 ?_
        refine lv_if_ne (tgt := 43) hx hb dX7_step_38 (by decide) (fun c10 => ?_) (fun c10 => ?_)
        · have hf := o_neg hf c10
          refine lv_aload_n hx hb dX7_step_43 rfl (lv_at hl 0 rfl) ?_
          refine m_get (v := .ref (A 21)) X hI hc 21 (by decide) q2679 rfl dX7_step_44 ?_
          refine lv_iload_n hx hb dX7_step_47 rfl (lv_at hl 2 rfl) ?_
          obtain ⟨g11, hf⟩ := grd_some hf
          refine m_iald X hI 21 10 64 rfl rfl g11 dX7_step_48 ?_
          obtain ⟨v12, ev12, hf⟩ := nxt_some hf
          rw [← ev12]
          clear ev12
          refine lv_istore_n (lv' := [(3, .int v12), (0, .ref (A 0)), (1, .int p0), (2, .int p1)]) hx hb dX7_step_49 rfl hl (by decide) rfl (fun ls hl => ?_)
          refine lv_iconst (v := 0) hx hb dX7_step_50 (by decide) ?_
          refine lv_istore (lv' := [(4, .int 0), (3, .int v12), (0, .ref (A 0)), (1, .int p0), (2, .int p1)]) hx hb dX7_step_51 hl (by decide) rfl (fun ls hl => ?_)
          exact L53 FU p0 p1 v12 0 σ4 hf H locs hI ls (lv_sub hl [2, 3, 4, 1, 0] rfl)
        · have hf := o_pos hf c10
          refine lv_iconst (v := -1) hx hb dX7_step_41 (by decide) ?_
          exact hret hf hI dX7_step_42
    · have hf := o_pos hf c6
      refine lv_bipush (v := -2) hx hb dX7_step_17 (by decide) ?_
      exact hret hf hI dX7_step_19
/-! asked -/
def f7_asked_b95 (K23 : Int32 → Int32 → Int32 → MS → oI Int32) (K36 : Int32 → Int32 → Int32 → Int32 → MS → oI Int32) (x2 : Int32) (x4 : Int32) (x5 : Int32) (z0 : Int32) (z1 : Int32) (σ : MS) : oI Int32 :=
  K36 x2 (z0 + z1) x4 (x5 + 1) σ
def f7_asked_b94 (K23 : Int32 → Int32 → Int32 → MS → oI Int32) (K36 : Int32 → Int32 → Int32 → Int32 → MS → oI Int32) (x2 : Int32) (x4 : Int32) (x5 : Int32) (z0 : Int32) (σ : MS) : oI Int32 :=
  f7_asked_b95 K23 K36 x2 x4 x5 z0 0 σ
def f7_asked_b36 (K23 : Int32 → Int32 → Int32 → MS → oI Int32) (K36 : Int32 → Int32 → Int32 → Int32 → MS → oI Int32) (x2 : Int32) (x3 : Int32) (x4 : Int32) (x5 : Int32) (σ : MS) : oI Int32 :=
  bnd (f7_stateMany σ) fun r10 σ9 =>
  if r10 ≤ x5 then (K23 x2 x3 (x4 + 1) σ9) else (grd (inB x4 64) <|
  if x2 < (gA σ9 21 x4.toNatClampNeg) then (f7_asked_b94 K23 K36 x2 x4 x5 x3 σ9) else (grd (inB x5 64) <|
  if x2 < (gA σ9 21 x5.toNatClampNeg) then (f7_asked_b94 K23 K36 x2 x4 x5 x3 σ9) else (grd (inB x4 64) <|
  if (gA σ9 22 x4.toNatClampNeg) ≤ x2 then (f7_asked_b94 K23 K36 x2 x4 x5 x3 σ9) else (grd (inB x5 64) <|
  if (gA σ9 22 x5.toNatClampNeg) ≤ x2 then (f7_asked_b94 K23 K36 x2 x4 x5 x3 σ9) else (f7_asked_b95 K23 K36 x2 x4 x5 x3 1 σ9)))))
def f7_asked_l36 (K23 : Int32 → Int32 → Int32 → MS → oI Int32) : Nat → Int32 → Int32 → Int32 → Int32 → MS → oI Int32
  | 0 => fun _ _ _ _ _ => none
  | n + 1 => fun x2 x3 x4 x5 σ => f7_asked_b36 K23 (f7_asked_l36 K23 n) x2 x3 x4 x5 σ
def f7_asked_b23 (K23 : Int32 → Int32 → Int32 → MS → oI Int32) (x2 : Int32) (x3 : Int32) (x4 : Int32) (σ : MS) : oI Int32 :=
  bnd (f7_stateMany σ) fun r7 σ6 =>
  if r7 ≤ x4 then (some (x3, σ6)) else (f7_asked_l36 K23 FU x2 x3 x4 x4 σ6)
def f7_asked_l23 : Nat → Int32 → Int32 → Int32 → MS → oI Int32
  | 0 => fun _ _ _ _ => none
  | n + 1 => fun x2 x3 x4 σ => f7_asked_b23 (f7_asked_l23 n) x2 x3 x4 σ
def f7_asked (p0 : Int32) (p1 : Int32) (σ : MS) : oI Int32 :=
  bnd (f7_asksSides p0 σ) fun r2 σ1 =>
  if r2 = 0 then (some ((-2), σ1)) else (bn1 (f7_isDepth p1) fun r4 =>
  if r4 = 0 then (some ((-2), σ1)) else (f7_asked_l23 FU p1 0 0 σ1))
abbrev r7_asked : Room := { frames := 7, cells := 0, slots := 0, locals := 161 }
theorem m7_asked (l : Launch) (D : va_G) (cl : vC2) (Z : (Nat → Prop) → State → Heap → Prop) (hz : ZK Z) (ci : Nat) (A : Nat → Nat) (d : Nat → ClassId) (tm : List (ClassId × FieldType)) (hc : cl.1[ci]? = some (RX7, TX7, 42)) (p0 : Int32) (p1 : Int32) (σ : MS) (r : Int32) (σ' : MS) (hf : f7_asked p0 p1 σ = some (r, σ')) : MMi l yX7_asked (ws_ yX7_asked cX7_asked 6 (some .int)) r7_asked D cl Z ci A d tm σ [.int p0, .int p1] r σ' := by
  refine m_openi hz (by decide) (by exact Nat.le_of_ble_eq_true rfl) (fun p e s m args below meth c ls A0 Q X hI hl hret => ?_)
  have X : XC p s m args meth c cX7_asked 6 RX7 D cl (mty d tm) A0 Z := X
  have hx := X.1
  have hb := X.2.1
  have hown := X.2.2.2.1
  have hts := X.2.2.2.2.1
  have L23 : ∀ (n : Nat) (x2 : Int32) (x3 : Int32) (x4 : Int32) (σ : MS), f7_asked_l23 n x2 x3 x4 σ = some (r, σ') → ∀ (H : Heap) (locs : List Loc), XI D cl (mw ci A d σ) A0 s.heap H locs → ∀ (ls : Array Slot), lv_has ls 6 [(0, .ref (A 0)), (2, .int x2), (3, .int x3), (4, .int x4)] → W p l e r7_asked s m args below meth c H locs 0 0 Q (F0 m 23 ls []) := by
    intro n23
    induction n23 with
    | zero => intro x2 x3 x4 σ hf; cases hf
    | succ n23 ih23 =>
      have L36 : ∀ (n : Nat) (x2 : Int32) (x3 : Int32) (x4 : Int32) (x5 : Int32) (σ : MS), f7_asked_l36 (f7_asked_l23 n23) n x2 x3 x4 x5 σ = some (r, σ') → ∀ (H : Heap) (locs : List Loc), XI D cl (mw ci A d σ) A0 s.heap H locs → ∀ (ls : Array Slot), lv_has ls 6 [(0, .ref (A 0)), (2, .int x2), (3, .int x3), (4, .int x4), (5, .int x5)] → W p l e r7_asked s m args below meth c H locs 0 0 Q (F0 m 36 ls []) := by
        intro n36
        induction n36 with
        | zero => intro x2 x3 x4 x5 σ hf; cases hf
        | succ n36 ih36 =>
          have J95 : ∀ (x2 : Int32) (x4 : Int32) (x5 : Int32) (z0 : Int32) (z1 : Int32) (σ : MS), f7_asked_b95 (f7_asked_l23 n23) (f7_asked_l36 (f7_asked_l23 n23) n36) x2 x4 x5 z0 z1 σ = some (r, σ') → ∀ (H : Heap) (locs : List Loc), XI D cl (mw ci A d σ) A0 s.heap H locs → ∀ (ls : Array Slot), lv_has ls 6 [(0, .ref (A 0)), (2, .int x2), (4, .int x4), (5, .int x5)] → W p l e r7_asked s m args below meth c H locs 0 0 Q (F0 m 95 ls [.int z1, .int z0]) := by
            intro x2 x4 x5 z0 z1 σ hf H locs hI ls hl
            unfold f7_asked_b95 at hf
            refine lv_iadd hx hb dX7_asked_95 ?_
            refine lv_istore_n (lv' := [(3, .int (z0 + z1)), (0, .ref (A 0)), (2, .int x2), (4, .int x4), (5, .int x5)]) hx hb dX7_asked_96 rfl hl (by decide) rfl (fun ls hl => ?_)
            refine lv_iinc (v := x5 + 1) (lv' := [(5, .int (x5 + 1)), (3, .int (z0 + z1)), (0, .ref (A 0)), (2, .int x2), (4, .int x4)]) hx hb dX7_asked_97 hl (k := 4) rfl rfl (by decide) rfl (fun ls hl => ?_)
            refine lv_goto (tgt := 36) hx hb dX7_asked_100 (by decide) ?_
            exact ih36 x2 (z0 + z1) x4 (x5 + 1) σ hf H locs hI ls (lv_sub hl [2, 3, 1, 4, 0] rfl)
          have J94 : ∀ (x2 : Int32) (x4 : Int32) (x5 : Int32) (z0 : Int32) (σ : MS), f7_asked_b94 (f7_asked_l23 n23) (f7_asked_l36 (f7_asked_l23 n23) n36) x2 x4 x5 z0 σ = some (r, σ') → ∀ (H : Heap) (locs : List Loc), XI D cl (mw ci A d σ) A0 s.heap H locs → ∀ (ls : Array Slot), lv_has ls 6 [(0, .ref (A 0)), (2, .int x2), (4, .int x4), (5, .int x5)] → W p l e r7_asked s m args below meth c H locs 0 0 Q (F0 m 94 ls [.int z0]) := by
            intro x2 x4 x5 z0 σ hf H locs hI ls hl
            unfold f7_asked_b94 at hf
            refine lv_iconst (v := 0) hx hb dX7_asked_94 (by decide) ?_
            exact J95 x2 x4 x5 z0 0 σ hf H locs hI ls (lv_sub hl [0, 1, 2, 3] rfl)
          intro x2 x3 x4 x5 σ hf H locs hI ls hl
          have hf : f7_asked_b36 (f7_asked_l23 n23) (f7_asked_l36 (f7_asked_l23 n23) n36) x2 x3 x4 x5 σ = some (r, σ') := hf
          unfold f7_asked_b36 at hf
          refine lv_iload hx hb dX7_asked_36 (lv_at hl 4 rfl) ?_
          refine lv_aload_n hx hb dX7_asked_38 rfl (lv_at hl 0 rfl) ?_
          obtain ⟨r10, σ9, hσ9, hf⟩ := bnd_some hf
          refine m_calli X hI hc [] (m7_stateMany l D cl Z hz ci A d tm hc σ r10 σ9 hσ9) (cw7_stateMany hts ⟨Nat.le_of_ble_eq_true rfl, Nat.le_of_ble_eq_true rfl⟩) rfl hl.1 (Nat.le_of_ble_eq_true rfl) rfl dX7_asked_39 ⟨Nat.le_of_ble_eq_true rfl, Nat.le_of_ble_eq_true rfl⟩ (fun H locs hI => ?_)
          refine lv_icmp_ge (tgt := 103) hx hb dX7_asked_42 (by decide) (fun c11 => ?_) (fun c11 => ?_)
          · have hf := o_pos hf c11
            refine lv_iinc (v := x4 + 1) (lv' := [(4, .int (x4 + 1)), (0, .ref (A 0)), (2, .int x2), (3, .int x3), (5, .int x5)]) hx hb dX7_asked_103 hl (k := 3) rfl rfl (by decide) rfl (fun ls hl => ?_)
            refine lv_goto (tgt := 23) hx hb dX7_asked_106 (by decide) ?_
            exact ih23 x2 x3 (x4 + 1) σ9 hf H locs hI ls (lv_sub hl [1, 2, 3, 0] rfl)
          · have hf := o_neg hf c11
            refine lv_iload_n hx hb dX7_asked_45 rfl (lv_at hl 2 rfl) ?_
            refine lv_aload_n hx hb dX7_asked_46 rfl (lv_at hl 0 rfl) ?_
            refine m_get (v := .ref (A 21)) X hI hc 21 (by decide) q2679 rfl dX7_asked_47 ?_
            refine lv_iload hx hb dX7_asked_50 (lv_at hl 3 rfl) ?_
            obtain ⟨g12, hf⟩ := grd_some hf
            refine m_iald X hI 21 10 64 rfl rfl g12 dX7_asked_52 ?_
            refine lv_iload_n hx hb dX7_asked_53 rfl (lv_at hl 1 rfl) ?_
            refine lv_icmp_gt (tgt := 94) hx hb dX7_asked_54 (by decide) (fun c13 => ?_) (fun c13 => ?_)
            · have hf := o_pos hf c13
              exact J94 x2 x4 x5 x3 σ9 hf H locs hI ls (lv_sub hl [0, 1, 3, 4] rfl)
            · have hf := o_neg hf c13
              refine lv_aload_n hx hb dX7_asked_57 rfl (lv_at hl 0 rfl) ?_
              refine m_get (v := .ref (A 21)) X hI hc 21 (by decide) q2679 rfl dX7_asked_58 ?_
              refine lv_iload hx hb dX7_asked_61 (lv_at hl 4 rfl) ?_
              obtain ⟨g14, hf⟩ := grd_some hf
              refine m_iald X hI 21 10 64 rfl rfl g14 dX7_asked_63 ?_
              refine lv_iload_n hx hb dX7_asked_64 rfl (lv_at hl 1 rfl) ?_
              refine lv_icmp_gt (tgt := 94) hx hb dX7_asked_65 (by decide) (fun c15 => ?_) (fun c15 => ?_)
              · have hf := o_pos hf c15
                exact J94 x2 x4 x5 x3 σ9 hf H locs hI ls (lv_sub hl [0, 1, 3, 4] rfl)
              · have hf := o_neg hf c15
                refine lv_aload_n hx hb dX7_asked_68 rfl (lv_at hl 0 rfl) ?_
                refine m_get (v := .ref (A 22)) X hI hc 22 (by decide) q2680 rfl dX7_asked_69 ?_
                refine lv_iload hx hb dX7_asked_72 (lv_at hl 3 rfl) ?_
                obtain ⟨g16, hf⟩ := grd_some hf
                refine m_iald X hI 22 11 64 rfl rfl g16 dX7_asked_74 ?_
                refine lv_iload_n hx hb dX7_asked_75 rfl (lv_at hl 1 rfl) ?_
                refine lv_icmp_le (tgt := 94) hx hb dX7_asked_76 (by decide) (fun c17 => ?_) (fun c17 => ?_)
                · have hf := o_pos hf c17
                  exact J94 x2 x4 x5 x3 σ9 hf H locs hI ls (lv_sub hl [0, 1, 3, 4] rfl)
                · have hf := o_neg hf c17
                  refine lv_aload_n hx hb dX7_asked_79 rfl (lv_at hl 0 rfl) ?_
                  refine m_get (v := .ref (A 22)) X hI hc 22 (by decide) q2680 rfl dX7_asked_80 ?_
                  refine lv_iload hx hb dX7_asked_83 (lv_at hl 4 rfl) ?_
                  obtain ⟨g18, hf⟩ := grd_some hf
                  refine m_iald X hI 22 11 64 rfl rfl g18 dX7_asked_85 ?_
                  refine lv_iload_n hx hb dX7_asked_86 rfl (lv_at hl 1 rfl) ?_
                  refine lv_icmp_le (tgt := 94) hx hb dX7_asked_87 (by decide) (fun c19 => ?_) (fun c19 => ?_)
                  · have hf := o_pos hf c19
                    exact J94 x2 x4 x5 x3 σ9 hf H locs hI ls (lv_sub hl [0, 1, 3, 4] rfl)
                  · have hf := o_neg hf c19
                    refine lv_iconst (v := 1) hx hb dX7_asked_90 (by decide) ?_
                    refine lv_goto (tgt := 95) hx hb dX7_asked_91 (by decide) ?_
                    exact J95 x2 x4 x5 x3 1 σ9 hf H locs hI ls (lv_sub hl [0, 1, 3, 4] rfl)
      intro x2 x3 x4 σ hf H locs hI ls hl
      have hf : f7_asked_b23 (f7_asked_l23 n23) x2 x3 x4 σ = some (r, σ') := hf
      unfold f7_asked_b23 at hf
      refine lv_iload hx hb dX7_asked_23 (lv_at hl 3 rfl) ?_
      refine lv_aload_n hx hb dX7_asked_25 rfl (lv_at hl 0 rfl) ?_
      obtain ⟨r7, σ6, hσ6, hf⟩ := bnd_some hf
      refine m_calli X hI hc [] (m7_stateMany l D cl Z hz ci A d tm hc σ r7 σ6 hσ6) (cw7_stateMany hts ⟨Nat.le_of_ble_eq_true rfl, Nat.le_of_ble_eq_true rfl⟩) rfl hl.1 (Nat.le_of_ble_eq_true rfl) rfl dX7_asked_26 ⟨Nat.le_of_ble_eq_true rfl, Nat.le_of_ble_eq_true rfl⟩ (fun H locs hI => ?_)
      refine lv_icmp_ge (tgt := 109) hx hb dX7_asked_29 (by decide) (fun c8 => ?_) (fun c8 => ?_)
      · have hf := o_pos hf c8
        refine lv_iload_n hx hb dX7_asked_109 rfl (lv_at hl 2 rfl) ?_
        exact hret hf hI dX7_asked_110
      · have hf := o_neg hf c8
        refine lv_iload hx hb dX7_asked_32 (lv_at hl 3 rfl) ?_
        refine lv_istore (lv' := [(5, .int x4), (0, .ref (A 0)), (2, .int x2), (3, .int x3), (4, .int x4)]) hx hb dX7_asked_34 hl (by decide) rfl (fun ls hl => ?_)
        exact L36 FU x2 x3 x4 x4 σ6 hf H locs hI ls (lv_sub hl [1, 2, 3, 4, 0] rfl)
  have hl : lv_has ls 6 [(0, .ref (A 0)), (1, .int p0), (2, .int p1)] := hl
  unfold f7_asked at hf
  obtain ⟨H, eH⟩ : ∃ H, H = s.heap := ⟨_, rfl⟩
  obtain ⟨locs, eL⟩ : ∃ locs : List Loc, locs = [] := ⟨_, rfl⟩
  have hI : XI D cl (mw ci A d σ) A0 s.heap H locs := by rw [eH, eL]; exact hI
  rw [← eL]
  suffices h : W p l e r7_asked s m args below meth c H locs 0 0 Q (F0 m 0 ls []) by rw [eH] at h; exact h
  clear eH eL
  refine lv_aload_n hx hb dX7_asked_0 rfl (lv_at hl 0 rfl) ?_
  refine lv_iload_n hx hb dX7_asked_1 rfl (lv_at hl 1 rfl) ?_
  obtain ⟨r2, σ1, hσ1, hf⟩ := bnd_some hf
  refine m_calli X hI hc [.int p0] (m7_asksSides l D cl Z hz ci A d tm hc p0 σ r2 σ1 hσ1) (cw7_asksSides hts ⟨Nat.le_of_ble_eq_true rfl, Nat.le_of_ble_eq_true rfl⟩) rfl hl.1 (Nat.le_of_ble_eq_true rfl) rfl dX7_asked_2 ⟨Nat.le_of_ble_eq_true rfl, Nat.le_of_ble_eq_true rfl⟩ (fun H locs hI => ?_)
  refine lv_if_eq (tgt := 15) hx hb dX7_asked_5 (by decide) (fun c3 => ?_) (fun c3 => ?_)
  · have hf := o_pos hf c3
    refine lv_bipush (v := -2) hx hb dX7_asked_15 (by decide) ?_
    exact hret hf hI dX7_asked_17
  · have hf := o_neg hf c3
    refine lv_iload_n hx hb dX7_asked_8 rfl (lv_at hl 2 rfl) ?_
    obtain ⟨r4, hr4, hf⟩ := bn1_some hf
    refine x_callSi (As := [.int p1]) X hI (m7_isDepth l p1 r4 hr4) (cw7_isDepth hts ⟨Nat.le_of_ble_eq_true rfl, Nat.le_of_ble_eq_true rfl⟩) rfl hl.1 (Nat.le_of_ble_eq_true rfl) rfl dX7_asked_9 ⟨Nat.le_of_ble_eq_true rfl, Nat.le_of_ble_eq_true rfl⟩ (fun H locs hI => ?_)
    refine lv_if_ne (tgt := 18) hx hb dX7_asked_12 (by decide) (fun c5 => ?_) (fun c5 => ?_)
    · have hf := o_neg hf c5
      refine lv_iconst (v := 0) hx hb dX7_asked_18 (by decide) ?_
      refine lv_istore_n (lv' := [(3, .int 0), (0, .ref (A 0)), (1, .int p0), (2, .int p1)]) hx hb dX7_asked_19 rfl hl (by decide) rfl (fun ls hl => ?_)
      refine lv_iconst (v := 0) hx hb dX7_asked_20 (by decide) ?_
      refine lv_istore (lv' := [(4, .int 0), (3, .int 0), (0, .ref (A 0)), (1, .int p0), (2, .int p1)]) hx hb dX7_asked_21 hl (by decide) rfl (fun ls hl => ?_)
      exact L23 FU p1 0 0 σ1 hf H locs hI ls (lv_sub hl [2, 4, 1, 0] rfl)
    · have hf := o_pos hf c5
      refine lv_bipush (v := -2) hx hb dX7_asked_15 (by decide) ?_
      exact hret hf hI dX7_asked_17
/-! begins -/
def f7_begins_b36 (K36 : Int32 → MS → Option MS) (x1 : Int32) (σ : MS) : Option MS :=
  if 5 ≤ x1 then (some σ) else (grd (inB x1 5) <|
  nxt (sA σ 24 x1.toNatClampNeg 0) fun σ8 =>
  K36 (x1 + 1) σ8)
def f7_begins_l36 : Nat → Int32 → MS → Option MS
  | 0 => fun _ _ => none
  | n + 1 => fun x1 σ => f7_begins_b36 (f7_begins_l36 n) x1 σ
def f7_begins_b14 (K14 : Int32 → MS → Option MS) (x1 : Int32) (σ : MS) : Option MS :=
  if 4096 ≤ x1 then (f7_begins_l36 FU 0 σ) else (grd (inB x1 4096) <|
  nxt (sA σ 23 x1.toNatClampNeg (vp_nar .boolean 0)) fun σ5 =>
  K14 (x1 + 1) σ5)
def f7_begins_l14 : Nat → Int32 → MS → Option MS
  | 0 => fun _ _ => none
  | n + 1 => fun x1 σ => f7_begins_b14 (f7_begins_l14 n) x1 σ
def f7_begins (σ : MS) : Option MS :=
  nxt (sI σ 25 0) fun σ1 =>
  nxt (sI σ1 26 1000000000) fun σ2 =>
  f7_begins_l14 FU 0 σ2
abbrev r7_begins : Room := { frames := 0, cells := 0, slots := 0, locals := 0 }
theorem cw7_begins {R : Room} {s : State} {args : Array Value} (ht : ∀ w ∈ lw_all, w.before args s = true) (hR : r7_begins.frames + 1 ≤ R.frames ∧ 8 + (2 + 11) + r7_begins.locals ≤ R.locals) : CallW R s args RX7 RX7 386 yX7_begins cX7_begins 2 none (ws_ yX7_begins cX7_begins 2 none) r7_begins 0 0 0 :=
  cwV 0 ht (lw_V q3204 q3206 qs143 q178 q3207) rfl rfl rfl (by decide +kernel) hR
theorem m7_begins (l : Launch) (D : va_G) (cl : vC2) (Z : (Nat → Prop) → State → Heap → Prop) (hz : ZK Z) (ci : Nat) (A : Nat → Nat) (d : Nat → ClassId) (tm : List (ClassId × FieldType)) (hc : cl.1[ci]? = some (RX7, TX7, 42)) (σ : MS) (σ' : MS) (hf : f7_begins σ = some σ') : MMv l yX7_begins (ws_ yX7_begins cX7_begins 2 none) r7_begins D cl Z ci A d tm σ [] σ' := by
  refine m_openv hz (by decide) (by exact Nat.le_of_ble_eq_true rfl) (fun p e s m args below meth c ls A0 Q X hI hl hret => ?_)
  have X : XC p s m args meth c cX7_begins 2 RX7 D cl (mty d tm) A0 Z := X
  have hx := X.1
  have hb := X.2.1
  have hown := X.2.2.2.1
  have hts := X.2.2.2.2.1
  have L36 : ∀ (n : Nat) (x1 : Int32) (σ : MS), f7_begins_l36 n x1 σ = some σ' → ∀ (H : Heap) (locs : List Loc), XI D cl (mw ci A d σ) A0 s.heap H locs → ∀ (ls : Array Slot), lv_has ls 2 [(0, .ref (A 0)), (1, .int x1)] → W p l e r7_begins s m args below meth c H locs 0 0 Q (F0 m 36 ls []) := by
    intro n36
    induction n36 with
    | zero => intro x1 σ hf; cases hf
    | succ n36 ih36 =>
      intro x1 σ hf H locs hI ls hl
      have hf : f7_begins_b36 (f7_begins_l36 n36) x1 σ = some σ' := hf
      unfold f7_begins_b36 at hf
      refine lv_iload_n hx hb dX7_begins_36 rfl (lv_at hl 1 rfl) ?_
      refine lv_iconst (v := 5) hx hb dX7_begins_37 (by decide) ?_
      refine lv_icmp_ge (tgt := 54) hx hb dX7_begins_38 (by decide) (fun c6 => ?_) (fun c6 => ?_)
      · have hf := o_pos hf c6
        exact hret hf hI dX7_begins_54
      · have hf := o_neg hf c6
        refine lv_aload_n hx hb dX7_begins_41 rfl (lv_at hl 0 rfl) ?_
        refine m_get (v := .ref (A 24)) X hI hc 24 (by decide) q2682 rfl dX7_begins_42 ?_
        refine lv_iload_n hx hb dX7_begins_45 rfl (lv_at hl 1 rfl) ?_
        refine lv_iconst (v := 0) hx hb dX7_begins_46 (by decide) ?_
        obtain ⟨g7, hf⟩ := grd_some hf
        refine m_iast X hI 24 13 5 rfl rfl g7 rfl dX7_begins_47 (fun H locs hI => ?_)
        obtain ⟨σ8, eσ8, hf⟩ := nxt_some hf
        rw [← eσ8] at hI
        clear eσ8
        refine lv_iinc (v := x1 + 1) (lv' := [(1, .int (x1 + 1)), (0, .ref (A 0))]) hx hb dX7_begins_48 hl (k := 1) rfl rfl (by decide) rfl (fun ls hl => ?_)
        refine lv_goto (tgt := 36) hx hb dX7_begins_51 (by decide) ?_
        exact ih36 (x1 + 1) σ8 hf H locs hI ls (lv_sub hl [1, 0] rfl)
  have L14 : ∀ (n : Nat) (x1 : Int32) (σ : MS), f7_begins_l14 n x1 σ = some σ' → ∀ (H : Heap) (locs : List Loc), XI D cl (mw ci A d σ) A0 s.heap H locs → ∀ (ls : Array Slot), lv_has ls 2 [(0, .ref (A 0)), (1, .int x1)] → W p l e r7_begins s m args below meth c H locs 0 0 Q (F0 m 14 ls []) := by
    intro n14
    induction n14 with
    | zero => intro x1 σ hf; cases hf
    | succ n14 ih14 =>
      intro x1 σ hf H locs hI ls hl
      have hf : f7_begins_b14 (f7_begins_l14 n14) x1 σ = some σ' := hf
      unfold f7_begins_b14 at hf
      refine lv_iload_n hx hb dX7_begins_14 rfl (lv_at hl 1 rfl) ?_
      refine lv_sipush (v := 4096) hx hb dX7_begins_15 (by decide) ?_
      refine lv_icmp_ge (tgt := 34) hx hb dX7_begins_18 (by decide) (fun c3 => ?_) (fun c3 => ?_)
      · have hf := o_pos hf c3
        refine lv_iconst (v := 0) hx hb dX7_begins_34 (by decide) ?_
        refine lv_istore_n (lv' := [(1, .int 0), (0, .ref (A 0))]) hx hb dX7_begins_35 rfl hl (by decide) rfl (fun ls hl => ?_)
        exact L36 FU 0 σ hf H locs hI ls (lv_sub hl [1, 0] rfl)
      · have hf := o_neg hf c3
        refine lv_aload_n hx hb dX7_begins_21 rfl (lv_at hl 0 rfl) ?_
        refine m_get (v := .ref (A 23)) X hI hc 23 (by decide) q2681 rfl dX7_begins_22 ?_
        refine lv_iload_n hx hb dX7_begins_25 rfl (lv_at hl 1 rfl) ?_
        refine lv_iconst (v := 0) hx hb dX7_begins_26 (by decide) ?_
        obtain ⟨g4, hf⟩ := grd_some hf
        refine m_zast X hI 23 12 4096 rfl rfl g4 rfl dX7_begins_27 (fun H locs hI => ?_)
        obtain ⟨σ5, eσ5, hf⟩ := nxt_some hf
        rw [← eσ5] at hI
        clear eσ5
        refine lv_iinc (v := x1 + 1) (lv' := [(1, .int (x1 + 1)), (0, .ref (A 0))]) hx hb dX7_begins_28 hl (k := 1) rfl rfl (by decide) rfl (fun ls hl => ?_)
        refine lv_goto (tgt := 14) hx hb dX7_begins_31 (by decide) ?_
        exact ih14 (x1 + 1) σ5 hf H locs hI ls (lv_sub hl [1, 0] rfl)
  have hl : lv_has ls 2 [(0, .ref (A 0))] := hl
  unfold f7_begins at hf
  obtain ⟨H, eH⟩ : ∃ H, H = s.heap := ⟨_, rfl⟩
  obtain ⟨locs, eL⟩ : ∃ locs : List Loc, locs = [] := ⟨_, rfl⟩
  have hI : XI D cl (mw ci A d σ) A0 s.heap H locs := by rw [eH, eL]; exact hI
  rw [← eL]
  suffices h : W p l e r7_begins s m args below meth c H locs 0 0 Q (F0 m 0 ls []) by rw [eH] at h; exact h
  clear eH eL
  refine lv_aload_n hx hb dX7_begins_0 rfl (lv_at hl 0 rfl) ?_
  refine lv_iconst (v := 0) hx hb dX7_begins_1 (by decide) ?_
  refine m_puti X hI hc 25 (by decide) q2683 rfl rfl rfl dX7_begins_2 (fun H locs hI => ?_)
  obtain ⟨σ1, eσ1, hf⟩ := nxt_some hf
  rw [← eσ1] at hI
  clear eσ1
  refine lv_aload_n hx hb dX7_begins_5 rfl (lv_at hl 0 rfl) ?_
  refine lv_ldcw (v := 1000000000) hx hb hown (hts _ q3077) dX7_begins_6 ?_
  refine m_puti X hI hc 26 (by decide) q2684 rfl rfl rfl dX7_begins_9 (fun H locs hI => ?_)
  obtain ⟨σ2, eσ2, hf⟩ := nxt_some hf
  rw [← eσ2] at hI
  clear eσ2
  refine lv_iconst (v := 0) hx hb dX7_begins_12 (by decide) ?_
  refine lv_istore_n (lv' := [(1, .int 0), (0, .ref (A 0))]) hx hb dX7_begins_13 rfl hl (by decide) rfl (fun ls hl => ?_)
  exact L14 FU 0 σ2 hf H locs hI ls (lv_sub hl [1, 0] rfl)
/-! keepBreak -/
def f7_keepBreak_b79 (K34 : Int32 → Int32 → Int32 → Int32 → Int32 → MS → Option MS) (x1 : Int32) (x2 : Int32) (x3 : Int32) (x4 : Int32) (x5 : Int32) (z1 : Int32) (z2 : Int32) (z3 : Int32) (σ : MS) : Option MS :=
  grd (inB z1 5) <|
  nxt (sA σ 24 z1.toNatClampNeg (z2 + z3)) fun σ24 =>
  K34 x1 x2 x3 x4 (x5 + 1) σ24
def f7_keepBreak_b78 (K34 : Int32 → Int32 → Int32 → Int32 → Int32 → MS → Option MS) (x1 : Int32) (x2 : Int32) (x3 : Int32) (x4 : Int32) (x5 : Int32) (z1 : Int32) (z2 : Int32) (σ : MS) : Option MS :=
  f7_keepBreak_b79 K34 x1 x2 x3 x4 x5 z1 z2 0 σ
def f7_keepBreak_b34 (K34 : Int32 → Int32 → Int32 → Int32 → Int32 → MS → Option MS) (x1 : Int32) (x2 : Int32) (x3 : Int32) (x4 : Int32) (x5 : Int32) (σ : MS) : Option MS :=
  bnd (f7_rules σ) fun r7 σ6 =>
  if r7 ≤ x5 then (grd (inB x2 64) <|
  grd (inB x3 64) <|
  nxt ((gA σ6 21 x2.toNatClampNeg) + (gA σ6 21 x3.toNatClampNeg)) fun v11 =>
  if v11 < (gI σ6 26) then (nxt (sI σ6 26 v11) fun σ13 =>
  nxt (sI σ13 27 x1) fun σ14 =>
  nxt (sI σ14 28 x2) fun σ15 =>
  nxt (sI σ15 29 x3) fun σ16 =>
  some σ16) else (some σ6)) else (grd (inB x5 5) <|
  bn1 (f7_bit (gI σ6 18) x5) fun r18 =>
  if r18 = 0 then (bnd (f7_holdsIn x5 x4 σ6) fun r21 σ20 =>
  if r21 = 0 then (f7_keepBreak_b79 K34 x1 x2 x3 x4 x5 x5 (gA σ6 24 x5.toNatClampNeg) 1 σ20) else (f7_keepBreak_b78 K34 x1 x2 x3 x4 x5 x5 (gA σ6 24 x5.toNatClampNeg) σ20)) else (f7_keepBreak_b78 K34 x1 x2 x3 x4 x5 x5 (gA σ6 24 x5.toNatClampNeg) σ6))
def f7_keepBreak_l34 : Nat → Int32 → Int32 → Int32 → Int32 → Int32 → MS → Option MS
  | 0 => fun _ _ _ _ _ _ => none
  | n + 1 => fun x1 x2 x3 x4 x5 σ => f7_keepBreak_b34 (f7_keepBreak_l34 n) x1 x2 x3 x4 x5 σ
def f7_keepBreak (p0 : Int32) (p1 : Int32) (p2 : Int32) (σ : MS) : Option MS :=
  nxt (sI σ 25 ((gI σ 25) + 1)) fun σ1 =>
  grd (inB (((64 : Int32) * p1) + p2) 4096) <|
  nxt (sA σ1 23 (((64 : Int32) * p1) + p2).toNatClampNeg (vp_nar .boolean 1)) fun σ3 =>
  bnd (f7_mergeOf p0 p1 p2 σ3) fun r5 σ4 =>
  f7_keepBreak_l34 FU p0 p1 p2 r5 0 σ4
abbrev r7_keepBreak : Room := { frames := 4, cells := 0, slots := 0, locals := 93 }
theorem cw7_keepBreak {R : Room} {s : State} {args : Array Value} (ht : ∀ w ∈ lw_all, w.before args s = true) (hR : r7_keepBreak.frames + 1 ≤ R.frames ∧ 8 + (6 + 11) + r7_keepBreak.locals ≤ R.locals) : CallW R s args RX7 RX7 382 yX7_keepBreak cX7_keepBreak 6 none (ws_ yX7_keepBreak cX7_keepBreak 6 none) r7_keepBreak 0 0 3 :=
  cwV 3 ht (lw_V q3212 q3214 qs145 q178 q3215) rfl rfl rfl (by decide +kernel) hR
theorem m7_keepBreak (l : Launch) (D : va_G) (cl : vC2) (Z : (Nat → Prop) → State → Heap → Prop) (hz : ZK Z) (ci : Nat) (A : Nat → Nat) (d : Nat → ClassId) (tm : List (ClassId × FieldType)) (hc : cl.1[ci]? = some (RX7, TX7, 42)) (p0 : Int32) (p1 : Int32) (p2 : Int32) (σ : MS) (σ' : MS) (hf : f7_keepBreak p0 p1 p2 σ = some σ') : MMv l yX7_keepBreak (ws_ yX7_keepBreak cX7_keepBreak 6 none) r7_keepBreak D cl Z ci A d tm σ [.int p0, .int p1, .int p2] σ' := by
  refine m_openv hz (by decide) (by exact Nat.le_of_ble_eq_true rfl) (fun p e s m args below meth c ls A0 Q X hI hl hret => ?_)
  have X : XC p s m args meth c cX7_keepBreak 6 RX7 D cl (mty d tm) A0 Z := X
  have hx := X.1
  have hb := X.2.1
  have hown := X.2.2.2.1
  have hts := X.2.2.2.2.1
  have L34 : ∀ (n : Nat) (x1 : Int32) (x2 : Int32) (x3 : Int32) (x4 : Int32) (x5 : Int32) (σ : MS), f7_keepBreak_l34 n x1 x2 x3 x4 x5 σ = some σ' → ∀ (H : Heap) (locs : List Loc), XI D cl (mw ci A d σ) A0 s.heap H locs → ∀ (ls : Array Slot), lv_has ls 6 [(0, .ref (A 0)), (1, .int x1), (2, .int x2), (3, .int x3), (4, .int x4), (5, .int x5)] → W p l e r7_keepBreak s m args below meth c H locs 0 0 Q (F0 m 34 ls []) := by
    intro n34
    induction n34 with
    | zero => intro x1 x2 x3 x4 x5 σ hf; cases hf
    | succ n34 ih34 =>
      have J79 : ∀ (x1 : Int32) (x2 : Int32) (x3 : Int32) (x4 : Int32) (x5 : Int32) (z1 : Int32) (z2 : Int32) (z3 : Int32) (σ : MS), f7_keepBreak_b79 (f7_keepBreak_l34 n34) x1 x2 x3 x4 x5 z1 z2 z3 σ = some σ' → ∀ (H : Heap) (locs : List Loc), XI D cl (mw ci A d σ) A0 s.heap H locs → ∀ (ls : Array Slot), lv_has ls 6 [(0, .ref (A 0)), (1, .int x1), (2, .int x2), (3, .int x3), (4, .int x4), (5, .int x5)] → W p l e r7_keepBreak s m args below meth c H locs 0 0 Q (F0 m 79 ls [.int z3, .int z2, .int z1, .ref (A 24)]) := by
        intro x1 x2 x3 x4 x5 z1 z2 z3 σ hf H locs hI ls hl
        unfold f7_keepBreak_b79 at hf
        refine lv_iadd hx hb dX7_keepBreak_79 ?_
        obtain ⟨g23, hf⟩ := grd_some hf
        refine m_iast X hI 24 13 5 rfl rfl g23 rfl dX7_keepBreak_80 (fun H locs hI => ?_)
        obtain ⟨σ24, eσ24, hf⟩ := nxt_some hf
        rw [← eσ24] at hI
        clear eσ24
        refine lv_iinc (v := x5 + 1) (lv' := [(5, .int (x5 + 1)), (0, .ref (A 0)), (1, .int x1), (2, .int x2), (3, .int x3), (4, .int x4)]) hx hb dX7_keepBreak_81 hl (k := 5) rfl rfl (by decide) rfl (fun ls hl => ?_)
        refine lv_goto (tgt := 34) hx hb dX7_keepBreak_84 (by decide) ?_
        exact ih34 x1 x2 x3 x4 (x5 + 1) σ24 hf H locs hI ls (lv_sub hl [1, 2, 3, 4, 5, 0] rfl)
      have J78 : ∀ (x1 : Int32) (x2 : Int32) (x3 : Int32) (x4 : Int32) (x5 : Int32) (z1 : Int32) (z2 : Int32) (σ : MS), f7_keepBreak_b78 (f7_keepBreak_l34 n34) x1 x2 x3 x4 x5 z1 z2 σ = some σ' → ∀ (H : Heap) (locs : List Loc), XI D cl (mw ci A d σ) A0 s.heap H locs → ∀ (ls : Array Slot), lv_has ls 6 [(0, .ref (A 0)), (1, .int x1), (2, .int x2), (3, .int x3), (4, .int x4), (5, .int x5)] → W p l e r7_keepBreak s m args below meth c H locs 0 0 Q (F0 m 78 ls [.int z2, .int z1, .ref (A 24)]) := by
        intro x1 x2 x3 x4 x5 z1 z2 σ hf H locs hI ls hl
        unfold f7_keepBreak_b78 at hf
        refine lv_iconst (v := 0) hx hb dX7_keepBreak_78 (by decide) ?_
        exact J79 x1 x2 x3 x4 x5 z1 z2 0 σ hf H locs hI ls (lv_sub hl [0, 1, 2, 3, 4, 5] rfl)
      intro x1 x2 x3 x4 x5 σ hf H locs hI ls hl
      have hf : f7_keepBreak_b34 (f7_keepBreak_l34 n34) x1 x2 x3 x4 x5 σ = some σ' := hf
      unfold f7_keepBreak_b34 at hf
      refine lv_iload hx hb dX7_keepBreak_34 (lv_at hl 5 rfl) ?_
      refine lv_aload_n hx hb dX7_keepBreak_36 rfl (lv_at hl 0 rfl) ?_
      obtain ⟨r7, σ6, hσ6, hf⟩ := bnd_some hf
      refine m_calli X hI hc [] (m7_rules l D cl Z hz ci A d tm hc σ r7 σ6 hσ6) (cw7_rules hts ⟨Nat.le_of_ble_eq_true rfl, Nat.le_of_ble_eq_true rfl⟩) rfl hl.1 (Nat.le_of_ble_eq_true rfl) rfl dX7_keepBreak_37 ⟨Nat.le_of_ble_eq_true rfl, Nat.le_of_ble_eq_true rfl⟩ (fun H locs hI => ?_)
      refine lv_icmp_ge (tgt := 87) hx hb dX7_keepBreak_40 (by decide) (fun c8 => ?_) (fun c8 => ?_)
      · have hf := o_pos hf c8
        refine lv_aload_n hx hb dX7_keepBreak_87 rfl (lv_at hl 0 rfl) ?_
        refine m_get (v := .ref (A 21)) X hI hc 21 (by decide) q2679 rfl dX7_keepBreak_88 ?_
        refine lv_iload_n hx hb dX7_keepBreak_91 rfl (lv_at hl 2 rfl) ?_
        obtain ⟨g9, hf⟩ := grd_some hf
        refine m_iald X hI 21 10 64 rfl rfl g9 dX7_keepBreak_92 ?_
        refine lv_aload_n hx hb dX7_keepBreak_93 rfl (lv_at hl 0 rfl) ?_
        refine m_get (v := .ref (A 21)) X hI hc 21 (by decide) q2679 rfl dX7_keepBreak_94 ?_
        refine lv_iload_n hx hb dX7_keepBreak_97 rfl (lv_at hl 3 rfl) ?_
        obtain ⟨g10, hf⟩ := grd_some hf
        refine m_iald X hI 21 10 64 rfl rfl g10 dX7_keepBreak_98 ?_
        refine lv_iadd hx hb dX7_keepBreak_99 ?_
        obtain ⟨v11, ev11, hf⟩ := nxt_some hf
        rw [← ev11]
        clear ev11
        refine lv_istore (lv' := [(5, .int v11), (0, .ref (A 0)), (1, .int x1), (2, .int x2), (3, .int x3), (4, .int x4)]) hx hb dX7_keepBreak_100 hl (by decide) rfl (fun ls hl => ?_)
        refine lv_iload hx hb dX7_keepBreak_102 (lv_at hl 0 rfl) ?_
        refine lv_aload_n hx hb dX7_keepBreak_104 rfl (lv_at hl 1 rfl) ?_
        refine m_get (v := .int (gI σ6 26)) X hI hc 26 (by decide) q2684 rfl dX7_keepBreak_105 ?_
        refine lv_icmp_lt (tgt := 112) hx hb dX7_keepBreak_108 (by decide) (fun c12 => ?_) (fun c12 => ?_)
        · have hf := o_pos hf c12
          refine lv_aload_n hx hb dX7_keepBreak_112 rfl (lv_at hl 1 rfl) ?_
          refine lv_iload hx hb dX7_keepBreak_113 (lv_at hl 0 rfl) ?_
          refine m_puti X hI hc 26 (by decide) q2684 rfl rfl rfl dX7_keepBreak_115 (fun H locs hI => ?_)
          obtain ⟨σ13, eσ13, hf⟩ := nxt_some hf
          rw [← eσ13] at hI
          clear eσ13
          refine lv_aload_n hx hb dX7_keepBreak_118 rfl (lv_at hl 1 rfl) ?_
          refine lv_iload_n hx hb dX7_keepBreak_119 rfl (lv_at hl 2 rfl) ?_
          refine m_puti X hI hc 27 (by decide) q2685 rfl rfl rfl dX7_keepBreak_120 (fun H locs hI => ?_)
          obtain ⟨σ14, eσ14, hf⟩ := nxt_some hf
          rw [← eσ14] at hI
          clear eσ14
          refine lv_aload_n hx hb dX7_keepBreak_123 rfl (lv_at hl 1 rfl) ?_
          refine lv_iload_n hx hb dX7_keepBreak_124 rfl (lv_at hl 3 rfl) ?_
          refine m_puti X hI hc 28 (by decide) q2686 rfl rfl rfl dX7_keepBreak_125 (fun H locs hI => ?_)
          obtain ⟨σ15, eσ15, hf⟩ := nxt_some hf
          rw [← eσ15] at hI
          clear eσ15
          refine lv_aload_n hx hb dX7_keepBreak_128 rfl (lv_at hl 1 rfl) ?_
          refine lv_iload_n hx hb dX7_keepBreak_129 rfl (lv_at hl 4 rfl) ?_
          refine m_puti X hI hc 29 (by decide) q2687 rfl rfl rfl dX7_keepBreak_130 (fun H locs hI => ?_)
          obtain ⟨σ16, eσ16, hf⟩ := nxt_some hf
          rw [← eσ16] at hI
          clear eσ16
          exact hret hf hI dX7_keepBreak_133
        · have hf := o_neg hf c12
          exact hret hf hI dX7_keepBreak_111
      · have hf := o_neg hf c8
        refine lv_aload_n hx hb dX7_keepBreak_43 rfl (lv_at hl 0 rfl) ?_
        refine m_get (v := .ref (A 24)) X hI hc 24 (by decide) q2682 rfl dX7_keepBreak_44 ?_
        refine lv_iload hx hb dX7_keepBreak_47 (lv_at hl 5 rfl) ?_
        refine lv_dup2_11 hx hb dX7_keepBreak_49 rfl rfl ?_
        obtain ⟨g17, hf⟩ := grd_some hf
        refine m_iald X hI 24 13 5 rfl rfl g17 dX7_keepBreak_50 ?_
        refine lv_aload_n hx hb dX7_keepBreak_51 rfl (lv_at hl 0 rfl) ?_
        refine m_get (v := .int (gI σ6 18)) X hI hc 18 (by decide) q2676 rfl dX7_keepBreak_52 ?_
        refine lv_iload hx hb dX7_keepBreak_55 (lv_at hl 5 rfl) ?_
        obtain ⟨r18, hr18, hf⟩ := bn1_some hf
        refine x_callSi (As := [.int (gI σ6 18), .int x5]) X hI (m7_bit l (gI σ6 18) x5 r18 hr18) (cw7_bit hts ⟨Nat.le_of_ble_eq_true rfl, Nat.le_of_ble_eq_true rfl⟩) rfl hl.1 (Nat.le_of_ble_eq_true rfl) rfl dX7_keepBreak_57 ⟨Nat.le_of_ble_eq_true rfl, Nat.le_of_ble_eq_true rfl⟩ (fun H locs hI => ?_)
        refine lv_if_ne (tgt := 78) hx hb dX7_keepBreak_60 (by decide) (fun c19 => ?_) (fun c19 => ?_)
        · have hf := o_neg hf c19
          exact J78 x1 x2 x3 x4 x5 x5 (gA σ6 24 x5.toNatClampNeg) σ6 hf H locs hI ls (lv_sub hl [0, 1, 2, 3, 4, 5] rfl)
        · have hf := o_pos hf c19
          refine lv_aload_n hx hb dX7_keepBreak_63 rfl (lv_at hl 0 rfl) ?_
          refine lv_iload hx hb dX7_keepBreak_64 (lv_at hl 5 rfl) ?_
          refine lv_iload hx hb dX7_keepBreak_66 (lv_at hl 4 rfl) ?_
          obtain ⟨r21, σ20, hσ20, hf⟩ := bnd_some hf
          refine m_calli X hI hc [.int x5, .int x4] (m7_holdsIn l D cl Z hz ci A d tm hc x5 x4 σ6 r21 σ20 hσ20) (cw7_holdsIn hts ⟨Nat.le_of_ble_eq_true rfl, Nat.le_of_ble_eq_true rfl⟩) rfl hl.1 (Nat.le_of_ble_eq_true rfl) rfl dX7_keepBreak_68 ⟨Nat.le_of_ble_eq_true rfl, Nat.le_of_ble_eq_true rfl⟩ (fun H locs hI => ?_)
          refine lv_if_ne (tgt := 78) hx hb dX7_keepBreak_71 (by decide) (fun c22 => ?_) (fun c22 => ?_)
          · have hf := o_neg hf c22
            exact J78 x1 x2 x3 x4 x5 x5 (gA σ6 24 x5.toNatClampNeg) σ20 hf H locs hI ls (lv_sub hl [0, 1, 2, 3, 4, 5] rfl)
          · have hf := o_pos hf c22
            refine lv_iconst (v := 1) hx hb dX7_keepBreak_74 (by decide) ?_
            refine lv_goto (tgt := 79) hx hb dX7_keepBreak_75 (by decide) ?_
            exact J79 x1 x2 x3 x4 x5 x5 (gA σ6 24 x5.toNatClampNeg) 1 σ20 hf H locs hI ls (lv_sub hl [0, 1, 2, 3, 4, 5] rfl)
  have hl : lv_has ls 6 [(0, .ref (A 0)), (1, .int p0), (2, .int p1), (3, .int p2)] := hl
  unfold f7_keepBreak at hf
  obtain ⟨H, eH⟩ : ∃ H, H = s.heap := ⟨_, rfl⟩
  obtain ⟨locs, eL⟩ : ∃ locs : List Loc, locs = [] := ⟨_, rfl⟩
  have hI : XI D cl (mw ci A d σ) A0 s.heap H locs := by rw [eH, eL]; exact hI
  rw [← eL]
  suffices h : W p l e r7_keepBreak s m args below meth c H locs 0 0 Q (F0 m 0 ls []) by rw [eH] at h; exact h
  clear eH eL
  refine lv_aload_n hx hb dX7_keepBreak_0 rfl (lv_at hl 0 rfl) ?_
  refine lv_dup hx hb dX7_keepBreak_1 rfl ?_
  refine m_get (v := .int (gI σ 25)) X hI hc 25 (by decide) q2683 rfl dX7_keepBreak_2 ?_
  refine lv_iconst (v := 1) hx hb dX7_keepBreak_5 (by decide) ?_
  refine lv_iadd hx hb dX7_keepBreak_6 ?_
  refine m_puti X hI hc 25 (by decide) q2683 rfl rfl rfl dX7_keepBreak_7 (fun H locs hI => ?_)
  obtain ⟨σ1, eσ1, hf⟩ := nxt_some hf
  rw [← eσ1] at hI
  clear eσ1
  refine lv_aload_n hx hb dX7_keepBreak_10 rfl (lv_at hl 0 rfl) ?_
  refine m_get (v := .ref (A 23)) X hI hc 23 (by decide) q2681 rfl dX7_keepBreak_11 ?_
  refine lv_bipush (v := 64) hx hb dX7_keepBreak_14 (by decide) ?_
  refine lv_iload_n hx hb dX7_keepBreak_16 rfl (lv_at hl 2 rfl) ?_
  refine lv_imul hx hb dX7_keepBreak_17 ?_
  refine lv_iload_n hx hb dX7_keepBreak_18 rfl (lv_at hl 3 rfl) ?_
  refine lv_iadd hx hb dX7_keepBreak_19 ?_
  refine lv_iconst (v := 1) hx hb dX7_keepBreak_20 (by decide) ?_
  obtain ⟨g2, hf⟩ := grd_some hf
  refine m_zast X hI 23 12 4096 rfl rfl g2 rfl dX7_keepBreak_21 (fun H locs hI => ?_)
  obtain ⟨σ3, eσ3, hf⟩ := nxt_some hf
  rw [← eσ3] at hI
  clear eσ3
  refine lv_aload_n hx hb dX7_keepBreak_22 rfl (lv_at hl 0 rfl) ?_
  refine lv_iload_n hx hb dX7_keepBreak_23 rfl (lv_at hl 1 rfl) ?_
  refine lv_iload_n hx hb dX7_keepBreak_24 rfl (lv_at hl 2 rfl) ?_
  refine lv_iload_n hx hb dX7_keepBreak_25 rfl (lv_at hl 3 rfl) ?_
  obtain ⟨r5, σ4, hσ4, hf⟩ := bnd_some hf
  refine m_calli X hI hc [.int p0, .int p1, .int p2] (m7_mergeOf l D cl Z hz ci A d tm hc p0 p1 p2 σ3 r5 σ4 hσ4) (cw7_mergeOf hts ⟨Nat.le_of_ble_eq_true rfl, Nat.le_of_ble_eq_true rfl⟩) rfl hl.1 (Nat.le_of_ble_eq_true rfl) rfl dX7_keepBreak_26 ⟨Nat.le_of_ble_eq_true rfl, Nat.le_of_ble_eq_true rfl⟩ (fun H locs hI => ?_)
  refine lv_istore (lv' := [(4, .int r5), (0, .ref (A 0)), (1, .int p0), (2, .int p1), (3, .int p2)]) hx hb dX7_keepBreak_29 hl (by decide) rfl (fun ls hl => ?_)
  refine lv_iconst (v := 0) hx hb dX7_keepBreak_31 (by decide) ?_
  refine lv_istore (lv' := [(5, .int 0), (4, .int r5), (0, .ref (A 0)), (1, .int p0), (2, .int p1), (3, .int p2)]) hx hb dX7_keepBreak_32 hl (by decide) rfl (fun ls hl => ?_)
  exact L34 FU p0 p1 p2 r5 0 σ4 hf H locs hI ls (lv_sub hl [2, 3, 4, 5, 1, 0] rfl)
/-! findFrom -/
def f7_findFrom_b105 (K7 : Int32 → Int32 → Int32 → MS → Option MS) (x1 : Int32) (x2 : Int32) (x3 : Int32) (σ : MS) : Option MS :=
  K7 x1 x2 (x3 + 1) σ
def f7_findFrom_b99 (K7 : Int32 → Int32 → Int32 → MS → Option MS) (K31 : Int32 → Int32 → Int32 → Int32 → MS → Option MS) (x1 : Int32) (x2 : Int32) (x3 : Int32) (x4 : Int32) (σ : MS) : Option MS :=
  K31 x1 x2 x3 (x4 + 1) σ
def f7_findFrom_b72 (K7 : Int32 → Int32 → Int32 → MS → Option MS) (K31 : Int32 → Int32 → Int32 → Int32 → MS → Option MS) (x1 : Int32) (x2 : Int32) (x3 : Int32) (x4 : Int32) (σ : MS) : Option MS :=
  bnd (f7_mergeOf x1 x3 x4 σ) fun r17 σ16 =>
  grd (inB r17 64) <|
  if (gA σ16 19 r17.toNatClampNeg) = 0 then (bn1 (f7_keepBreak x1 x3 x4 σ16) fun σ20 =>
  f7_findFrom_b99 K7 K31 x1 x2 x3 x4 σ20) else (f7_findFrom_b99 K7 K31 x1 x2 x3 x4 σ16)
def f7_findFrom_b31 (K7 : Int32 → Int32 → Int32 → MS → Option MS) (K31 : Int32 → Int32 → Int32 → Int32 → MS → Option MS) (x1 : Int32) (x2 : Int32) (x3 : Int32) (x4 : Int32) (σ : MS) : Option MS :=
  bnd (f7_stateMany σ) fun r8 σ7 =>
  if r8 ≤ x4 then (f7_findFrom_b105 K7 x1 x2 x3 σ7) else (grd (inB x4 64) <|
  if x2 < (gA σ7 21 x4.toNatClampNeg) then (f7_findFrom_b99 K7 K31 x1 x2 x3 x4 σ7) else (grd (inB x3 64) <|
  if (gA σ7 22 x3.toNatClampNeg) ≤ x2 then (f7_findFrom_b72 K7 K31 x1 x2 x3 x4 σ7) else (grd (inB x4 64) <|
  if x2 < (gA σ7 22 x4.toNatClampNeg) then (f7_findFrom_b99 K7 K31 x1 x2 x3 x4 σ7) else (f7_findFrom_b72 K7 K31 x1 x2 x3 x4 σ7))))
def f7_findFrom_l31 (K7 : Int32 → Int32 → Int32 → MS → Option MS) : Nat → Int32 → Int32 → Int32 → Int32 → MS → Option MS
  | 0 => fun _ _ _ _ _ => none
  | n + 1 => fun x1 x2 x3 x4 σ => f7_findFrom_b31 K7 (f7_findFrom_l31 K7 n) x1 x2 x3 x4 σ
def f7_findFrom_b7 (K7 : Int32 → Int32 → Int32 → MS → Option MS) (x1 : Int32) (x2 : Int32) (x3 : Int32) (σ : MS) : Option MS :=
  bnd (f7_stateMany σ) fun r3 σ2 =>
  if r3 ≤ x3 then (some σ2) else (grd (inB x3 64) <|
  if (gA σ2 21 x3.toNatClampNeg) ≤ x2 then (f7_findFrom_l31 K7 FU x1 x2 x3 x3 σ2) else (f7_findFrom_b105 K7 x1 x2 x3 σ2))
def f7_findFrom_l7 : Nat → Int32 → Int32 → Int32 → MS → Option MS
  | 0 => fun _ _ _ _ => none
  | n + 1 => fun x1 x2 x3 σ => f7_findFrom_b7 (f7_findFrom_l7 n) x1 x2 x3 σ
def f7_findFrom (p0 : Int32) (p1 : Int32) (σ : MS) : Option MS :=
  bn1 (f7_laySides p0 σ) fun σ1 =>
  f7_findFrom_l7 FU p0 p1 0 σ1
abbrev r7_findFrom : Room := { frames := 5, cells := 0, slots := 0, locals := 118 }
theorem cw7_findFrom {R : Room} {s : State} {args : Array Value} (ht : ∀ w ∈ lw_all, w.before args s = true) (hR : r7_findFrom.frames + 1 ≤ R.frames ∧ 8 + (5 + 11) + r7_findFrom.locals ≤ R.locals) : CallW R s args RX7 RX7 389 yX7_findFrom cX7_findFrom 5 none (ws_ yX7_findFrom cX7_findFrom 5 none) r7_findFrom 0 0 2 :=
  cwV 2 ht (lw_V q3208 q3210 qs144 q178 q3211) rfl rfl rfl (by decide +kernel) hR
theorem m7_findFrom (l : Launch) (D : va_G) (cl : vC2) (Z : (Nat → Prop) → State → Heap → Prop) (hz : ZK Z) (ci : Nat) (A : Nat → Nat) (d : Nat → ClassId) (tm : List (ClassId × FieldType)) (hc : cl.1[ci]? = some (RX7, TX7, 42)) (p0 : Int32) (p1 : Int32) (σ : MS) (σ' : MS) (hf : f7_findFrom p0 p1 σ = some σ') : MMv l yX7_findFrom (ws_ yX7_findFrom cX7_findFrom 5 none) r7_findFrom D cl Z ci A d tm σ [.int p0, .int p1] σ' := by
  refine m_openv hz (by decide) (by exact Nat.le_of_ble_eq_true rfl) (fun p e s m args below meth c ls A0 Q X hI hl hret => ?_)
  have X : XC p s m args meth c cX7_findFrom 5 RX7 D cl (mty d tm) A0 Z := X
  have hx := X.1
  have hb := X.2.1
  have hown := X.2.2.2.1
  have hts := X.2.2.2.2.1
  have L7 : ∀ (n : Nat) (x1 : Int32) (x2 : Int32) (x3 : Int32) (σ : MS), f7_findFrom_l7 n x1 x2 x3 σ = some σ' → ∀ (H : Heap) (locs : List Loc), XI D cl (mw ci A d σ) A0 s.heap H locs → ∀ (ls : Array Slot), lv_has ls 5 [(0, .ref (A 0)), (1, .int x1), (2, .int x2), (3, .int x3)] → W p l e r7_findFrom s m args below meth c H locs 0 0 Q (F0 m 7 ls []) := by
    intro n7
    induction n7 with
    | zero => intro x1 x2 x3 σ hf; cases hf
    | succ n7 ih7 =>
      have J105 : ∀ (x1 : Int32) (x2 : Int32) (x3 : Int32) (σ : MS), f7_findFrom_b105 (f7_findFrom_l7 n7) x1 x2 x3 σ = some σ' → ∀ (H : Heap) (locs : List Loc), XI D cl (mw ci A d σ) A0 s.heap H locs → ∀ (ls : Array Slot), lv_has ls 5 [(0, .ref (A 0)), (1, .int x1), (2, .int x2), (3, .int x3)] → W p l e r7_findFrom s m args below meth c H locs 0 0 Q (F0 m 105 ls []) := by
        intro x1 x2 x3 σ hf H locs hI ls hl
        unfold f7_findFrom_b105 at hf
        refine lv_iinc (v := x3 + 1) (lv' := [(3, .int (x3 + 1)), (0, .ref (A 0)), (1, .int x1), (2, .int x2)]) hx hb dX7_findFrom_105 hl (k := 3) rfl rfl (by decide) rfl (fun ls hl => ?_)
        refine lv_goto (tgt := 7) hx hb dX7_findFrom_108 (by decide) ?_
        exact ih7 x1 x2 (x3 + 1) σ hf H locs hI ls (lv_sub hl [1, 2, 3, 0] rfl)
      have L31 : ∀ (n : Nat) (x1 : Int32) (x2 : Int32) (x3 : Int32) (x4 : Int32) (σ : MS), f7_findFrom_l31 (f7_findFrom_l7 n7) n x1 x2 x3 x4 σ = some σ' → ∀ (H : Heap) (locs : List Loc), XI D cl (mw ci A d σ) A0 s.heap H locs → ∀ (ls : Array Slot), lv_has ls 5 [(0, .ref (A 0)), (1, .int x1), (2, .int x2), (3, .int x3), (4, .int x4)] → W p l e r7_findFrom s m args below meth c H locs 0 0 Q (F0 m 31 ls []) := by
        intro n31
        induction n31 with
        | zero => intro x1 x2 x3 x4 σ hf; cases hf
        | succ n31 ih31 =>
          have J99 : ∀ (x1 : Int32) (x2 : Int32) (x3 : Int32) (x4 : Int32) (σ : MS), f7_findFrom_b99 (f7_findFrom_l7 n7) (f7_findFrom_l31 (f7_findFrom_l7 n7) n31) x1 x2 x3 x4 σ = some σ' → ∀ (H : Heap) (locs : List Loc), XI D cl (mw ci A d σ) A0 s.heap H locs → ∀ (ls : Array Slot), lv_has ls 5 [(0, .ref (A 0)), (1, .int x1), (2, .int x2), (3, .int x3), (4, .int x4)] → W p l e r7_findFrom s m args below meth c H locs 0 0 Q (F0 m 99 ls []) := by
            intro x1 x2 x3 x4 σ hf H locs hI ls hl
            unfold f7_findFrom_b99 at hf
            refine lv_iinc (v := x4 + 1) (lv' := [(4, .int (x4 + 1)), (0, .ref (A 0)), (1, .int x1), (2, .int x2), (3, .int x3)]) hx hb dX7_findFrom_99 hl (k := 4) rfl rfl (by decide) rfl (fun ls hl => ?_)
            refine lv_goto (tgt := 31) hx hb dX7_findFrom_102 (by decide) ?_
            exact ih31 x1 x2 x3 (x4 + 1) σ hf H locs hI ls (lv_sub hl [1, 2, 3, 4, 0] rfl)
          have J72 : ∀ (x1 : Int32) (x2 : Int32) (x3 : Int32) (x4 : Int32) (σ : MS), f7_findFrom_b72 (f7_findFrom_l7 n7) (f7_findFrom_l31 (f7_findFrom_l7 n7) n31) x1 x2 x3 x4 σ = some σ' → ∀ (H : Heap) (locs : List Loc), XI D cl (mw ci A d σ) A0 s.heap H locs → ∀ (ls : Array Slot), lv_has ls 5 [(0, .ref (A 0)), (1, .int x1), (2, .int x2), (3, .int x3), (4, .int x4)] → W p l e r7_findFrom s m args below meth c H locs 0 0 Q (F0 m 72 ls []) := by
            intro x1 x2 x3 x4 σ hf H locs hI ls hl
            unfold f7_findFrom_b72 at hf
            refine lv_aload_n hx hb dX7_findFrom_72 rfl (lv_at hl 0 rfl) ?_
            refine m_get (v := .ref (A 19)) X hI hc 19 (by decide) q2677 rfl dX7_findFrom_73 ?_
            refine lv_aload_n hx hb dX7_findFrom_76 rfl (lv_at hl 0 rfl) ?_
            refine lv_iload_n hx hb dX7_findFrom_77 rfl (lv_at hl 1 rfl) ?_
            refine lv_iload_n hx hb dX7_findFrom_78 rfl (lv_at hl 3 rfl) ?_
            refine lv_iload hx hb dX7_findFrom_79 (lv_at hl 4 rfl) ?_
            obtain ⟨r17, σ16, hσ16, hf⟩ := bnd_some hf
            refine m_calli X hI hc [.int x1, .int x3, .int x4] (m7_mergeOf l D cl Z hz ci A d tm hc x1 x3 x4 σ r17 σ16 hσ16) (cw7_mergeOf hts ⟨Nat.le_of_ble_eq_true rfl, Nat.le_of_ble_eq_true rfl⟩) rfl hl.1 (Nat.le_of_ble_eq_true rfl) rfl dX7_findFrom_81 ⟨Nat.le_of_ble_eq_true rfl, Nat.le_of_ble_eq_true rfl⟩ (fun H locs hI => ?_)
            obtain ⟨g18, hf⟩ := grd_some hf
            refine m_zald X hI 19 8 64 rfl rfl g18 dX7_findFrom_84 ?_
            refine lv_if_eq (tgt := 91) hx hb dX7_findFrom_85 (by decide) (fun c19 => ?_) (fun c19 => ?_)
            · have hf := o_pos hf c19
              refine lv_aload_n hx hb dX7_findFrom_91 rfl (lv_at hl 0 rfl) ?_
              refine lv_iload_n hx hb dX7_findFrom_92 rfl (lv_at hl 1 rfl) ?_
              refine lv_iload_n hx hb dX7_findFrom_93 rfl (lv_at hl 3 rfl) ?_
              refine lv_iload hx hb dX7_findFrom_94 (lv_at hl 4 rfl) ?_
              obtain ⟨σ20, hσ20, hf⟩ := bn1_some hf
              refine m_callv X hI hc [.int x1, .int x3, .int x4] (m7_keepBreak l D cl Z hz ci A d tm hc x1 x3 x4 σ16 σ20 hσ20) (cw7_keepBreak hts ⟨Nat.le_of_ble_eq_true rfl, Nat.le_of_ble_eq_true rfl⟩) rfl hl.1 (Nat.le_of_ble_eq_true rfl) rfl dX7_findFrom_96 ⟨Nat.le_of_ble_eq_true rfl, Nat.le_of_ble_eq_true rfl⟩ (fun H locs hI => ?_)
              exact J99 x1 x2 x3 x4 σ20 hf H locs hI ls (lv_sub hl [0, 1, 2, 3, 4] rfl)
            · have hf := o_neg hf c19
              refine lv_goto (tgt := 99) hx hb dX7_findFrom_88 (by decide) ?_
              exact J99 x1 x2 x3 x4 σ16 hf H locs hI ls (lv_sub hl [0, 1, 2, 3, 4] rfl)
          intro x1 x2 x3 x4 σ hf H locs hI ls hl
          have hf : f7_findFrom_b31 (f7_findFrom_l7 n7) (f7_findFrom_l31 (f7_findFrom_l7 n7) n31) x1 x2 x3 x4 σ = some σ' := hf
          unfold f7_findFrom_b31 at hf
          refine lv_iload hx hb dX7_findFrom_31 (lv_at hl 4 rfl) ?_
          refine lv_aload_n hx hb dX7_findFrom_33 rfl (lv_at hl 0 rfl) ?_
          obtain ⟨r8, σ7, hσ7, hf⟩ := bnd_some hf
          refine m_calli X hI hc [] (m7_stateMany l D cl Z hz ci A d tm hc σ r8 σ7 hσ7) (cw7_stateMany hts ⟨Nat.le_of_ble_eq_true rfl, Nat.le_of_ble_eq_true rfl⟩) rfl hl.1 (Nat.le_of_ble_eq_true rfl) rfl dX7_findFrom_34 ⟨Nat.le_of_ble_eq_true rfl, Nat.le_of_ble_eq_true rfl⟩ (fun H locs hI => ?_)
          refine lv_icmp_ge (tgt := 105) hx hb dX7_findFrom_37 (by decide) (fun c9 => ?_) (fun c9 => ?_)
          · have hf := o_pos hf c9
            exact J105 x1 x2 x3 σ7 hf H locs hI ls (lv_sub hl [0, 1, 2, 3] rfl)
          · have hf := o_neg hf c9
            refine lv_aload_n hx hb dX7_findFrom_40 rfl (lv_at hl 0 rfl) ?_
            refine m_get (v := .ref (A 21)) X hI hc 21 (by decide) q2679 rfl dX7_findFrom_41 ?_
            refine lv_iload hx hb dX7_findFrom_44 (lv_at hl 4 rfl) ?_
            obtain ⟨g10, hf⟩ := grd_some hf
            refine m_iald X hI 21 10 64 rfl rfl g10 dX7_findFrom_46 ?_
            refine lv_iload_n hx hb dX7_findFrom_47 rfl (lv_at hl 2 rfl) ?_
            refine lv_icmp_gt (tgt := 99) hx hb dX7_findFrom_48 (by decide) (fun c11 => ?_) (fun c11 => ?_)
            · have hf := o_pos hf c11
              exact J99 x1 x2 x3 x4 σ7 hf H locs hI ls (lv_sub hl [0, 1, 2, 3, 4] rfl)
            · have hf := o_neg hf c11
              refine lv_aload_n hx hb dX7_findFrom_51 rfl (lv_at hl 0 rfl) ?_
              refine m_get (v := .ref (A 22)) X hI hc 22 (by decide) q2680 rfl dX7_findFrom_52 ?_
              refine lv_iload_n hx hb dX7_findFrom_55 rfl (lv_at hl 3 rfl) ?_
              obtain ⟨g12, hf⟩ := grd_some hf
              refine m_iald X hI 22 11 64 rfl rfl g12 dX7_findFrom_56 ?_
              refine lv_iload_n hx hb dX7_findFrom_57 rfl (lv_at hl 2 rfl) ?_
              refine lv_icmp_le (tgt := 72) hx hb dX7_findFrom_58 (by decide) (fun c13 => ?_) (fun c13 => ?_)
              · have hf := o_pos hf c13
                exact J72 x1 x2 x3 x4 σ7 hf H locs hI ls (lv_sub hl [0, 1, 2, 3, 4] rfl)
              · have hf := o_neg hf c13
                refine lv_aload_n hx hb dX7_findFrom_61 rfl (lv_at hl 0 rfl) ?_
                refine m_get (v := .ref (A 22)) X hI hc 22 (by decide) q2680 rfl dX7_findFrom_62 ?_
                refine lv_iload hx hb dX7_findFrom_65 (lv_at hl 4 rfl) ?_
                obtain ⟨g14, hf⟩ := grd_some hf
                refine m_iald X hI 22 11 64 rfl rfl g14 dX7_findFrom_67 ?_
                refine lv_iload_n hx hb dX7_findFrom_68 rfl (lv_at hl 2 rfl) ?_
                refine lv_icmp_gt (tgt := 99) hx hb dX7_findFrom_69 (by decide) (fun c15 => ?_) (fun c15 => ?_)
                · have hf := o_pos hf c15
                  exact J99 x1 x2 x3 x4 σ7 hf H locs hI ls (lv_sub hl [0, 1, 2, 3, 4] rfl)
                · have hf := o_neg hf c15
                  exact J72 x1 x2 x3 x4 σ7 hf H locs hI ls (lv_sub hl [0, 1, 2, 3, 4] rfl)
      intro x1 x2 x3 σ hf H locs hI ls hl
      have hf : f7_findFrom_b7 (f7_findFrom_l7 n7) x1 x2 x3 σ = some σ' := hf
      unfold f7_findFrom_b7 at hf
      refine lv_iload_n hx hb dX7_findFrom_7 rfl (lv_at hl 3 rfl) ?_
      refine lv_aload_n hx hb dX7_findFrom_8 rfl (lv_at hl 0 rfl) ?_
      obtain ⟨r3, σ2, hσ2, hf⟩ := bnd_some hf
      refine m_calli X hI hc [] (m7_stateMany l D cl Z hz ci A d tm hc σ r3 σ2 hσ2) (cw7_stateMany hts ⟨Nat.le_of_ble_eq_true rfl, Nat.le_of_ble_eq_true rfl⟩) rfl hl.1 (Nat.le_of_ble_eq_true rfl) rfl dX7_findFrom_9 ⟨Nat.le_of_ble_eq_true rfl, Nat.le_of_ble_eq_true rfl⟩ (fun H locs hI => ?_)
      refine lv_icmp_ge (tgt := 111) hx hb dX7_findFrom_12 (by decide) (fun c4 => ?_) (fun c4 => ?_)
      · have hf := o_pos hf c4
        exact hret hf hI dX7_findFrom_111
      · have hf := o_neg hf c4
        refine lv_aload_n hx hb dX7_findFrom_15 rfl (lv_at hl 0 rfl) ?_
        refine m_get (v := .ref (A 21)) X hI hc 21 (by decide) q2679 rfl dX7_findFrom_16 ?_
        refine lv_iload_n hx hb dX7_findFrom_19 rfl (lv_at hl 3 rfl) ?_
        obtain ⟨g5, hf⟩ := grd_some hf
        refine m_iald X hI 21 10 64 rfl rfl g5 dX7_findFrom_20 ?_
        refine lv_iload_n hx hb dX7_findFrom_21 rfl (lv_at hl 2 rfl) ?_
        refine lv_icmp_le (tgt := 28) hx hb dX7_findFrom_22 (by decide) (fun c6 => ?_) (fun c6 => ?_)
        · have hf := o_pos hf c6
          refine lv_iload_n hx hb dX7_findFrom_28 rfl (lv_at hl 3 rfl) ?_
          refine lv_istore (lv' := [(4, .int x3), (0, .ref (A 0)), (1, .int x1), (2, .int x2), (3, .int x3)]) hx hb dX7_findFrom_29 hl (by decide) rfl (fun ls hl => ?_)
          exact L31 FU x1 x2 x3 x3 σ2 hf H locs hI ls (lv_sub hl [1, 2, 3, 4, 0] rfl)
        · have hf := o_neg hf c6
          refine lv_goto (tgt := 105) hx hb dX7_findFrom_25 (by decide) ?_
          exact J105 x1 x2 x3 σ2 hf H locs hI ls (lv_sub hl [0, 1, 2, 3] rfl)
  have hl : lv_has ls 5 [(0, .ref (A 0)), (1, .int p0), (2, .int p1)] := hl
  unfold f7_findFrom at hf
  obtain ⟨H, eH⟩ : ∃ H, H = s.heap := ⟨_, rfl⟩
  obtain ⟨locs, eL⟩ : ∃ locs : List Loc, locs = [] := ⟨_, rfl⟩
  have hI : XI D cl (mw ci A d σ) A0 s.heap H locs := by rw [eH, eL]; exact hI
  rw [← eL]
  suffices h : W p l e r7_findFrom s m args below meth c H locs 0 0 Q (F0 m 0 ls []) by rw [eH] at h; exact h
  clear eH eL
  refine lv_aload_n hx hb dX7_findFrom_0 rfl (lv_at hl 0 rfl) ?_
  refine lv_iload_n hx hb dX7_findFrom_1 rfl (lv_at hl 1 rfl) ?_
  obtain ⟨σ1, hσ1, hf⟩ := bn1_some hf
  refine m_callv X hI hc [.int p0] (m7_laySides l D cl Z hz ci A d tm hc p0 σ σ1 hσ1) (cw7_laySides hts ⟨Nat.le_of_ble_eq_true rfl, Nat.le_of_ble_eq_true rfl⟩) rfl hl.1 (Nat.le_of_ble_eq_true rfl) rfl dX7_findFrom_2 ⟨Nat.le_of_ble_eq_true rfl, Nat.le_of_ble_eq_true rfl⟩ (fun H locs hI => ?_)
  refine lv_iconst (v := 0) hx hb dX7_findFrom_5 (by decide) ?_
  refine lv_istore_n (lv' := [(3, .int 0), (0, .ref (A 0)), (1, .int p0), (2, .int p1)]) hx hb dX7_findFrom_6 rfl hl (by decide) rfl (fun ls hl => ?_)
  exact L7 FU p0 p1 0 σ1 hf H locs hI ls (lv_sub hl [1, 2, 3, 0] rfl)
