/-! THE MODEL decompiled, and its walks (printed by gen/genm.py) -/
/-! getsBy -/
def f7_getsBy_b33 (x3 : Int32) (x4 : Int32) (x5 : Int32) (z1 : Int32) (σ : MS) : oI Int32 :=
  bnd (f7_worksOf z1 σ) fun r6 σ5 =>
  bnd (f7_breaksIn 1 σ5) fun r8 σ7 =>
  if x5 = 0 then (some ((r6 - r8) - ((2 : Int32) * x3), σ7)) else (some ((r6 - r8) - ((2 : Int32) * x4), σ7))
def f7_getsBy (p0 : Int32) (p1 : Int32) (p2 : Int32) (p3 : Int32) (p4 : Int32) (σ : MS) : oI Int32 :=
  bnd (f7_asks σ) fun r2 σ1 =>
  nxt (sI σ1 17 ((gI σ1 17) ||| ((p2 <<< (p0 &&& 31)) ||| (p3 <<< (p1 &&& 31))))) fun σ3 =>
  if p4 = 0 then (f7_getsBy_b33 p2 p3 p4 p0 σ3) else (f7_getsBy_b33 p2 p3 p4 p1 σ3)
abbrev r7_getsBy : Room := { frames := 7, cells := 0, slots := 0, locals := 164 }
theorem cw7_getsBy {R : Room} {s : State} {args : Array Value} (ht : ∀ w ∈ lw_all, w.before args s = true) (hR : r7_getsBy.frames + 1 ≤ R.frames ∧ 8 + (6 + 11) + r7_getsBy.locals ≤ R.locals) : CallW R s args RX7 RX7 477 yX7_getsBy cX7_getsBy 6 (some .int) (ws_ yX7_getsBy cX7_getsBy 6 (some .int)) r7_getsBy 0 0 5 :=
  cwV 5 ht (lw_V q3401 q3403 qs161 q178 q3404) rfl rfl rfl (by decide +kernel) hR
theorem m7_getsBy (l : Launch) (D : va_G) (cl : vC2) (Z : (Nat → Prop) → State → Heap → Prop) (hz : ZK Z) (ci : Nat) (A : Nat → Nat) (d : Nat → ClassId) (tm : List (ClassId × FieldType)) (hc : cl.1[ci]? = some (RX7, TX7, 42)) (p0 : Int32) (p1 : Int32) (p2 : Int32) (p3 : Int32) (p4 : Int32) (σ : MS) (r : Int32) (σ' : MS) (hf : f7_getsBy p0 p1 p2 p3 p4 σ = some (r, σ')) : MMi l yX7_getsBy (ws_ yX7_getsBy cX7_getsBy 6 (some .int)) r7_getsBy D cl Z ci A d tm σ [.int p0, .int p1, .int p2, .int p3, .int p4] r σ' := by
  refine m_openi hz (by decide) (by exact Nat.le_of_ble_eq_true rfl) (fun p e s m args below meth c ls A0 Q X hI hl hret => ?_)
  have X : XC p s m args meth c cX7_getsBy 6 RX7 D cl (mty d tm) A0 Z := X
  have hx := X.1
  have hb := X.2.1
  have hown := X.2.2.2.1
  have hts := X.2.2.2.2.1
  have J33 : ∀ (x3 : Int32) (x4 : Int32) (x5 : Int32) (z1 : Int32) (σ : MS), f7_getsBy_b33 x3 x4 x5 z1 σ = some (r, σ') → ∀ (H : Heap) (locs : List Loc), XI D cl (mw ci A d σ) A0 s.heap H locs → ∀ (ls : Array Slot), lv_has ls 6 [(0, .ref (A 0)), (3, .int x3), (4, .int x4), (5, .int x5)] → W p l e r7_getsBy s m args below meth c H locs 0 0 Q (F0 m 33 ls [.int z1, .ref (A 0)]) := by
    intro x3 x4 x5 z1 σ hf H locs hI ls hl
    unfold f7_getsBy_b33 at hf
    obtain ⟨r6, σ5, hσ5, hf⟩ := bnd_some hf
    refine m_calli X hI hc [.int z1] (m7_worksOf l D cl Z hz ci A d tm hc z1 σ r6 σ5 hσ5) (cw7_worksOf hts ⟨Nat.le_of_ble_eq_true rfl, Nat.le_of_ble_eq_true rfl⟩) rfl hl.1 (Nat.le_of_ble_eq_true rfl) rfl dX7_getsBy_33 ⟨Nat.le_of_ble_eq_true rfl, Nat.le_of_ble_eq_true rfl⟩ (fun H locs hI => ?_)
    refine lv_aload_n hx hb dX7_getsBy_36 rfl (lv_at hl 0 rfl) ?_
    refine lv_iconst (v := 1) hx hb dX7_getsBy_37 (by decide) ?_
    obtain ⟨r8, σ7, hσ7, hf⟩ := bnd_some hf
    refine m_calli X hI hc [.int 1] (m7_breaksIn l D cl Z hz ci A d tm hc 1 σ5 r8 σ7 hσ7) (cw7_breaksIn hts ⟨Nat.le_of_ble_eq_true rfl, Nat.le_of_ble_eq_true rfl⟩) rfl hl.1 (Nat.le_of_ble_eq_true rfl) rfl dX7_getsBy_38 ⟨Nat.le_of_ble_eq_true rfl, Nat.le_of_ble_eq_true rfl⟩ (fun H locs hI => ?_)
    refine lv_isub hx hb dX7_getsBy_41 ?_
    refine lv_iconst (v := 2) hx hb dX7_getsBy_42 (by decide) ?_
    refine lv_iload hx hb dX7_getsBy_43 (lv_at hl 3 rfl) ?_
    refine lv_if_ne (tgt := 52) hx hb dX7_getsBy_45 (by decide) (fun c9 => ?_) (fun c9 => ?_)
    · have hf := o_neg hf c9
      refine lv_iload hx hb dX7_getsBy_52 (lv_at hl 2 rfl) ?_
      refine lv_imul hx hb dX7_getsBy_54 ?_
      refine lv_isub hx hb dX7_getsBy_55 ?_
      exact hret hf hI dX7_getsBy_56
    · have hf := o_pos hf c9
      refine lv_iload_n hx hb dX7_getsBy_48 rfl (lv_at hl 1 rfl) ?_
      refine lv_goto (tgt := 54) hx hb dX7_getsBy_49 (by decide) ?_
      refine lv_imul hx hb dX7_getsBy_54 ?_
      refine lv_isub hx hb dX7_getsBy_55 ?_
      exact hret hf hI dX7_getsBy_56
  have hl : lv_has ls 6 [(0, .ref (A 0)), (1, .int p0), (2, .int p1), (3, .int p2), (4, .int p3), (5, .int p4)] := hl
  unfold f7_getsBy at hf
  obtain ⟨H, eH⟩ : ∃ H, H = s.heap := ⟨_, rfl⟩
  obtain ⟨locs, eL⟩ : ∃ locs : List Loc, locs = [] := ⟨_, rfl⟩
  have hI : XI D cl (mw ci A d σ) A0 s.heap H locs := by rw [eH, eL]; exact hI
  rw [← eL]
  suffices h : W p l e r7_getsBy s m args below meth c H locs 0 0 Q (F0 m 0 ls []) by rw [eH] at h; exact h
  clear eH eL
  refine lv_aload_n hx hb dX7_getsBy_0 rfl (lv_at hl 0 rfl) ?_
  obtain ⟨r2, σ1, hσ1, hf⟩ := bnd_some hf
  refine m_calli X hI hc [] (m7_asks l D cl Z hz ci A d tm hc σ r2 σ1 hσ1) (cw7_asks hts ⟨Nat.le_of_ble_eq_true rfl, Nat.le_of_ble_eq_true rfl⟩) rfl hl.1 (Nat.le_of_ble_eq_true rfl) rfl dX7_getsBy_1 ⟨Nat.le_of_ble_eq_true rfl, Nat.le_of_ble_eq_true rfl⟩ (fun H locs hI => ?_)
  refine lv_pop hx hb dX7_getsBy_4 rfl ?_
  refine lv_aload_n hx hb dX7_getsBy_5 rfl (lv_at hl 0 rfl) ?_
  refine lv_dup hx hb dX7_getsBy_6 rfl ?_
  refine m_get (v := .int (gI σ1 17)) X hI hc 17 (by decide) q2675 rfl dX7_getsBy_7 ?_
  refine lv_iload_n hx hb dX7_getsBy_10 rfl (lv_at hl 3 rfl) ?_
  refine lv_iload_n hx hb dX7_getsBy_11 rfl (lv_at hl 1 rfl) ?_
  refine lv_ishl hx hb dX7_getsBy_12 ?_
  refine lv_iload hx hb dX7_getsBy_13 (lv_at hl 4 rfl) ?_
  refine lv_iload_n hx hb dX7_getsBy_15 rfl (lv_at hl 2 rfl) ?_
  refine lv_ishl hx hb dX7_getsBy_16 ?_
  refine lv_ior hx hb dX7_getsBy_17 ?_
  refine lv_ior hx hb dX7_getsBy_18 ?_
  refine m_puti X hI hc 17 (by decide) q2675 rfl rfl rfl dX7_getsBy_19 (fun H locs hI => ?_)
  obtain ⟨σ3, eσ3, hf⟩ := nxt_some hf
  rw [← eσ3] at hI
  clear eσ3
  refine lv_aload_n hx hb dX7_getsBy_22 rfl (lv_at hl 0 rfl) ?_
  refine lv_iload hx hb dX7_getsBy_23 (lv_at hl 5 rfl) ?_
  refine lv_if_ne (tgt := 32) hx hb dX7_getsBy_25 (by decide) (fun c4 => ?_) (fun c4 => ?_)
  · have hf := o_neg hf c4
    refine lv_iload_n hx hb dX7_getsBy_32 rfl (lv_at hl 2 rfl) ?_
    exact J33 p2 p3 p4 p1 σ3 hf H locs hI ls (lv_sub hl [0, 3, 4, 5] rfl)
  · have hf := o_pos hf c4
    refine lv_iload_n hx hb dX7_getsBy_28 rfl (lv_at hl 1 rfl) ?_
    refine lv_goto (tgt := 33) hx hb dX7_getsBy_29 (by decide) ?_
    exact J33 p2 p3 p4 p0 σ3 hf H locs hI ls (lv_sub hl [0, 3, 4, 5] rfl)
/-! rests -/
def f7_rests_b110 (K17 : Int32 → Int32 → Int32 → Int32 → MS → oI Int32) (x1 : Int32) (x2 : Int32) (x4 : Int32) (z0 : Int32) (z1 : Int32) (σ : MS) : oI Int32 :=
  K17 x1 x2 (z0 ||| z1) (x4 + 1) σ
def f7_rests_b94 (K17 : Int32 → Int32 → Int32 → Int32 → MS → oI Int32) (x1 : Int32) (x2 : Int32) (x3 : Int32) (x4 : Int32) (z0 : Int32) (σ : MS) : oI Int32 :=
  if z0 = 0 then (f7_rests_b110 K17 x1 x2 x4 x3 0 σ) else (f7_rests_b110 K17 x1 x2 x4 x3 ((1 : Int32) <<< (x4 &&& 31)) σ)
def f7_rests_b93 (K17 : Int32 → Int32 → Int32 → Int32 → MS → oI Int32) (x1 : Int32) (x2 : Int32) (x3 : Int32) (x4 : Int32) (σ : MS) : oI Int32 :=
  f7_rests_b94 K17 x1 x2 x3 x4 0 σ
def f7_rests_b17 (K17 : Int32 → Int32 → Int32 → Int32 → MS → oI Int32) (x1 : Int32) (x2 : Int32) (x3 : Int32) (x4 : Int32) (σ : MS) : oI Int32 :=
  if 4 ≤ x4 then (some (x3, σ)) else (nxt (x4 >>> ((1 : Int32) &&& 31)) fun v5 =>
  bnd (f7_getsBy x1 x2 (x4 &&& 1) v5 0 σ) fun r7 σ6 =>
  bnd (f7_getsBy x1 x2 ((1 : Int32) - (x4 &&& 1)) v5 0 σ6) fun r9 σ8 =>
  if r7 < r9 then (f7_rests_b93 K17 x1 x2 x3 x4 σ8) else (bnd (f7_getsBy x1 x2 (x4 &&& 1) v5 1 σ8) fun r12 σ11 =>
  bnd (f7_getsBy x1 x2 (x4 &&& 1) ((1 : Int32) - v5) 1 σ11) fun r14 σ13 =>
  if r12 < r14 then (f7_rests_b93 K17 x1 x2 x3 x4 σ13) else (f7_rests_b94 K17 x1 x2 x3 x4 1 σ13)))
def f7_rests_l17 : Nat → Int32 → Int32 → Int32 → Int32 → MS → oI Int32
  | 0 => fun _ _ _ _ _ => none
  | n + 1 => fun x1 x2 x3 x4 σ => f7_rests_b17 (f7_rests_l17 n) x1 x2 x3 x4 σ
def f7_rests (p0 : Int32) (p1 : Int32) (σ : MS) : oI Int32 :=
  bnd (f7_areTwo p0 p1 σ) fun r2 σ1 =>
  if r2 = 0 then (some ((-2), σ1)) else (f7_rests_l17 FU p0 p1 0 0 σ1)
abbrev r7_rests : Room := { frames := 8, cells := 0, slots := 0, locals := 189 }
theorem m7_rests (l : Launch) (D : va_G) (cl : vC2) (Z : (Nat → Prop) → State → Heap → Prop) (hz : ZK Z) (ci : Nat) (A : Nat → Nat) (d : Nat → ClassId) (tm : List (ClassId × FieldType)) (hc : cl.1[ci]? = some (RX7, TX7, 42)) (p0 : Int32) (p1 : Int32) (σ : MS) (r : Int32) (σ' : MS) (hf : f7_rests p0 p1 σ = some (r, σ')) : MMi l yX7_rests (ws_ yX7_rests cX7_rests 8 (some .int)) r7_rests D cl Z ci A d tm σ [.int p0, .int p1] r σ' := by
  refine m_openi hz (by decide) (by exact Nat.le_of_ble_eq_true rfl) (fun p e s m args below meth c ls A0 Q X hI hl hret => ?_)
  have X : XC p s m args meth c cX7_rests 8 RX7 D cl (mty d tm) A0 Z := X
  have hx := X.1
  have hb := X.2.1
  have hown := X.2.2.2.1
  have hts := X.2.2.2.2.1
  have L17 : ∀ (n : Nat) (x1 : Int32) (x2 : Int32) (x3 : Int32) (x4 : Int32) (σ : MS), f7_rests_l17 n x1 x2 x3 x4 σ = some (r, σ') → ∀ (H : Heap) (locs : List Loc), XI D cl (mw ci A d σ) A0 s.heap H locs → ∀ (ls : Array Slot), lv_has ls 8 [(0, .ref (A 0)), (1, .int x1), (2, .int x2), (3, .int x3), (4, .int x4)] → W p l e r7_rests s m args below meth c H locs 0 0 Q (F0 m 17 ls []) := by
    intro n17
    induction n17 with
    | zero => intro x1 x2 x3 x4 σ hf; cases hf
    | succ n17 ih17 =>
      have J110 : ∀ (x1 : Int32) (x2 : Int32) (x4 : Int32) (z0 : Int32) (z1 : Int32) (σ : MS), f7_rests_b110 (f7_rests_l17 n17) x1 x2 x4 z0 z1 σ = some (r, σ') → ∀ (H : Heap) (locs : List Loc), XI D cl (mw ci A d σ) A0 s.heap H locs → ∀ (ls : Array Slot), lv_has ls 8 [(0, .ref (A 0)), (1, .int x1), (2, .int x2), (4, .int x4)] → W p l e r7_rests s m args below meth c H locs 0 0 Q (F0 m 110 ls [.int z1, .int z0]) := by
        intro x1 x2 x4 z0 z1 σ hf H locs hI ls hl
        unfold f7_rests_b110 at hf
        refine lv_ior hx hb dX7_rests_110 ?_
        refine lv_istore_n (lv' := [(3, .int (z0 ||| z1)), (0, .ref (A 0)), (1, .int x1), (2, .int x2), (4, .int x4)]) hx hb dX7_rests_111 rfl hl (by decide) rfl (fun ls hl => ?_)
        refine lv_iinc (v := x4 + 1) (lv' := [(4, .int (x4 + 1)), (3, .int (z0 ||| z1)), (0, .ref (A 0)), (1, .int x1), (2, .int x2)]) hx hb dX7_rests_112 hl (k := 4) rfl rfl (by decide) rfl (fun ls hl => ?_)
        refine lv_goto (tgt := 17) hx hb dX7_rests_115 (by decide) ?_
        exact ih17 x1 x2 (z0 ||| z1) (x4 + 1) σ hf H locs hI ls (lv_sub hl [2, 3, 4, 1, 0] rfl)
      have J94 : ∀ (x1 : Int32) (x2 : Int32) (x3 : Int32) (x4 : Int32) (z0 : Int32) (σ : MS), f7_rests_b94 (f7_rests_l17 n17) x1 x2 x3 x4 z0 σ = some (r, σ') → ∀ (H : Heap) (locs : List Loc), XI D cl (mw ci A d σ) A0 s.heap H locs → ∀ (ls : Array Slot), lv_has ls 8 [(0, .ref (A 0)), (1, .int x1), (2, .int x2), (3, .int x3), (4, .int x4)] → W p l e r7_rests s m args below meth c H locs 0 0 Q (F0 m 94 ls [.int z0]) := by
        intro x1 x2 x3 x4 z0 σ hf H locs hI ls hl
        unfold f7_rests_b94 at hf
        refine lv_istore (lv' := [(7, .int z0), (0, .ref (A 0)), (1, .int x1), (2, .int x2), (3, .int x3), (4, .int x4)]) hx hb dX7_rests_94 hl (by decide) rfl (fun ls hl => ?_)
        refine lv_iload_n hx hb dX7_rests_96 rfl (lv_at hl 4 rfl) ?_
        refine lv_iload hx hb dX7_rests_97 (lv_at hl 0 rfl) ?_
        refine lv_if_eq (tgt := 109) hx hb dX7_rests_99 (by decide) (fun c16 => ?_) (fun c16 => ?_)
        · have hf := o_pos hf c16
          refine lv_iconst (v := 0) hx hb dX7_rests_109 (by decide) ?_
          exact J110 x1 x2 x4 x3 0 σ hf H locs hI ls (lv_sub hl [1, 2, 3, 5] rfl)
        · have hf := o_neg hf c16
          refine lv_iconst (v := 1) hx hb dX7_rests_102 (by decide) ?_
          refine lv_iload hx hb dX7_rests_103 (lv_at hl 5 rfl) ?_
          refine lv_ishl hx hb dX7_rests_105 ?_
          refine lv_goto (tgt := 110) hx hb dX7_rests_106 (by decide) ?_
          exact J110 x1 x2 x4 x3 ((1 : Int32) <<< (x4 &&& 31)) σ hf H locs hI ls (lv_sub hl [1, 2, 3, 5] rfl)
      have J93 : ∀ (x1 : Int32) (x2 : Int32) (x3 : Int32) (x4 : Int32) (σ : MS), f7_rests_b93 (f7_rests_l17 n17) x1 x2 x3 x4 σ = some (r, σ') → ∀ (H : Heap) (locs : List Loc), XI D cl (mw ci A d σ) A0 s.heap H locs → ∀ (ls : Array Slot), lv_has ls 8 [(0, .ref (A 0)), (1, .int x1), (2, .int x2), (3, .int x3), (4, .int x4)] → W p l e r7_rests s m args below meth c H locs 0 0 Q (F0 m 93 ls []) := by
        intro x1 x2 x3 x4 σ hf H locs hI ls hl
        unfold f7_rests_b93 at hf
        refine lv_iconst (v := 0) hx hb dX7_rests_93 (by decide) ?_
        exact J94 x1 x2 x3 x4 0 σ hf H locs hI ls (lv_sub hl [0, 1, 2, 3, 4] rfl)
      intro x1 x2 x3 x4 σ hf H locs hI ls hl
      have hf : f7_rests_b17 (f7_rests_l17 n17) x1 x2 x3 x4 σ = some (r, σ') := hf
      unfold f7_rests_b17 at hf
      refine lv_iload hx hb dX7_rests_17 (lv_at hl 4 rfl) ?_
      refine lv_iconst (v := 4) hx hb dX7_rests_19 (by decide) ?_
      refine lv_icmp_ge (tgt := 118) hx hb dX7_rests_20 (by decide) (fun c4 => ?_) (fun c4 => ?_)
      · have hf := o_pos hf c4
        refine lv_iload_n hx hb dX7_rests_118 rfl (lv_at hl 3 rfl) ?_
        exact hret hf hI dX7_rests_119
      · have hf := o_neg hf c4
        refine lv_iload hx hb dX7_rests_23 (lv_at hl 4 rfl) ?_
        refine lv_iconst (v := 1) hx hb dX7_rests_25 (by decide) ?_
        refine lv_iand hx hb dX7_rests_26 ?_
        refine lv_istore (lv' := [(5, .int (x4 &&& 1)), (0, .ref (A 0)), (1, .int x1), (2, .int x2), (3, .int x3), (4, .int x4)]) hx hb dX7_rests_27 hl (by decide) rfl (fun ls hl => ?_)
        refine lv_iload hx hb dX7_rests_29 (lv_at hl 5 rfl) ?_
        refine lv_iconst (v := 1) hx hb dX7_rests_31 (by decide) ?_
        refine lv_ishr hx hb dX7_rests_32 ?_
        obtain ⟨v5, ev5, hf⟩ := nxt_some hf
        rw [← ev5]
        clear ev5
        refine lv_istore (lv' := [(6, .int v5), (5, .int (x4 &&& 1)), (0, .ref (A 0)), (1, .int x1), (2, .int x2), (3, .int x3), (4, .int x4)]) hx hb dX7_rests_33 hl (by decide) rfl (fun ls hl => ?_)
        refine lv_aload_n hx hb dX7_rests_35 rfl (lv_at hl 2 rfl) ?_
        refine lv_iload_n hx hb dX7_rests_36 rfl (lv_at hl 3 rfl) ?_
        refine lv_iload_n hx hb dX7_rests_37 rfl (lv_at hl 4 rfl) ?_
        refine lv_iload hx hb dX7_rests_38 (lv_at hl 1 rfl) ?_
        refine lv_iload hx hb dX7_rests_40 (lv_at hl 0 rfl) ?_
        refine lv_iconst (v := 0) hx hb dX7_rests_42 (by decide) ?_
        obtain ⟨r7, σ6, hσ6, hf⟩ := bnd_some hf
        refine m_calli X hI hc [.int x1, .int x2, .int (x4 &&& 1), .int v5, .int 0] (m7_getsBy l D cl Z hz ci A d tm hc x1 x2 (x4 &&& 1) v5 0 σ r7 σ6 hσ6) (cw7_getsBy hts ⟨Nat.le_of_ble_eq_true rfl, Nat.le_of_ble_eq_true rfl⟩) rfl hl.1 (Nat.le_of_ble_eq_true rfl) rfl dX7_rests_43 ⟨Nat.le_of_ble_eq_true rfl, Nat.le_of_ble_eq_true rfl⟩ (fun H locs hI => ?_)
        refine lv_aload_n hx hb dX7_rests_46 rfl (lv_at hl 2 rfl) ?_
        refine lv_iload_n hx hb dX7_rests_47 rfl (lv_at hl 3 rfl) ?_
        refine lv_iload_n hx hb dX7_rests_48 rfl (lv_at hl 4 rfl) ?_
        refine lv_iconst (v := 1) hx hb dX7_rests_49 (by decide) ?_
        refine lv_iload hx hb dX7_rests_50 (lv_at hl 1 rfl) ?_
        refine lv_isub hx hb dX7_rests_52 ?_
        refine lv_iload hx hb dX7_rests_53 (lv_at hl 0 rfl) ?_
        refine lv_iconst (v := 0) hx hb dX7_rests_55 (by decide) ?_
        obtain ⟨r9, σ8, hσ8, hf⟩ := bnd_some hf
        refine m_calli X hI hc [.int x1, .int x2, .int ((1 : Int32) - (x4 &&& 1)), .int v5, .int 0] (m7_getsBy l D cl Z hz ci A d tm hc x1 x2 ((1 : Int32) - (x4 &&& 1)) v5 0 σ6 r9 σ8 hσ8) (cw7_getsBy hts ⟨Nat.le_of_ble_eq_true rfl, Nat.le_of_ble_eq_true rfl⟩) rfl hl.1 (Nat.le_of_ble_eq_true rfl) rfl dX7_rests_56 ⟨Nat.le_of_ble_eq_true rfl, Nat.le_of_ble_eq_true rfl⟩ (fun H locs hI => ?_)
        refine lv_icmp_lt (tgt := 93) hx hb dX7_rests_59 (by decide) (fun c10 => ?_) (fun c10 => ?_)
        · have hf := o_pos hf c10
          exact J93 x1 x2 x3 x4 σ8 hf H locs hI ls (lv_sub hl [2, 3, 4, 5, 6] rfl)
        · have hf := o_neg hf c10
          refine lv_aload_n hx hb dX7_rests_62 rfl (lv_at hl 2 rfl) ?_
          refine lv_iload_n hx hb dX7_rests_63 rfl (lv_at hl 3 rfl) ?_
          refine lv_iload_n hx hb dX7_rests_64 rfl (lv_at hl 4 rfl) ?_
          refine lv_iload hx hb dX7_rests_65 (lv_at hl 1 rfl) ?_
          refine lv_iload hx hb dX7_rests_67 (lv_at hl 0 rfl) ?_
          refine lv_iconst (v := 1) hx hb dX7_rests_69 (by decide) ?_
          obtain ⟨r12, σ11, hσ11, hf⟩ := bnd_some hf
          refine m_calli X hI hc [.int x1, .int x2, .int (x4 &&& 1), .int v5, .int 1] (m7_getsBy l D cl Z hz ci A d tm hc x1 x2 (x4 &&& 1) v5 1 σ8 r12 σ11 hσ11) (cw7_getsBy hts ⟨Nat.le_of_ble_eq_true rfl, Nat.le_of_ble_eq_true rfl⟩) rfl hl.1 (Nat.le_of_ble_eq_true rfl) rfl dX7_rests_70 ⟨Nat.le_of_ble_eq_true rfl, Nat.le_of_ble_eq_true rfl⟩ (fun H locs hI => ?_)
          refine lv_aload_n hx hb dX7_rests_73 rfl (lv_at hl 2 rfl) ?_
          refine lv_iload_n hx hb dX7_rests_74 rfl (lv_at hl 3 rfl) ?_
          refine lv_iload_n hx hb dX7_rests_75 rfl (lv_at hl 4 rfl) ?_
          refine lv_iload hx hb dX7_rests_76 (lv_at hl 1 rfl) ?_
          refine lv_iconst (v := 1) hx hb dX7_rests_78 (by decide) ?_
          refine lv_iload hx hb dX7_rests_79 (lv_at hl 0 rfl) ?_
          refine lv_isub hx hb dX7_rests_81 ?_
          refine lv_iconst (v := 1) hx hb dX7_rests_82 (by decide) ?_
          obtain ⟨r14, σ13, hσ13, hf⟩ := bnd_some hf
          refine m_calli X hI hc [.int x1, .int x2, .int (x4 &&& 1), .int ((1 : Int32) - v5), .int 1] (m7_getsBy l D cl Z hz ci A d tm hc x1 x2 (x4 &&& 1) ((1 : Int32) - v5) 1 σ11 r14 σ13 hσ13) (cw7_getsBy hts ⟨Nat.le_of_ble_eq_true rfl, Nat.le_of_ble_eq_true rfl⟩) rfl hl.1 (Nat.le_of_ble_eq_true rfl) rfl dX7_rests_83 ⟨Nat.le_of_ble_eq_true rfl, Nat.le_of_ble_eq_true rfl⟩ (fun H locs hI => ?_)
          refine lv_icmp_lt (tgt := 93) hx hb dX7_rests_86 (by decide) (fun c15 => ?_) (fun c15 => ?_)
          · have hf := o_pos hf c15
            exact J93 x1 x2 x3 x4 σ13 hf H locs hI ls (lv_sub hl [2, 3, 4, 5, 6] rfl)
          · have hf := o_neg hf c15
            refine lv_iconst (v := 1) hx hb dX7_rests_89 (by decide) ?_
            refine lv_goto (tgt := 94) hx hb dX7_rests_90 (by decide) ?_
            exact J94 x1 x2 x3 x4 1 σ13 hf H locs hI ls (lv_sub hl [2, 3, 4, 5, 6] rfl)
  have hl : lv_has ls 8 [(0, .ref (A 0)), (1, .int p0), (2, .int p1)] := hl
  unfold f7_rests at hf
  obtain ⟨H, eH⟩ : ∃ H, H = s.heap := ⟨_, rfl⟩
  obtain ⟨locs, eL⟩ : ∃ locs : List Loc, locs = [] := ⟨_, rfl⟩
  have hI : XI D cl (mw ci A d σ) A0 s.heap H locs := by rw [eH, eL]; exact hI
  rw [← eL]
  suffices h : W p l e r7_rests s m args below meth c H locs 0 0 Q (F0 m 0 ls []) by rw [eH] at h; exact h
  clear eH eL
  refine lv_aload_n hx hb dX7_rests_0 rfl (lv_at hl 0 rfl) ?_
  refine lv_iload_n hx hb dX7_rests_1 rfl (lv_at hl 1 rfl) ?_
  refine lv_iload_n hx hb dX7_rests_2 rfl (lv_at hl 2 rfl) ?_
  obtain ⟨r2, σ1, hσ1, hf⟩ := bnd_some hf
  refine m_calli X hI hc [.int p0, .int p1] (m7_areTwo l D cl Z hz ci A d tm hc p0 p1 σ r2 σ1 hσ1) (cw7_areTwo hts ⟨Nat.le_of_ble_eq_true rfl, Nat.le_of_ble_eq_true rfl⟩) rfl hl.1 (Nat.le_of_ble_eq_true rfl) rfl dX7_rests_3 ⟨Nat.le_of_ble_eq_true rfl, Nat.le_of_ble_eq_true rfl⟩ (fun H locs hI => ?_)
  refine lv_if_ne (tgt := 12) hx hb dX7_rests_6 (by decide) (fun c3 => ?_) (fun c3 => ?_)
  · have hf := o_neg hf c3
    refine lv_iconst (v := 0) hx hb dX7_rests_12 (by decide) ?_
    refine lv_istore_n (lv' := [(3, .int 0), (0, .ref (A 0)), (1, .int p0), (2, .int p1)]) hx hb dX7_rests_13 rfl hl (by decide) rfl (fun ls hl => ?_)
    refine lv_iconst (v := 0) hx hb dX7_rests_14 (by decide) ?_
    refine lv_istore (lv' := [(4, .int 0), (3, .int 0), (0, .ref (A 0)), (1, .int p0), (2, .int p1)]) hx hb dX7_rests_15 hl (by decide) rfl (fun ls hl => ?_)
    exact L17 FU p0 p1 0 0 σ1 hf H locs hI ls (lv_sub hl [2, 3, 4, 1, 0] rfl)
  · have hf := o_pos hf c3
    refine lv_bipush (v := -2) hx hb dX7_rests_9 (by decide) ?_
    exact hret hf hI dX7_rests_11
/-! gets -/
def f7_gets (p0 : Int32) (p1 : Int32) (p2 : Int32) (p3 : Int32) (σ : MS) : oI Int32 :=
  bnd (f7_areTwo p0 p1 σ) fun r2 σ1 =>
  if r2 = 0 then (some ((-1000000), σ1)) else (bn1 (f7_in p2.toInt64 0 1) fun r4 =>
  if r4 = 0 then (some ((-1000000), σ1)) else (bn1 (f7_in p3.toInt64 0 1) fun r6 =>
  if r6 = 0 then (some ((-1000000), σ1)) else (bnd (f7_getsBy p0 p1 p2 p3 0 σ1) fun r9 σ8 =>
  some (r9, σ8))))
abbrev r7_gets : Room := { frames := 8, cells := 0, slots := 0, locals := 189 }
theorem m7_gets (l : Launch) (D : va_G) (cl : vC2) (Z : (Nat → Prop) → State → Heap → Prop) (hz : ZK Z) (ci : Nat) (A : Nat → Nat) (d : Nat → ClassId) (tm : List (ClassId × FieldType)) (hc : cl.1[ci]? = some (RX7, TX7, 42)) (p0 : Int32) (p1 : Int32) (p2 : Int32) (p3 : Int32) (σ : MS) (r : Int32) (σ' : MS) (hf : f7_gets p0 p1 p2 p3 σ = some (r, σ')) : MMi l yX7_gets (ws_ yX7_gets cX7_gets 5 (some .int)) r7_gets D cl Z ci A d tm σ [.int p0, .int p1, .int p2, .int p3] r σ' := by
  refine m_openi hz (by decide) (by exact Nat.le_of_ble_eq_true rfl) (fun p e s m args below meth c ls A0 Q X hI hl hret => ?_)
  have X : XC p s m args meth c cX7_gets 5 RX7 D cl (mty d tm) A0 Z := X
  have hx := X.1
  have hb := X.2.1
  have hown := X.2.2.2.1
  have hts := X.2.2.2.2.1
  have hl : lv_has ls 5 [(0, .ref (A 0)), (1, .int p0), (2, .int p1), (3, .int p2), (4, .int p3)] := hl
  unfold f7_gets at hf
  obtain ⟨H, eH⟩ : ∃ H, H = s.heap := ⟨_, rfl⟩
  obtain ⟨locs, eL⟩ : ∃ locs : List Loc, locs = [] := ⟨_, rfl⟩
  have hI : XI D cl (mw ci A d σ) A0 s.heap H locs := by rw [eH, eL]; exact hI
  rw [← eL]
  suffices h : W p l e r7_gets s m args below meth c H locs 0 0 Q (F0 m 0 ls []) by rw [eH] at h; exact h
  clear eH eL
  refine lv_aload_n hx hb dX7_gets_0 rfl (lv_at hl 0 rfl) ?_
  refine lv_iload_n hx hb dX7_gets_1 rfl (lv_at hl 1 rfl) ?_
  refine lv_iload_n hx hb dX7_gets_2 rfl (lv_at hl 2 rfl) ?_
  obtain ⟨r2, σ1, hσ1, hf⟩ := bnd_some hf
  refine m_calli X hI hc [.int p0, .int p1] (m7_areTwo l D cl Z hz ci A d tm hc p0 p1 σ r2 σ1 hσ1) (cw7_areTwo hts ⟨Nat.le_of_ble_eq_true rfl, Nat.le_of_ble_eq_true rfl⟩) rfl hl.1 (Nat.le_of_ble_eq_true rfl) rfl dX7_gets_3 ⟨Nat.le_of_ble_eq_true rfl, Nat.le_of_ble_eq_true rfl⟩ (fun H locs hI => ?_)
  refine lv_if_eq (tgt := 43) hx hb dX7_gets_6 (by decide) (fun c3 => ?_) (fun c3 => ?_)
  · have hf := o_pos hf c3
    refine lv_ldcw (v := -1000000) hx hb hown (hts _ q3382) dX7_gets_43 ?_
    exact hret hf hI dX7_gets_46
  · have hf := o_neg hf c3
    refine lv_iload_n hx hb dX7_gets_9 rfl (lv_at hl 3 rfl) ?_
    refine lv_i2l hx hb dX7_gets_10 rfl ?_
    refine lv_lconst (v := 0) hx hb dX7_gets_11 (by decide) ?_
    refine lv_lconst (v := 1) hx hb dX7_gets_12 (by decide) ?_
    obtain ⟨r4, hr4, hf⟩ := bn1_some hf
    refine x_callSi (As := [.long p2.toInt64, .long 0, .long 1]) X hI (m7_in l p2.toInt64 0 1 r4 hr4) (cw7_in hts ⟨Nat.le_of_ble_eq_true rfl, Nat.le_of_ble_eq_true rfl⟩) rfl hl.1 (Nat.le_of_ble_eq_true rfl) rfl dX7_gets_13 ⟨Nat.le_of_ble_eq_true rfl, Nat.le_of_ble_eq_true rfl⟩ (fun H locs hI => ?_)
    refine lv_if_eq (tgt := 43) hx hb dX7_gets_16 (by decide) (fun c5 => ?_) (fun c5 => ?_)
    · have hf := o_pos hf c5
      refine lv_ldcw (v := -1000000) hx hb hown (hts _ q3382) dX7_gets_43 ?_
      exact hret hf hI dX7_gets_46
    · have hf := o_neg hf c5
      refine lv_iload hx hb dX7_gets_19 (lv_at hl 4 rfl) ?_
      refine lv_i2l hx hb dX7_gets_21 rfl ?_
      refine lv_lconst (v := 0) hx hb dX7_gets_22 (by decide) ?_
      refine lv_lconst (v := 1) hx hb dX7_gets_23 (by decide) ?_
      obtain ⟨r6, hr6, hf⟩ := bn1_some hf
      refine x_callSi (As := [.long p3.toInt64, .long 0, .long 1]) X hI (m7_in l p3.toInt64 0 1 r6 hr6) (cw7_in hts ⟨Nat.le_of_ble_eq_true rfl, Nat.le_of_ble_eq_true rfl⟩) rfl hl.1 (Nat.le_of_ble_eq_true rfl) rfl dX7_gets_24 ⟨Nat.le_of_ble_eq_true rfl, Nat.le_of_ble_eq_true rfl⟩ (fun H locs hI => ?_)
      refine lv_if_eq (tgt := 43) hx hb dX7_gets_27 (by decide) (fun c7 => ?_) (fun c7 => ?_)
      · have hf := o_pos hf c7
        refine lv_ldcw (v := -1000000) hx hb hown (hts _ q3382) dX7_gets_43 ?_
        exact hret hf hI dX7_gets_46
      · have hf := o_neg hf c7
        refine lv_aload_n hx hb dX7_gets_30 rfl (lv_at hl 0 rfl) ?_
        refine lv_iload_n hx hb dX7_gets_31 rfl (lv_at hl 1 rfl) ?_
        refine lv_iload_n hx hb dX7_gets_32 rfl (lv_at hl 2 rfl) ?_
        refine lv_iload_n hx hb dX7_gets_33 rfl (lv_at hl 3 rfl) ?_
        refine lv_iload hx hb dX7_gets_34 (lv_at hl 4 rfl) ?_
        refine lv_iconst (v := 0) hx hb dX7_gets_36 (by decide) ?_
        obtain ⟨r9, σ8, hσ8, hf⟩ := bnd_some hf
        refine m_calli X hI hc [.int p0, .int p1, .int p2, .int p3, .int 0] (m7_getsBy l D cl Z hz ci A d tm hc p0 p1 p2 p3 0 σ1 r9 σ8 hσ8) (cw7_getsBy hts ⟨Nat.le_of_ble_eq_true rfl, Nat.le_of_ble_eq_true rfl⟩) rfl hl.1 (Nat.le_of_ble_eq_true rfl) rfl dX7_gets_37 ⟨Nat.le_of_ble_eq_true rfl, Nat.le_of_ble_eq_true rfl⟩ (fun H locs hI => ?_)
        refine lv_goto (tgt := 46) hx hb dX7_gets_40 (by decide) ?_
        exact hret hf hI dX7_gets_46
/-! layChance -/
def f7_layChance_b147 (K22 : Int32 → Int32 → MS → Option MS) (x1 : Int32) (x2 : Int32) (σ : MS) : Option MS :=
  K22 x1 (x2 + 1) σ
def f7_layChance_b127 (K22 : Int32 → Int32 → MS → Option MS) (x1 : Int32) (x2 : Int32) (x3 : Int64) (z1 : Int64) (z2 : Int64) (σ : MS) : Option MS :=
  nxt (sL σ 36 (z1 + z2)) fun σ17 =>
  bnd (f7_validMany σ17) fun r19 σ18 =>
  nxt (sL σ18 37 ((gL σ17 37) + (x3 * r19.toInt64))) fun σ20 =>
  f7_layChance_b147 K22 x1 x2 σ20
def f7_layChance_b71 (K22 : Int32 → Int32 → MS → Option MS) (K34 : Int32 → Int32 → Int64 → Int32 → MS → Option MS) (x1 : Int32) (x2 : Int32) (x5 : Int32) (z0 : Int64) (z1 : Int64) (σ : MS) : Option MS :=
  K34 x1 x2 (z0 * z1) (x5 + 1) σ
def f7_layChance_b34 (K22 : Int32 → Int32 → MS → Option MS) (K34 : Int32 → Int32 → Int64 → Int32 → MS → Option MS) (x1 : Int32) (x2 : Int32) (x3 : Int64) (x5 : Int32) (σ : MS) : Option MS :=
  if x1 ≤ x5 then (if (lg_cmp x3 0) = 0 then (f7_layChance_b147 K22 x1 x2 σ) else (bnd (f7_allRules σ) fun r10 σ9 =>
  bnd (f7_worthOf (r10 &&& (x2 ^^^ (-1))) σ9) fun r12 σ11 =>
  nxt (sL σ11 35 ((gL σ11 35) + x3)) fun σ13 =>
  if r12 = 0 then (f7_layChance_b127 K22 x1 x2 x3 (gL σ13 36) x3 σ13) else (f7_layChance_b127 K22 x1 x2 x3 (gL σ13 36) 0 σ13))) else (bn1 (f7_bit x2 x5) fun r15 =>
  if r15 = 1 then (f7_layChance_b71 K22 K34 x1 x2 x5 x3 ((gA σ 1 2).toInt64) σ) else (f7_layChance_b71 K22 K34 x1 x2 x5 x3 (((10 : Int32) - (gA σ 1 2)).toInt64) σ))
def f7_layChance_l34 (K22 : Int32 → Int32 → MS → Option MS) : Nat → Int32 → Int32 → Int64 → Int32 → MS → Option MS
  | 0 => fun _ _ _ _ _ => none
  | n + 1 => fun x1 x2 x3 x5 σ => f7_layChance_b34 K22 (f7_layChance_l34 K22 n) x1 x2 x3 x5 σ
def f7_layChance_b22 (K22 : Int32 → Int32 → MS → Option MS) (x1 : Int32) (x2 : Int32) (σ : MS) : Option MS :=
  if ((1 : Int32) <<< (x1 &&& 31)) ≤ x2 then (some σ) else (f7_layChance_l34 K22 FU x1 x2 1 0 σ)
def f7_layChance_l22 : Nat → Int32 → Int32 → MS → Option MS
  | 0 => fun _ _ _ => none
  | n + 1 => fun x1 x2 σ => f7_layChance_b22 (f7_layChance_l22 n) x1 x2 σ
def f7_layChance (σ : MS) : Option MS :=
  nxt (sL σ 35 0) fun σ1 =>
  nxt (sL σ1 36 0) fun σ2 =>
  nxt (sL σ2 37 0) fun σ3 =>
  bnd (f7_rules σ3) fun r5 σ4 =>
  f7_layChance_l22 FU r5 0 σ4
abbrev r7_layChance : Room := { frames := 9, cells := 0, slots := 0, locals := 206 }
theorem cw7_layChance {R : Room} {s : State} {args : Array Value} (ht : ∀ w ∈ lw_all, w.before args s = true) (hR : r7_layChance.frames + 1 ≤ R.frames ∧ 8 + (6 + 11) + r7_layChance.locals ≤ R.locals) : CallW R s args RX7 RX7 491 yX7_layChance cX7_layChance 6 none (ws_ yX7_layChance cX7_layChance 6 none) r7_layChance 0 0 0 :=
  cwV 0 ht (lw_V q3417 q3419 qs163 q178 q3420) rfl rfl rfl (by decide +kernel) hR
theorem m7_layChance (l : Launch) (D : va_G) (cl : vC2) (Z : (Nat → Prop) → State → Heap → Prop) (hz : ZK Z) (ci : Nat) (A : Nat → Nat) (d : Nat → ClassId) (tm : List (ClassId × FieldType)) (hc : cl.1[ci]? = some (RX7, TX7, 42)) (σ : MS) (σ' : MS) (hf : f7_layChance σ = some σ') : MMv l yX7_layChance (ws_ yX7_layChance cX7_layChance 6 none) r7_layChance D cl Z ci A d tm σ [] σ' := by
  refine m_openv hz (by decide) (by exact Nat.le_of_ble_eq_true rfl) (fun p e s m args below meth c ls A0 Q X hI hl hret => ?_)
  have X : XC p s m args meth c cX7_layChance 6 RX7 D cl (mty d tm) A0 Z := X
  have hx := X.1
  have hb := X.2.1
  have hown := X.2.2.2.1
  have hts := X.2.2.2.2.1
  have L22 : ∀ (n : Nat) (x1 : Int32) (x2 : Int32) (σ : MS), f7_layChance_l22 n x1 x2 σ = some σ' → ∀ (H : Heap) (locs : List Loc), XI D cl (mw ci A d σ) A0 s.heap H locs → ∀ (ls : Array Slot), lv_has ls 6 [(0, .ref (A 0)), (1, .int x1), (2, .int x2)] → W p l e r7_layChance s m args below meth c H locs 0 0 Q (F0 m 22 ls []) := by
    intro n22
    induction n22 with
    | zero => intro x1 x2 σ hf; cases hf
    | succ n22 ih22 =>
      have J147 : ∀ (x1 : Int32) (x2 : Int32) (σ : MS), f7_layChance_b147 (f7_layChance_l22 n22) x1 x2 σ = some σ' → ∀ (H : Heap) (locs : List Loc), XI D cl (mw ci A d σ) A0 s.heap H locs → ∀ (ls : Array Slot), lv_has ls 6 [(0, .ref (A 0)), (1, .int x1), (2, .int x2)] → W p l e r7_layChance s m args below meth c H locs 0 0 Q (F0 m 147 ls []) := by
        intro x1 x2 σ hf H locs hI ls hl
        unfold f7_layChance_b147 at hf
        refine lv_iinc (v := x2 + 1) (lv' := [(2, .int (x2 + 1)), (0, .ref (A 0)), (1, .int x1)]) hx hb dX7_layChance_147 hl (k := 2) rfl rfl (by decide) rfl (fun ls hl => ?_)
        refine lv_goto (tgt := 22) hx hb dX7_layChance_150 (by decide) ?_
        exact ih22 x1 (x2 + 1) σ hf H locs hI ls (lv_sub hl [1, 2, 0] rfl)
      have J127 : ∀ (x1 : Int32) (x2 : Int32) (x3 : Int64) (z1 : Int64) (z2 : Int64) (σ : MS), f7_layChance_b127 (f7_layChance_l22 n22) x1 x2 x3 z1 z2 σ = some σ' → ∀ (H : Heap) (locs : List Loc), XI D cl (mw ci A d σ) A0 s.heap H locs → ∀ (ls : Array Slot), lv_has ls 6 [(0, .ref (A 0)), (1, .int x1), (2, .int x2), (3, .long x3)] → W p l e r7_layChance s m args below meth c H locs 0 0 Q (F0 m 127 ls [.long z2, .long z1, .ref (A 0)]) := by
        intro x1 x2 x3 z1 z2 σ hf H locs hI ls hl
        unfold f7_layChance_b127 at hf
        refine lv_ladd hx hb dX7_layChance_127 ?_
        refine m_putl X hI hc 36 (by decide) q2694 rfl rfl rfl dX7_layChance_128 (fun H locs hI => ?_)
        obtain ⟨σ17, eσ17, hf⟩ := nxt_some hf
        rw [← eσ17] at hI
        clear eσ17
        refine lv_aload_n hx hb dX7_layChance_131 rfl (lv_at hl 0 rfl) ?_
        refine lv_dup hx hb dX7_layChance_132 rfl ?_
        refine m_get (v := .long (gL σ17 37)) X hI hc 37 (by decide) q2695 rfl dX7_layChance_133 ?_
        refine lv_lload_n hx hb dX7_layChance_136 rfl (lv_at hl 3 rfl) ?_
        refine lv_aload_n hx hb dX7_layChance_137 rfl (lv_at hl 0 rfl) ?_
        obtain ⟨r19, σ18, hσ18, hf⟩ := bnd_some hf
        refine m_calli X hI hc [] (m7_validMany l D cl Z hz ci A d tm hc σ17 r19 σ18 hσ18) (cw7_validMany hts ⟨Nat.le_of_ble_eq_true rfl, Nat.le_of_ble_eq_true rfl⟩) rfl hl.1 (Nat.le_of_ble_eq_true rfl) rfl dX7_layChance_138 ⟨Nat.le_of_ble_eq_true rfl, Nat.le_of_ble_eq_true rfl⟩ (fun H locs hI => ?_)
        refine lv_i2l hx hb dX7_layChance_141 rfl ?_
        refine lv_lmul hx hb dX7_layChance_142 ?_
        refine lv_ladd hx hb dX7_layChance_143 ?_
        refine m_putl X hI hc 37 (by decide) q2695 rfl rfl rfl dX7_layChance_144 (fun H locs hI => ?_)
        obtain ⟨σ20, eσ20, hf⟩ := nxt_some hf
        rw [← eσ20] at hI
        clear eσ20
        exact J147 x1 x2 σ20 hf H locs hI ls (lv_sub hl [0, 1, 2] rfl)
      have L34 : ∀ (n : Nat) (x1 : Int32) (x2 : Int32) (x3 : Int64) (x5 : Int32) (σ : MS), f7_layChance_l34 (f7_layChance_l22 n22) n x1 x2 x3 x5 σ = some σ' → ∀ (H : Heap) (locs : List Loc), XI D cl (mw ci A d σ) A0 s.heap H locs → ∀ (ls : Array Slot), lv_has ls 6 [(0, .ref (A 0)), (1, .int x1), (2, .int x2), (3, .long x3), (5, .int x5)] → W p l e r7_layChance s m args below meth c H locs 0 0 Q (F0 m 34 ls []) := by
        intro n34
        induction n34 with
        | zero => intro x1 x2 x3 x5 σ hf; cases hf
        | succ n34 ih34 =>
          have J71 : ∀ (x1 : Int32) (x2 : Int32) (x5 : Int32) (z0 : Int64) (z1 : Int64) (σ : MS), f7_layChance_b71 (f7_layChance_l22 n22) (f7_layChance_l34 (f7_layChance_l22 n22) n34) x1 x2 x5 z0 z1 σ = some σ' → ∀ (H : Heap) (locs : List Loc), XI D cl (mw ci A d σ) A0 s.heap H locs → ∀ (ls : Array Slot), lv_has ls 6 [(0, .ref (A 0)), (1, .int x1), (2, .int x2), (5, .int x5)] → W p l e r7_layChance s m args below meth c H locs 0 0 Q (F0 m 71 ls [.long z1, .long z0]) := by
            intro x1 x2 x5 z0 z1 σ hf H locs hI ls hl
            unfold f7_layChance_b71 at hf
            refine lv_lmul hx hb dX7_layChance_71 ?_
            refine lv_lstore_n (lv' := [(3, .long (z0 * z1)), (0, .ref (A 0)), (1, .int x1), (2, .int x2), (5, .int x5)]) hx hb dX7_layChance_72 rfl hl (by decide) rfl (fun ls hl => ?_)
            refine lv_iinc (v := x5 + 1) (lv' := [(5, .int (x5 + 1)), (3, .long (z0 * z1)), (0, .ref (A 0)), (1, .int x1), (2, .int x2)]) hx hb dX7_layChance_73 hl (k := 4) rfl rfl (by decide) rfl (fun ls hl => ?_)
            refine lv_goto (tgt := 34) hx hb dX7_layChance_76 (by decide) ?_
            exact ih34 x1 x2 (z0 * z1) (x5 + 1) σ hf H locs hI ls (lv_sub hl [2, 3, 4, 1, 0] rfl)
          intro x1 x2 x3 x5 σ hf H locs hI ls hl
          have hf : f7_layChance_b34 (f7_layChance_l22 n22) (f7_layChance_l34 (f7_layChance_l22 n22) n34) x1 x2 x3 x5 σ = some σ' := hf
          unfold f7_layChance_b34 at hf
          refine lv_iload hx hb dX7_layChance_34 (lv_at hl 4 rfl) ?_
          refine lv_iload_n hx hb dX7_layChance_36 rfl (lv_at hl 1 rfl) ?_
          refine lv_icmp_ge (tgt := 79) hx hb dX7_layChance_37 (by decide) (fun c7 => ?_) (fun c7 => ?_)
          · have hf := o_pos hf c7
            refine lv_lload_n hx hb dX7_layChance_79 rfl (lv_at hl 3 rfl) ?_
            refine lv_lconst (v := 0) hx hb dX7_layChance_80 (by decide) ?_
            refine W.lcmp hx hb dX7_layChance_81 ?_
            refine lv_if_ne (tgt := 88) hx hb dX7_layChance_82 (by decide) (fun c8 => ?_) (fun c8 => ?_)
            · have hf := o_neg hf c8
              refine lv_aload_n hx hb dX7_layChance_88 rfl (lv_at hl 0 rfl) ?_
              refine lv_aload_n hx hb dX7_layChance_89 rfl (lv_at hl 0 rfl) ?_
              obtain ⟨r10, σ9, hσ9, hf⟩ := bnd_some hf
              refine m_calli X hI hc [] (m7_allRules l D cl Z hz ci A d tm hc σ r10 σ9 hσ9) (cw7_allRules hts ⟨Nat.le_of_ble_eq_true rfl, Nat.le_of_ble_eq_true rfl⟩) rfl hl.1 (Nat.le_of_ble_eq_true rfl) rfl dX7_layChance_90 ⟨Nat.le_of_ble_eq_true rfl, Nat.le_of_ble_eq_true rfl⟩ (fun H locs hI => ?_)
              refine lv_iload_n hx hb dX7_layChance_93 rfl (lv_at hl 2 rfl) ?_
              refine lv_iconst (v := -1) hx hb dX7_layChance_94 (by decide) ?_
              refine lv_ixor hx hb dX7_layChance_95 ?_
              refine lv_iand hx hb dX7_layChance_96 ?_
              obtain ⟨r12, σ11, hσ11, hf⟩ := bnd_some hf
              refine m_calli X hI hc [.int (r10 &&& (x2 ^^^ (-1)))] (m7_worthOf l D cl Z hz ci A d tm hc (r10 &&& (x2 ^^^ (-1))) σ9 r12 σ11 hσ11) (cw7_worthOf hts ⟨Nat.le_of_ble_eq_true rfl, Nat.le_of_ble_eq_true rfl⟩) rfl hl.1 (Nat.le_of_ble_eq_true rfl) rfl dX7_layChance_97 ⟨Nat.le_of_ble_eq_true rfl, Nat.le_of_ble_eq_true rfl⟩ (fun H locs hI => ?_)
              refine lv_istore (lv' := [(5, .int r12), (0, .ref (A 0)), (1, .int x1), (2, .int x2), (3, .long x3)]) hx hb dX7_layChance_100 hl (by decide) rfl (fun ls hl => ?_)
              refine lv_aload_n hx hb dX7_layChance_102 rfl (lv_at hl 1 rfl) ?_
              refine lv_dup hx hb dX7_layChance_103 rfl ?_
              refine m_get (v := .long (gL σ11 35)) X hI hc 35 (by decide) q2693 rfl dX7_layChance_104 ?_
              refine lv_lload_n hx hb dX7_layChance_107 rfl (lv_at hl 4 rfl) ?_
              refine lv_ladd hx hb dX7_layChance_108 ?_
              refine m_putl X hI hc 35 (by decide) q2693 rfl rfl rfl dX7_layChance_109 (fun H locs hI => ?_)
              obtain ⟨σ13, eσ13, hf⟩ := nxt_some hf
              rw [← eσ13] at hI
              clear eσ13
              refine lv_aload_n hx hb dX7_layChance_112 rfl (lv_at hl 1 rfl) ?_
              refine lv_dup hx hb dX7_layChance_113 rfl ?_
              refine m_get (v := .long (gL σ13 36)) X hI hc 36 (by decide) q2694 rfl dX7_layChance_114 ?_
              refine lv_iload hx hb dX7_layChance_117 (lv_at hl 0 rfl) ?_
              refine lv_if_ne (tgt := 126) hx hb dX7_layChance_119 (by decide) (fun c14 => ?_) (fun c14 => ?_)
              · have hf := o_neg hf c14
                refine lv_lconst (v := 0) hx hb dX7_layChance_126 (by decide) ?_
                exact J127 x1 x2 x3 (gL σ13 36) 0 σ13 hf H locs hI ls (lv_sub hl [1, 2, 3, 4] rfl)
              · have hf := o_pos hf c14
                refine lv_lload_n hx hb dX7_layChance_122 rfl (lv_at hl 4 rfl) ?_
                refine lv_goto (tgt := 127) hx hb dX7_layChance_123 (by decide) ?_
                exact J127 x1 x2 x3 (gL σ13 36) x3 σ13 hf H locs hI ls (lv_sub hl [1, 2, 3, 4] rfl)
            · have hf := o_pos hf c8
              refine lv_goto (tgt := 147) hx hb dX7_layChance_85 (by decide) ?_
              exact J147 x1 x2 σ hf H locs hI ls (lv_sub hl [0, 1, 2] rfl)
          · have hf := o_neg hf c7
            refine lv_lload_n hx hb dX7_layChance_40 rfl (lv_at hl 3 rfl) ?_
            refine lv_iload_n hx hb dX7_layChance_41 rfl (lv_at hl 2 rfl) ?_
            refine lv_iload hx hb dX7_layChance_42 (lv_at hl 4 rfl) ?_
            obtain ⟨r15, hr15, hf⟩ := bn1_some hf
            refine x_callSi (As := [.int x2, .int x5]) X hI (m7_bit l x2 x5 r15 hr15) (cw7_bit hts ⟨Nat.le_of_ble_eq_true rfl, Nat.le_of_ble_eq_true rfl⟩) rfl hl.1 (Nat.le_of_ble_eq_true rfl) rfl dX7_layChance_44 ⟨Nat.le_of_ble_eq_true rfl, Nat.le_of_ble_eq_true rfl⟩ (fun H locs hI => ?_)
            refine lv_iconst (v := 1) hx hb dX7_layChance_47 (by decide) ?_
            refine lv_icmp_ne (tgt := 61) hx hb dX7_layChance_48 (by decide) (fun c16 => ?_) (fun c16 => ?_)
            · have hf := o_neg hf c16
              refine lv_bipush (v := 10) hx hb dX7_layChance_61 (by decide) ?_
              refine lv_aload_n hx hb dX7_layChance_63 rfl (lv_at hl 0 rfl) ?_
              refine m_get (v := .ref (A 1)) X hI hc 1 (by decide) q2659 rfl dX7_layChance_64 ?_
              refine lv_iconst (v := 2) hx hb dX7_layChance_67 (by decide) ?_
              refine m_iald (k := 2) X hI 1 1 76 rfl rfl rfl dX7_layChance_68 ?_
              refine lv_isub hx hb dX7_layChance_69 ?_
              refine lv_i2l hx hb dX7_layChance_70 rfl ?_
              exact J71 x1 x2 x5 x3 (((10 : Int32) - (gA σ 1 2)).toInt64) σ hf H locs hI ls (lv_sub hl [0, 1, 2, 4] rfl)
            · have hf := o_pos hf c16
              refine lv_aload_n hx hb dX7_layChance_51 rfl (lv_at hl 0 rfl) ?_
              refine m_get (v := .ref (A 1)) X hI hc 1 (by decide) q2659 rfl dX7_layChance_52 ?_
              refine lv_iconst (v := 2) hx hb dX7_layChance_55 (by decide) ?_
              refine m_iald (k := 2) X hI 1 1 76 rfl rfl rfl dX7_layChance_56 ?_
              refine lv_i2l hx hb dX7_layChance_57 rfl ?_
              refine lv_goto (tgt := 71) hx hb dX7_layChance_58 (by decide) ?_
              exact J71 x1 x2 x5 x3 ((gA σ 1 2).toInt64) σ hf H locs hI ls (lv_sub hl [0, 1, 2, 4] rfl)
      intro x1 x2 σ hf H locs hI ls hl
      have hf : f7_layChance_b22 (f7_layChance_l22 n22) x1 x2 σ = some σ' := hf
      unfold f7_layChance_b22 at hf
      refine lv_iload_n hx hb dX7_layChance_22 rfl (lv_at hl 2 rfl) ?_
      refine lv_iconst (v := 1) hx hb dX7_layChance_23 (by decide) ?_
      refine lv_iload_n hx hb dX7_layChance_24 rfl (lv_at hl 1 rfl) ?_
      refine lv_ishl hx hb dX7_layChance_25 ?_
      refine lv_icmp_ge (tgt := 153) hx hb dX7_layChance_26 (by decide) (fun c6 => ?_) (fun c6 => ?_)
      · have hf := o_pos hf c6
        exact hret hf hI dX7_layChance_153
      · have hf := o_neg hf c6
        refine lv_lconst (v := 1) hx hb dX7_layChance_29 (by decide) ?_
        refine lv_lstore_n (lv' := [(3, .long 1), (0, .ref (A 0)), (1, .int x1), (2, .int x2)]) hx hb dX7_layChance_30 rfl hl (by decide) rfl (fun ls hl => ?_)
        refine lv_iconst (v := 0) hx hb dX7_layChance_31 (by decide) ?_
        refine lv_istore (lv' := [(5, .int 0), (3, .long 1), (0, .ref (A 0)), (1, .int x1), (2, .int x2)]) hx hb dX7_layChance_32 hl (by decide) rfl (fun ls hl => ?_)
        exact L34 FU x1 x2 1 0 σ hf H locs hI ls (lv_sub hl [2, 3, 4, 1, 0] rfl)
  have hl : lv_has ls 6 [(0, .ref (A 0))] := hl
  unfold f7_layChance at hf
  obtain ⟨H, eH⟩ : ∃ H, H = s.heap := ⟨_, rfl⟩
  obtain ⟨locs, eL⟩ : ∃ locs : List Loc, locs = [] := ⟨_, rfl⟩
  have hI : XI D cl (mw ci A d σ) A0 s.heap H locs := by rw [eH, eL]; exact hI
  rw [← eL]
  suffices h : W p l e r7_layChance s m args below meth c H locs 0 0 Q (F0 m 0 ls []) by rw [eH] at h; exact h
  clear eH eL
  refine lv_aload_n hx hb dX7_layChance_0 rfl (lv_at hl 0 rfl) ?_
  refine lv_lconst (v := 0) hx hb dX7_layChance_1 (by decide) ?_
  refine m_putl X hI hc 35 (by decide) q2693 rfl rfl rfl dX7_layChance_2 (fun H locs hI => ?_)
  obtain ⟨σ1, eσ1, hf⟩ := nxt_some hf
  rw [← eσ1] at hI
  clear eσ1
  refine lv_aload_n hx hb dX7_layChance_5 rfl (lv_at hl 0 rfl) ?_
  refine lv_lconst (v := 0) hx hb dX7_layChance_6 (by decide) ?_
  refine m_putl X hI hc 36 (by decide) q2694 rfl rfl rfl dX7_layChance_7 (fun H locs hI => ?_)
  obtain ⟨σ2, eσ2, hf⟩ := nxt_some hf
  rw [← eσ2] at hI
  clear eσ2
  refine lv_aload_n hx hb dX7_layChance_10 rfl (lv_at hl 0 rfl) ?_
  refine lv_lconst (v := 0) hx hb dX7_layChance_11 (by decide) ?_
  refine m_putl X hI hc 37 (by decide) q2695 rfl rfl rfl dX7_layChance_12 (fun H locs hI => ?_)
  obtain ⟨σ3, eσ3, hf⟩ := nxt_some hf
  rw [← eσ3] at hI
  clear eσ3
  refine lv_aload_n hx hb dX7_layChance_15 rfl (lv_at hl 0 rfl) ?_
  obtain ⟨r5, σ4, hσ4, hf⟩ := bnd_some hf
  refine m_calli X hI hc [] (m7_rules l D cl Z hz ci A d tm hc σ3 r5 σ4 hσ4) (cw7_rules hts ⟨Nat.le_of_ble_eq_true rfl, Nat.le_of_ble_eq_true rfl⟩) rfl hl.1 (Nat.le_of_ble_eq_true rfl) rfl dX7_layChance_16 ⟨Nat.le_of_ble_eq_true rfl, Nat.le_of_ble_eq_true rfl⟩ (fun H locs hI => ?_)
  refine lv_istore_n (lv' := [(1, .int r5), (0, .ref (A 0))]) hx hb dX7_layChance_19 rfl hl (by decide) rfl (fun ls hl => ?_)
  refine lv_iconst (v := 0) hx hb dX7_layChance_20 (by decide) ?_
  refine lv_istore_n (lv' := [(2, .int 0), (1, .int r5), (0, .ref (A 0))]) hx hb dX7_layChance_21 rfl hl (by decide) rfl (fun ls hl => ?_)
  exact L22 FU r5 0 σ4 hf H locs hI ls (lv_sub hl [2, 1, 0] rfl)
/-! asksChance -/
def f7_asksChance (p0 : Int32) (σ : MS) : oI Int32 :=
  bnd (f7_isBase σ) fun r2 σ1 =>
  if r2 = 0 then (some (0, σ1)) else (bn1 (f7_in p0.toInt64 0 1) fun r4 =>
  if r4 = 0 then (some (0, σ1)) else (bn1 (f7_layChance σ1) fun σ6 =>
  some (1, σ6)))
abbrev r7_asksChance : Room := { frames := 10, cells := 0, slots := 0, locals := 231 }
theorem cw7_asksChance {R : Room} {s : State} {args : Array Value} (ht : ∀ w ∈ lw_all, w.before args s = true) (hR : r7_asksChance.frames + 1 ≤ R.frames ∧ 8 + (2 + 11) + r7_asksChance.locals ≤ R.locals) : CallW R s args RX7 RX7 494 yX7_asksChance cX7_asksChance 2 (some .boolean) (ws_ yX7_asksChance cX7_asksChance 2 (some .boolean)) r7_asksChance 0 0 1 :=
  cwV 1 ht (lw_V q3413 q3415 qs162 q178 q3416) rfl rfl rfl (by decide +kernel) hR
theorem m7_asksChance (l : Launch) (D : va_G) (cl : vC2) (Z : (Nat → Prop) → State → Heap → Prop) (hz : ZK Z) (ci : Nat) (A : Nat → Nat) (d : Nat → ClassId) (tm : List (ClassId × FieldType)) (hc : cl.1[ci]? = some (RX7, TX7, 42)) (p0 : Int32) (σ : MS) (r : Int32) (σ' : MS) (hf : f7_asksChance p0 σ = some (r, σ')) : MMi l yX7_asksChance (ws_ yX7_asksChance cX7_asksChance 2 (some .boolean)) r7_asksChance D cl Z ci A d tm σ [.int p0] r σ' := by
  refine m_openz hz (by decide) (by exact Nat.le_of_ble_eq_true rfl) (fun p e s m args below meth c ls A0 Q X hI hl hret => ?_)
  have X : XC p s m args meth c cX7_asksChance 2 RX7 D cl (mty d tm) A0 Z := X
  have hx := X.1
  have hb := X.2.1
  have hown := X.2.2.2.1
  have hts := X.2.2.2.2.1
  have hl : lv_has ls 2 [(0, .ref (A 0)), (1, .int p0)] := hl
  unfold f7_asksChance at hf
  obtain ⟨H, eH⟩ : ∃ H, H = s.heap := ⟨_, rfl⟩
  obtain ⟨locs, eL⟩ : ∃ locs : List Loc, locs = [] := ⟨_, rfl⟩
  have hI : XI D cl (mw ci A d σ) A0 s.heap H locs := by rw [eH, eL]; exact hI
  rw [← eL]
  suffices h : W p l e r7_asksChance s m args below meth c H locs 0 0 Q (F0 m 0 ls []) by rw [eH] at h; exact h
  clear eH eL
  refine lv_aload_n hx hb dX7_asksChance_0 rfl (lv_at hl 0 rfl) ?_
  obtain ⟨r2, σ1, hσ1, hf⟩ := bnd_some hf
  refine m_calli X hI hc [] (m7_isBase l D cl Z hz ci A d tm hc σ r2 σ1 hσ1) (cw7_isBase hts ⟨Nat.le_of_ble_eq_true rfl, Nat.le_of_ble_eq_true rfl⟩) rfl hl.1 (Nat.le_of_ble_eq_true rfl) rfl dX7_asksChance_1 ⟨Nat.le_of_ble_eq_true rfl, Nat.le_of_ble_eq_true rfl⟩ (fun H locs hI => ?_)
  refine lv_if_eq (tgt := 17) hx hb dX7_asksChance_4 (by decide) (fun c3 => ?_) (fun c3 => ?_)
  · have hf := o_pos hf c3
    refine lv_iconst (v := 0) hx hb dX7_asksChance_17 (by decide) ?_
    exact hret hf rfl hI dX7_asksChance_18
  · have hf := o_neg hf c3
    refine lv_iload_n hx hb dX7_asksChance_7 rfl (lv_at hl 1 rfl) ?_
    refine lv_i2l hx hb dX7_asksChance_8 rfl ?_
    refine lv_lconst (v := 0) hx hb dX7_asksChance_9 (by decide) ?_
    refine lv_lconst (v := 1) hx hb dX7_asksChance_10 (by decide) ?_
    obtain ⟨r4, hr4, hf⟩ := bn1_some hf
    refine x_callSi (As := [.long p0.toInt64, .long 0, .long 1]) X hI (m7_in l p0.toInt64 0 1 r4 hr4) (cw7_in hts ⟨Nat.le_of_ble_eq_true rfl, Nat.le_of_ble_eq_true rfl⟩) rfl hl.1 (Nat.le_of_ble_eq_true rfl) rfl dX7_asksChance_11 ⟨Nat.le_of_ble_eq_true rfl, Nat.le_of_ble_eq_true rfl⟩ (fun H locs hI => ?_)
    refine lv_if_ne (tgt := 19) hx hb dX7_asksChance_14 (by decide) (fun c5 => ?_) (fun c5 => ?_)
    · have hf := o_neg hf c5
      refine lv_aload_n hx hb dX7_asksChance_19 rfl (lv_at hl 0 rfl) ?_
      obtain ⟨σ6, hσ6, hf⟩ := bn1_some hf
      refine m_callv X hI hc [] (m7_layChance l D cl Z hz ci A d tm hc σ1 σ6 hσ6) (cw7_layChance hts ⟨Nat.le_of_ble_eq_true rfl, Nat.le_of_ble_eq_true rfl⟩) rfl hl.1 (Nat.le_of_ble_eq_true rfl) rfl dX7_asksChance_20 ⟨Nat.le_of_ble_eq_true rfl, Nat.le_of_ble_eq_true rfl⟩ (fun H locs hI => ?_)
      refine lv_iconst (v := 1) hx hb dX7_asksChance_23 (by decide) ?_
      exact hret hf rfl hI dX7_asksChance_24
    · have hf := o_pos hf c5
      refine lv_iconst (v := 0) hx hb dX7_asksChance_17 (by decide) ?_
      exact hret hf rfl hI dX7_asksChance_18
/-! chance -/
def f7_chance (p0 : Int32) (σ : MS) : oI Int64 :=
  bnd (f7_asksChance p0 σ) fun r2 σ1 =>
  if r2 = 0 then (some ((-2), σ1)) else (bn1 (f7_part (gL σ1 36) (gL σ1 35) p0) fun r4 =>
  some (r4, σ1))
abbrev r7_chance : Room := { frames := 11, cells := 0, slots := 0, locals := 252 }
theorem m7_chance (l : Launch) (D : va_G) (cl : vC2) (Z : (Nat → Prop) → State → Heap → Prop) (hz : ZK Z) (ci : Nat) (A : Nat → Nat) (d : Nat → ClassId) (tm : List (ClassId × FieldType)) (hc : cl.1[ci]? = some (RX7, TX7, 42)) (p0 : Int32) (σ : MS) (r : Int64) (σ' : MS) (hf : f7_chance p0 σ = some (r, σ')) : MMl l yX7_chance (ws_ yX7_chance cX7_chance 2 (some .long)) r7_chance D cl Z ci A d tm σ [.int p0] r σ' := by
  refine m_openl hz (by decide) (by exact Nat.le_of_ble_eq_true rfl) (fun p e s m args below meth c ls A0 Q X hI hl hret => ?_)
  have X : XC p s m args meth c cX7_chance 2 RX7 D cl (mty d tm) A0 Z := X
  have hx := X.1
  have hb := X.2.1
  have hown := X.2.2.2.1
  have hts := X.2.2.2.2.1
  have hl : lv_has ls 2 [(0, .ref (A 0)), (1, .int p0)] := hl
  unfold f7_chance at hf
  obtain ⟨H, eH⟩ : ∃ H, H = s.heap := ⟨_, rfl⟩
  obtain ⟨locs, eL⟩ : ∃ locs : List Loc, locs = [] := ⟨_, rfl⟩
  have hI : XI D cl (mw ci A d σ) A0 s.heap H locs := by rw [eH, eL]; exact hI
  rw [← eL]
  suffices h : W p l e r7_chance s m args below meth c H locs 0 0 Q (F0 m 0 ls []) by rw [eH] at h; exact h
  clear eH eL
  refine lv_aload_n hx hb dX7_chance_0 rfl (lv_at hl 0 rfl) ?_
  refine lv_iload_n hx hb dX7_chance_1 rfl (lv_at hl 1 rfl) ?_
  obtain ⟨r2, σ1, hσ1, hf⟩ := bnd_some hf
  refine m_calli X hI hc [.int p0] (m7_asksChance l D cl Z hz ci A d tm hc p0 σ r2 σ1 hσ1) (cw7_asksChance hts ⟨Nat.le_of_ble_eq_true rfl, Nat.le_of_ble_eq_true rfl⟩) rfl hl.1 (Nat.le_of_ble_eq_true rfl) rfl dX7_chance_2 ⟨Nat.le_of_ble_eq_true rfl, Nat.le_of_ble_eq_true rfl⟩ (fun H locs hI => ?_)
  refine lv_if_eq (tgt := 23) hx hb dX7_chance_5 (by decide) (fun c3 => ?_) (fun c3 => ?_)
  · have hf := o_pos hf c3
    refine lv_ldc2 (v := -2) hx hb hown (hts _ q3421) dX7_chance_23 ?_
    exact hret hf hI dX7_chance_26
  · have hf := o_neg hf c3
    refine lv_aload_n hx hb dX7_chance_8 rfl (lv_at hl 0 rfl) ?_
    refine m_get (v := .long (gL σ1 36)) X hI hc 36 (by decide) q2694 rfl dX7_chance_9 ?_
    refine lv_aload_n hx hb dX7_chance_12 rfl (lv_at hl 0 rfl) ?_
    refine m_get (v := .long (gL σ1 35)) X hI hc 35 (by decide) q2693 rfl dX7_chance_13 ?_
    refine lv_iload_n hx hb dX7_chance_16 rfl (lv_at hl 1 rfl) ?_
    obtain ⟨r4, hr4, hf⟩ := bn1_some hf
    refine x_callSl (As := [.long (gL σ1 36), .long (gL σ1 35), .int p0]) X hI (m7_part l (gL σ1 36) (gL σ1 35) p0 r4 hr4) (cw7_part hts ⟨Nat.le_of_ble_eq_true rfl, Nat.le_of_ble_eq_true rfl⟩) rfl hl.1 (Nat.le_of_ble_eq_true rfl) rfl dX7_chance_17 ⟨Nat.le_of_ble_eq_true rfl, Nat.le_of_ble_eq_true rfl⟩ (fun H locs hI => ?_)
    refine lv_goto (tgt := 26) hx hb dX7_chance_20 (by decide) ?_
    exact hret hf hI dX7_chance_26
/-! mean -/
def f7_mean (p0 : Int32) (σ : MS) : oI Int64 :=
  bnd (f7_asksChance p0 σ) fun r2 σ1 =>
  if r2 = 0 then (some ((-2), σ1)) else (bn1 (f7_part (gL σ1 37) (gL σ1 35) p0) fun r4 =>
  some (r4, σ1))
abbrev r7_mean : Room := { frames := 11, cells := 0, slots := 0, locals := 252 }
theorem m7_mean (l : Launch) (D : va_G) (cl : vC2) (Z : (Nat → Prop) → State → Heap → Prop) (hz : ZK Z) (ci : Nat) (A : Nat → Nat) (d : Nat → ClassId) (tm : List (ClassId × FieldType)) (hc : cl.1[ci]? = some (RX7, TX7, 42)) (p0 : Int32) (σ : MS) (r : Int64) (σ' : MS) (hf : f7_mean p0 σ = some (r, σ')) : MMl l yX7_mean (ws_ yX7_mean cX7_mean 2 (some .long)) r7_mean D cl Z ci A d tm σ [.int p0] r σ' := by
  refine m_openl hz (by decide) (by exact Nat.le_of_ble_eq_true rfl) (fun p e s m args below meth c ls A0 Q X hI hl hret => ?_)
  have X : XC p s m args meth c cX7_mean 2 RX7 D cl (mty d tm) A0 Z := X
  have hx := X.1
  have hb := X.2.1
  have hown := X.2.2.2.1
  have hts := X.2.2.2.2.1
  have hl : lv_has ls 2 [(0, .ref (A 0)), (1, .int p0)] := hl
  unfold f7_mean at hf
  obtain ⟨H, eH⟩ : ∃ H, H = s.heap := ⟨_, rfl⟩
  obtain ⟨locs, eL⟩ : ∃ locs : List Loc, locs = [] := ⟨_, rfl⟩
  have hI : XI D cl (mw ci A d σ) A0 s.heap H locs := by rw [eH, eL]; exact hI
  rw [← eL]
  suffices h : W p l e r7_mean s m args below meth c H locs 0 0 Q (F0 m 0 ls []) by rw [eH] at h; exact h
  clear eH eL
  refine lv_aload_n hx hb dX7_mean_0 rfl (lv_at hl 0 rfl) ?_
  refine lv_iload_n hx hb dX7_mean_1 rfl (lv_at hl 1 rfl) ?_
  obtain ⟨r2, σ1, hσ1, hf⟩ := bnd_some hf
  refine m_calli X hI hc [.int p0] (m7_asksChance l D cl Z hz ci A d tm hc p0 σ r2 σ1 hσ1) (cw7_asksChance hts ⟨Nat.le_of_ble_eq_true rfl, Nat.le_of_ble_eq_true rfl⟩) rfl hl.1 (Nat.le_of_ble_eq_true rfl) rfl dX7_mean_2 ⟨Nat.le_of_ble_eq_true rfl, Nat.le_of_ble_eq_true rfl⟩ (fun H locs hI => ?_)
  refine lv_if_eq (tgt := 23) hx hb dX7_mean_5 (by decide) (fun c3 => ?_) (fun c3 => ?_)
  · have hf := o_pos hf c3
    refine lv_ldc2 (v := -2) hx hb hown (hts _ q3421) dX7_mean_23 ?_
    exact hret hf hI dX7_mean_26
  · have hf := o_neg hf c3
    refine lv_aload_n hx hb dX7_mean_8 rfl (lv_at hl 0 rfl) ?_
    refine m_get (v := .long (gL σ1 37)) X hI hc 37 (by decide) q2695 rfl dX7_mean_9 ?_
    refine lv_aload_n hx hb dX7_mean_12 rfl (lv_at hl 0 rfl) ?_
    refine m_get (v := .long (gL σ1 35)) X hI hc 35 (by decide) q2693 rfl dX7_mean_13 ?_
    refine lv_iload_n hx hb dX7_mean_16 rfl (lv_at hl 1 rfl) ?_
    obtain ⟨r4, hr4, hf⟩ := bn1_some hf
    refine x_callSl (As := [.long (gL σ1 37), .long (gL σ1 35), .int p0]) X hI (m7_part l (gL σ1 37) (gL σ1 35) p0 r4 hr4) (cw7_part hts ⟨Nat.le_of_ble_eq_true rfl, Nat.le_of_ble_eq_true rfl⟩) rfl hl.1 (Nat.le_of_ble_eq_true rfl) rfl dX7_mean_17 ⟨Nat.le_of_ble_eq_true rfl, Nat.le_of_ble_eq_true rfl⟩ (fun H locs hI => ?_)
    refine lv_goto (tgt := 26) hx hb dX7_mean_20 (by decide) ?_
    exact hret hf hI dX7_mean_26
/-! keepAct -/
def f7_keepAct (p0 : Int32) (σ : MS) : oI Int32 :=
  if (gA σ 1 6) = 20 then (some ((-5), σ)) else (grd (inB ((56 : Int32) + (gA σ 1 6)) 76) <|
  nxt (sA σ 1 ((56 : Int32) + (gA σ 1 6)).toNatClampNeg p0) fun σ3 =>
  nxt (sA σ3 1 6 ((gA σ3 1 6) + 1)) fun σ4 =>
  bnd (f7_asks σ4) fun r6 σ5 =>
  bnd (f7_breaksIn 1 σ5) fun r8 σ7 =>
  some (r8, σ7))
abbrev r7_keepAct : Room := { frames := 7, cells := 0, slots := 0, locals := 164 }
theorem cw7_keepAct {R : Room} {s : State} {args : Array Value} (ht : ∀ w ∈ lw_all, w.before args s = true) (hR : r7_keepAct.frames + 1 ≤ R.frames ∧ 8 + (2 + 11) + r7_keepAct.locals ≤ R.locals) : CallW R s args RX7 RX7 499 yX7_keepAct cX7_keepAct 2 (some .int) (ws_ yX7_keepAct cX7_keepAct 2 (some .int)) r7_keepAct 0 0 1 :=
  cwV 1 ht (lw_V q3430 q3432 qs164 q178 q3433) rfl rfl rfl (by decide +kernel) hR
theorem m7_keepAct (l : Launch) (D : va_G) (cl : vC2) (Z : (Nat → Prop) → State → Heap → Prop) (hz : ZK Z) (ci : Nat) (A : Nat → Nat) (d : Nat → ClassId) (tm : List (ClassId × FieldType)) (hc : cl.1[ci]? = some (RX7, TX7, 42)) (p0 : Int32) (σ : MS) (r : Int32) (σ' : MS) (hf : f7_keepAct p0 σ = some (r, σ')) : MMi l yX7_keepAct (ws_ yX7_keepAct cX7_keepAct 2 (some .int)) r7_keepAct D cl Z ci A d tm σ [.int p0] r σ' := by
  refine m_openi hz (by decide) (by exact Nat.le_of_ble_eq_true rfl) (fun p e s m args below meth c ls A0 Q X hI hl hret => ?_)
  have X : XC p s m args meth c cX7_keepAct 2 RX7 D cl (mty d tm) A0 Z := X
  have hx := X.1
  have hb := X.2.1
  have hown := X.2.2.2.1
  have hts := X.2.2.2.2.1
  have hl : lv_has ls 2 [(0, .ref (A 0)), (1, .int p0)] := hl
  unfold f7_keepAct at hf
  obtain ⟨H, eH⟩ : ∃ H, H = s.heap := ⟨_, rfl⟩
  obtain ⟨locs, eL⟩ : ∃ locs : List Loc, locs = [] := ⟨_, rfl⟩
  have hI : XI D cl (mw ci A d σ) A0 s.heap H locs := by rw [eH, eL]; exact hI
  rw [← eL]
  suffices h : W p l e r7_keepAct s m args below meth c H locs 0 0 Q (F0 m 0 ls []) by rw [eH] at h; exact h
  clear eH eL
  refine lv_aload_n hx hb dX7_keepAct_0 rfl (lv_at hl 0 rfl) ?_
  refine m_get (v := .ref (A 1)) X hI hc 1 (by decide) q2659 rfl dX7_keepAct_1 ?_
  refine lv_bipush (v := 6) hx hb dX7_keepAct_4 (by decide) ?_
  refine m_iald (k := 6) X hI 1 1 76 rfl rfl rfl dX7_keepAct_6 ?_
  refine lv_bipush (v := 20) hx hb dX7_keepAct_7 (by decide) ?_
  refine lv_icmp_ne (tgt := 15) hx hb dX7_keepAct_9 (by decide) (fun c1 => ?_) (fun c1 => ?_)
  · have hf := o_neg hf c1
    refine lv_aload_n hx hb dX7_keepAct_15 rfl (lv_at hl 0 rfl) ?_
    refine m_get (v := .ref (A 1)) X hI hc 1 (by decide) q2659 rfl dX7_keepAct_16 ?_
    refine lv_bipush (v := 56) hx hb dX7_keepAct_19 (by decide) ?_
    refine lv_aload_n hx hb dX7_keepAct_21 rfl (lv_at hl 0 rfl) ?_
    refine m_get (v := .ref (A 1)) X hI hc 1 (by decide) q2659 rfl dX7_keepAct_22 ?_
    refine lv_bipush (v := 6) hx hb dX7_keepAct_25 (by decide) ?_
    refine m_iald (k := 6) X hI 1 1 76 rfl rfl rfl dX7_keepAct_27 ?_
    refine lv_iadd hx hb dX7_keepAct_28 ?_
    refine lv_iload_n hx hb dX7_keepAct_29 rfl (lv_at hl 1 rfl) ?_
    obtain ⟨g2, hf⟩ := grd_some hf
    refine m_iast X hI 1 1 76 rfl rfl g2 rfl dX7_keepAct_30 (fun H locs hI => ?_)
    obtain ⟨σ3, eσ3, hf⟩ := nxt_some hf
    rw [← eσ3] at hI
    clear eσ3
    refine lv_aload_n hx hb dX7_keepAct_31 rfl (lv_at hl 0 rfl) ?_
    refine m_get (v := .ref (A 1)) X hI hc 1 (by decide) q2659 rfl dX7_keepAct_32 ?_
    refine lv_bipush (v := 6) hx hb dX7_keepAct_35 (by decide) ?_
    refine lv_dup2_11 hx hb dX7_keepAct_37 rfl rfl ?_
    refine m_iald (k := 6) X hI 1 1 76 rfl rfl rfl dX7_keepAct_38 ?_
    refine lv_iconst (v := 1) hx hb dX7_keepAct_39 (by decide) ?_
    refine lv_iadd hx hb dX7_keepAct_40 ?_
    refine m_iast (k := 6) X hI 1 1 76 rfl rfl rfl rfl dX7_keepAct_41 (fun H locs hI => ?_)
    obtain ⟨σ4, eσ4, hf⟩ := nxt_some hf
    rw [← eσ4] at hI
    clear eσ4
    refine lv_aload_n hx hb dX7_keepAct_42 rfl (lv_at hl 0 rfl) ?_
    obtain ⟨r6, σ5, hσ5, hf⟩ := bnd_some hf
    refine m_calli X hI hc [] (m7_asks l D cl Z hz ci A d tm hc σ4 r6 σ5 hσ5) (cw7_asks hts ⟨Nat.le_of_ble_eq_true rfl, Nat.le_of_ble_eq_true rfl⟩) rfl hl.1 (Nat.le_of_ble_eq_true rfl) rfl dX7_keepAct_43 ⟨Nat.le_of_ble_eq_true rfl, Nat.le_of_ble_eq_true rfl⟩ (fun H locs hI => ?_)
    refine lv_pop hx hb dX7_keepAct_46 rfl ?_
    refine lv_aload_n hx hb dX7_keepAct_47 rfl (lv_at hl 0 rfl) ?_
    refine lv_iconst (v := 1) hx hb dX7_keepAct_48 (by decide) ?_
    obtain ⟨r8, σ7, hσ7, hf⟩ := bnd_some hf
    refine m_calli X hI hc [.int 1] (m7_breaksIn l D cl Z hz ci A d tm hc 1 σ5 r8 σ7 hσ7) (cw7_breaksIn hts ⟨Nat.le_of_ble_eq_true rfl, Nat.le_of_ble_eq_true rfl⟩) rfl hl.1 (Nat.le_of_ble_eq_true rfl) rfl dX7_keepAct_49 ⟨Nat.le_of_ble_eq_true rfl, Nat.le_of_ble_eq_true rfl⟩ (fun H locs hI => ?_)
    exact hret hf hI dX7_keepAct_52
  · have hf := o_pos hf c1
    refine lv_bipush (v := -5) hx hb dX7_keepAct_12 (by decide) ?_
    exact hret hf hI dX7_keepAct_14
/-! lock -/
def f7_lock (p0 : Int32) (σ : MS) : oI Int32 :=
  bnd (f7_isOp p0 σ) fun r2 σ1 =>
  if r2 = 0 then (some ((-2), σ1)) else (bnd (f7_keepAct ((100 : Int32) + p0) σ1) fun r5 σ4 =>
  some (r5, σ4))
abbrev r7_lock : Room := { frames := 8, cells := 0, slots := 0, locals := 185 }
theorem m7_lock (l : Launch) (D : va_G) (cl : vC2) (Z : (Nat → Prop) → State → Heap → Prop) (hz : ZK Z) (ci : Nat) (A : Nat → Nat) (d : Nat → ClassId) (tm : List (ClassId × FieldType)) (hc : cl.1[ci]? = some (RX7, TX7, 42)) (p0 : Int32) (σ : MS) (r : Int32) (σ' : MS) (hf : f7_lock p0 σ = some (r, σ')) : MMi l yX7_lock (ws_ yX7_lock cX7_lock 2 (some .int)) r7_lock D cl Z ci A d tm σ [.int p0] r σ' := by
  refine m_openi hz (by decide) (by exact Nat.le_of_ble_eq_true rfl) (fun p e s m args below meth c ls A0 Q X hI hl hret => ?_)
  have X : XC p s m args meth c cX7_lock 2 RX7 D cl (mty d tm) A0 Z := X
  have hx := X.1
  have hb := X.2.1
  have hown := X.2.2.2.1
  have hts := X.2.2.2.2.1
  have hl : lv_has ls 2 [(0, .ref (A 0)), (1, .int p0)] := hl
  unfold f7_lock at hf
  obtain ⟨H, eH⟩ : ∃ H, H = s.heap := ⟨_, rfl⟩
  obtain ⟨locs, eL⟩ : ∃ locs : List Loc, locs = [] := ⟨_, rfl⟩
  have hI : XI D cl (mw ci A d σ) A0 s.heap H locs := by rw [eH, eL]; exact hI
  rw [← eL]
  suffices h : W p l e r7_lock s m args below meth c H locs 0 0 Q (F0 m 0 ls []) by rw [eH] at h; exact h
  clear eH eL
  refine lv_aload_n hx hb dX7_lock_0 rfl (lv_at hl 0 rfl) ?_
  refine lv_iload_n hx hb dX7_lock_1 rfl (lv_at hl 1 rfl) ?_
  obtain ⟨r2, σ1, hσ1, hf⟩ := bnd_some hf
  refine m_calli X hI hc [.int p0] (m7_isOp l D cl Z hz ci A d tm hc p0 σ r2 σ1 hσ1) (cw7_isOp hts ⟨Nat.le_of_ble_eq_true rfl, Nat.le_of_ble_eq_true rfl⟩) rfl hl.1 (Nat.le_of_ble_eq_true rfl) rfl dX7_lock_2 ⟨Nat.le_of_ble_eq_true rfl, Nat.le_of_ble_eq_true rfl⟩ (fun H locs hI => ?_)
  refine lv_if_eq (tgt := 19) hx hb dX7_lock_5 (by decide) (fun c3 => ?_) (fun c3 => ?_)
  · have hf := o_pos hf c3
    refine lv_bipush (v := -2) hx hb dX7_lock_19 (by decide) ?_
    exact hret hf hI dX7_lock_21
  · have hf := o_neg hf c3
    refine lv_aload_n hx hb dX7_lock_8 rfl (lv_at hl 0 rfl) ?_
    refine lv_bipush (v := 100) hx hb dX7_lock_9 (by decide) ?_
    refine lv_iload_n hx hb dX7_lock_11 rfl (lv_at hl 1 rfl) ?_
    refine lv_iadd hx hb dX7_lock_12 ?_
    obtain ⟨r5, σ4, hσ4, hf⟩ := bnd_some hf
    refine m_calli X hI hc [.int ((100 : Int32) + p0)] (m7_keepAct l D cl Z hz ci A d tm hc ((100 : Int32) + p0) σ1 r5 σ4 hσ4) (cw7_keepAct hts ⟨Nat.le_of_ble_eq_true rfl, Nat.le_of_ble_eq_true rfl⟩) rfl hl.1 (Nat.le_of_ble_eq_true rfl) rfl dX7_lock_13 ⟨Nat.le_of_ble_eq_true rfl, Nat.le_of_ble_eq_true rfl⟩ (fun H locs hI => ?_)
    refine lv_goto (tgt := 21) hx hb dX7_lock_16 (by decide) ?_
    exact hret hf hI dX7_lock_21
/-! frees -/
def f7_frees (p0 : Int32) (σ : MS) : oI Int32 :=
  bnd (f7_isOp p0 σ) fun r2 σ1 =>
  if r2 = 0 then (some ((-2), σ1)) else (bnd (f7_keepAct ((200 : Int32) + p0) σ1) fun r5 σ4 =>
  some (r5, σ4))
abbrev r7_frees : Room := { frames := 8, cells := 0, slots := 0, locals := 185 }
theorem m7_frees (l : Launch) (D : va_G) (cl : vC2) (Z : (Nat → Prop) → State → Heap → Prop) (hz : ZK Z) (ci : Nat) (A : Nat → Nat) (d : Nat → ClassId) (tm : List (ClassId × FieldType)) (hc : cl.1[ci]? = some (RX7, TX7, 42)) (p0 : Int32) (σ : MS) (r : Int32) (σ' : MS) (hf : f7_frees p0 σ = some (r, σ')) : MMi l yX7_frees (ws_ yX7_frees cX7_frees 2 (some .int)) r7_frees D cl Z ci A d tm σ [.int p0] r σ' := by
  refine m_openi hz (by decide) (by exact Nat.le_of_ble_eq_true rfl) (fun p e s m args below meth c ls A0 Q X hI hl hret => ?_)
  have X : XC p s m args meth c cX7_frees 2 RX7 D cl (mty d tm) A0 Z := X
  have hx := X.1
  have hb := X.2.1
  have hown := X.2.2.2.1
  have hts := X.2.2.2.2.1
  have hl : lv_has ls 2 [(0, .ref (A 0)), (1, .int p0)] := hl
  unfold f7_frees at hf
  obtain ⟨H, eH⟩ : ∃ H, H = s.heap := ⟨_, rfl⟩
  obtain ⟨locs, eL⟩ : ∃ locs : List Loc, locs = [] := ⟨_, rfl⟩
  have hI : XI D cl (mw ci A d σ) A0 s.heap H locs := by rw [eH, eL]; exact hI
  rw [← eL]
  suffices h : W p l e r7_frees s m args below meth c H locs 0 0 Q (F0 m 0 ls []) by rw [eH] at h; exact h
  clear eH eL
  refine lv_aload_n hx hb dX7_frees_0 rfl (lv_at hl 0 rfl) ?_
  refine lv_iload_n hx hb dX7_frees_1 rfl (lv_at hl 1 rfl) ?_
  obtain ⟨r2, σ1, hσ1, hf⟩ := bnd_some hf
  refine m_calli X hI hc [.int p0] (m7_isOp l D cl Z hz ci A d tm hc p0 σ r2 σ1 hσ1) (cw7_isOp hts ⟨Nat.le_of_ble_eq_true rfl, Nat.le_of_ble_eq_true rfl⟩) rfl hl.1 (Nat.le_of_ble_eq_true rfl) rfl dX7_frees_2 ⟨Nat.le_of_ble_eq_true rfl, Nat.le_of_ble_eq_true rfl⟩ (fun H locs hI => ?_)
  refine lv_if_eq (tgt := 20) hx hb dX7_frees_5 (by decide) (fun c3 => ?_) (fun c3 => ?_)
  · have hf := o_pos hf c3
    refine lv_bipush (v := -2) hx hb dX7_frees_20 (by decide) ?_
    exact hret hf hI dX7_frees_22
  · have hf := o_neg hf c3
    refine lv_aload_n hx hb dX7_frees_8 rfl (lv_at hl 0 rfl) ?_
    refine lv_sipush (v := 200) hx hb dX7_frees_9 (by decide) ?_
    refine lv_iload_n hx hb dX7_frees_12 rfl (lv_at hl 1 rfl) ?_
    refine lv_iadd hx hb dX7_frees_13 ?_
    obtain ⟨r5, σ4, hσ4, hf⟩ := bnd_some hf
    refine m_calli X hI hc [.int ((200 : Int32) + p0)] (m7_keepAct l D cl Z hz ci A d tm hc ((200 : Int32) + p0) σ1 r5 σ4 hσ4) (cw7_keepAct hts ⟨Nat.le_of_ble_eq_true rfl, Nat.le_of_ble_eq_true rfl⟩) rfl hl.1 (Nat.le_of_ble_eq_true rfl) rfl dX7_frees_14 ⟨Nat.le_of_ble_eq_true rfl, Nat.le_of_ble_eq_true rfl⟩ (fun H locs hI => ?_)
    refine lv_goto (tgt := 22) hx hb dX7_frees_17 (by decide) ?_
    exact hret hf hI dX7_frees_22
/-! drops -/
def f7_drops (p0 : Int32) (σ : MS) : oI Int32 :=
  bnd (f7_isRule p0 σ) fun r2 σ1 =>
  if r2 = 0 then (some ((-2), σ1)) else (bnd (f7_keepAct ((300 : Int32) + p0) σ1) fun r5 σ4 =>
  some (r5, σ4))
abbrev r7_drops : Room := { frames := 8, cells := 0, slots := 0, locals := 185 }
theorem m7_drops (l : Launch) (D : va_G) (cl : vC2) (Z : (Nat → Prop) → State → Heap → Prop) (hz : ZK Z) (ci : Nat) (A : Nat → Nat) (d : Nat → ClassId) (tm : List (ClassId × FieldType)) (hc : cl.1[ci]? = some (RX7, TX7, 42)) (p0 : Int32) (σ : MS) (r : Int32) (σ' : MS) (hf : f7_drops p0 σ = some (r, σ')) : MMi l yX7_drops (ws_ yX7_drops cX7_drops 2 (some .int)) r7_drops D cl Z ci A d tm σ [.int p0] r σ' := by
  refine m_openi hz (by decide) (by exact Nat.le_of_ble_eq_true rfl) (fun p e s m args below meth c ls A0 Q X hI hl hret => ?_)
  have X : XC p s m args meth c cX7_drops 2 RX7 D cl (mty d tm) A0 Z := X
  have hx := X.1
  have hb := X.2.1
  have hown := X.2.2.2.1
  have hts := X.2.2.2.2.1
  have hl : lv_has ls 2 [(0, .ref (A 0)), (1, .int p0)] := hl
  unfold f7_drops at hf
  obtain ⟨H, eH⟩ : ∃ H, H = s.heap := ⟨_, rfl⟩
  obtain ⟨locs, eL⟩ : ∃ locs : List Loc, locs = [] := ⟨_, rfl⟩
  have hI : XI D cl (mw ci A d σ) A0 s.heap H locs := by rw [eH, eL]; exact hI
  rw [← eL]
  suffices h : W p l e r7_drops s m args below meth c H locs 0 0 Q (F0 m 0 ls []) by rw [eH] at h; exact h
  clear eH eL
  refine lv_aload_n hx hb dX7_drops_0 rfl (lv_at hl 0 rfl) ?_
  refine lv_iload_n hx hb dX7_drops_1 rfl (lv_at hl 1 rfl) ?_
  obtain ⟨r2, σ1, hσ1, hf⟩ := bnd_some hf
  refine m_calli X hI hc [.int p0] (m7_isRule l D cl Z hz ci A d tm hc p0 σ r2 σ1 hσ1) (cw7_isRule hts ⟨Nat.le_of_ble_eq_true rfl, Nat.le_of_ble_eq_true rfl⟩) rfl hl.1 (Nat.le_of_ble_eq_true rfl) rfl dX7_drops_2 ⟨Nat.le_of_ble_eq_true rfl, Nat.le_of_ble_eq_true rfl⟩ (fun H locs hI => ?_)
  refine lv_if_eq (tgt := 20) hx hb dX7_drops_5 (by decide) (fun c3 => ?_) (fun c3 => ?_)
  · have hf := o_pos hf c3
    refine lv_bipush (v := -2) hx hb dX7_drops_20 (by decide) ?_
    exact hret hf hI dX7_drops_22
  · have hf := o_neg hf c3
    refine lv_aload_n hx hb dX7_drops_8 rfl (lv_at hl 0 rfl) ?_
    refine lv_sipush (v := 300) hx hb dX7_drops_9 (by decide) ?_
    refine lv_iload_n hx hb dX7_drops_12 rfl (lv_at hl 1 rfl) ?_
    refine lv_iadd hx hb dX7_drops_13 ?_
    obtain ⟨r5, σ4, hσ4, hf⟩ := bnd_some hf
    refine m_calli X hI hc [.int ((300 : Int32) + p0)] (m7_keepAct l D cl Z hz ci A d tm hc ((300 : Int32) + p0) σ1 r5 σ4 hσ4) (cw7_keepAct hts ⟨Nat.le_of_ble_eq_true rfl, Nat.le_of_ble_eq_true rfl⟩) rfl hl.1 (Nat.le_of_ble_eq_true rfl) rfl dX7_drops_14 ⟨Nat.le_of_ble_eq_true rfl, Nat.le_of_ble_eq_true rfl⟩ (fun H locs hI => ?_)
    refine lv_goto (tgt := 22) hx hb dX7_drops_17 (by decide) ?_
    exact hret hf hI dX7_drops_22
/-! undo -/
def f7_undo (σ : MS) : oI Int32 :=
  bnd (f7_isBase σ) fun r2 σ1 =>
  if r2 = 0 then (some ((-2), σ1)) else (if (gA σ1 1 6) = 0 then (some ((-5), σ1)) else (nxt (sA σ1 1 6 ((gA σ1 1 6) - 1)) fun σ5 =>
  some (gA σ5 1 6, σ5)))
abbrev r7_undo : Room := { frames := 1, cells := 0, slots := 0, locals := 20 }
theorem m7_undo (l : Launch) (D : va_G) (cl : vC2) (Z : (Nat → Prop) → State → Heap → Prop) (hz : ZK Z) (ci : Nat) (A : Nat → Nat) (d : Nat → ClassId) (tm : List (ClassId × FieldType)) (hc : cl.1[ci]? = some (RX7, TX7, 42)) (σ : MS) (r : Int32) (σ' : MS) (hf : f7_undo σ = some (r, σ')) : MMi l yX7_undo (ws_ yX7_undo cX7_undo 1 (some .int)) r7_undo D cl Z ci A d tm σ [] r σ' := by
  refine m_openi hz (by decide) (by exact Nat.le_of_ble_eq_true rfl) (fun p e s m args below meth c ls A0 Q X hI hl hret => ?_)
  have X : XC p s m args meth c cX7_undo 1 RX7 D cl (mty d tm) A0 Z := X
  have hx := X.1
  have hb := X.2.1
  have hown := X.2.2.2.1
  have hts := X.2.2.2.2.1
  have hl : lv_has ls 1 [(0, .ref (A 0))] := hl
  unfold f7_undo at hf
  obtain ⟨H, eH⟩ : ∃ H, H = s.heap := ⟨_, rfl⟩
  obtain ⟨locs, eL⟩ : ∃ locs : List Loc, locs = [] := ⟨_, rfl⟩
  have hI : XI D cl (mw ci A d σ) A0 s.heap H locs := by rw [eH, eL]; exact hI
  rw [← eL]
  suffices h : W p l e r7_undo s m args below meth c H locs 0 0 Q (F0 m 0 ls []) by rw [eH] at h; exact h
  clear eH eL
  refine lv_aload_n hx hb dX7_undo_0 rfl (lv_at hl 0 rfl) ?_
  obtain ⟨r2, σ1, hσ1, hf⟩ := bnd_some hf
  refine m_calli X hI hc [] (m7_isBase l D cl Z hz ci A d tm hc σ r2 σ1 hσ1) (cw7_isBase hts ⟨Nat.le_of_ble_eq_true rfl, Nat.le_of_ble_eq_true rfl⟩) rfl hl.1 (Nat.le_of_ble_eq_true rfl) rfl dX7_undo_1 ⟨Nat.le_of_ble_eq_true rfl, Nat.le_of_ble_eq_true rfl⟩ (fun H locs hI => ?_)
  refine lv_if_ne (tgt := 10) hx hb dX7_undo_4 (by decide) (fun c3 => ?_) (fun c3 => ?_)
  · have hf := o_neg hf c3
    refine lv_aload_n hx hb dX7_undo_10 rfl (lv_at hl 0 rfl) ?_
    refine m_get (v := .ref (A 1)) X hI hc 1 (by decide) q2659 rfl dX7_undo_11 ?_
    refine lv_bipush (v := 6) hx hb dX7_undo_14 (by decide) ?_
    refine m_iald (k := 6) X hI 1 1 76 rfl rfl rfl dX7_undo_16 ?_
    refine lv_if_ne (tgt := 23) hx hb dX7_undo_17 (by decide) (fun c4 => ?_) (fun c4 => ?_)
    · have hf := o_neg hf c4
      refine lv_aload_n hx hb dX7_undo_23 rfl (lv_at hl 0 rfl) ?_
      refine m_get (v := .ref (A 1)) X hI hc 1 (by decide) q2659 rfl dX7_undo_24 ?_
      refine lv_bipush (v := 6) hx hb dX7_undo_27 (by decide) ?_
      refine lv_dup2_11 hx hb dX7_undo_29 rfl rfl ?_
      refine m_iald (k := 6) X hI 1 1 76 rfl rfl rfl dX7_undo_30 ?_
      refine lv_iconst (v := 1) hx hb dX7_undo_31 (by decide) ?_
      refine lv_isub hx hb dX7_undo_32 ?_
      refine m_iast (k := 6) X hI 1 1 76 rfl rfl rfl rfl dX7_undo_33 (fun H locs hI => ?_)
      obtain ⟨σ5, eσ5, hf⟩ := nxt_some hf
      rw [← eσ5] at hI
      clear eσ5
      refine lv_aload_n hx hb dX7_undo_34 rfl (lv_at hl 0 rfl) ?_
      refine m_get (v := .ref (A 1)) X hI hc 1 (by decide) q2659 rfl dX7_undo_35 ?_
      refine lv_bipush (v := 6) hx hb dX7_undo_38 (by decide) ?_
      refine m_iald (k := 6) X hI 1 1 76 rfl rfl rfl dX7_undo_40 ?_
      exact hret hf hI dX7_undo_41
    · have hf := o_pos hf c4
      refine lv_bipush (v := -5) hx hb dX7_undo_20 (by decide) ?_
      exact hret hf hI dX7_undo_22
  · have hf := o_pos hf c3
    refine lv_bipush (v := -2) hx hb dX7_undo_7 (by decide) ?_
    exact hret hf hI dX7_undo_9
/-! anew -/
def f7_anew (σ : MS) : oI Int32 :=
  bnd (f7_isBase σ) fun r2 σ1 =>
  if r2 = 0 then (some ((-2), σ1)) else (nxt (sA σ1 1 6 0) fun σ4 =>
  some (gA σ1 1 6, σ4))
abbrev r7_anew : Room := { frames := 1, cells := 0, slots := 0, locals := 20 }
theorem m7_anew (l : Launch) (D : va_G) (cl : vC2) (Z : (Nat → Prop) → State → Heap → Prop) (hz : ZK Z) (ci : Nat) (A : Nat → Nat) (d : Nat → ClassId) (tm : List (ClassId × FieldType)) (hc : cl.1[ci]? = some (RX7, TX7, 42)) (σ : MS) (r : Int32) (σ' : MS) (hf : f7_anew σ = some (r, σ')) : MMi l yX7_anew (ws_ yX7_anew cX7_anew 2 (some .int)) r7_anew D cl Z ci A d tm σ [] r σ' := by
  refine m_openi hz (by decide) (by exact Nat.le_of_ble_eq_true rfl) (fun p e s m args below meth c ls A0 Q X hI hl hret => ?_)
  have X : XC p s m args meth c cX7_anew 2 RX7 D cl (mty d tm) A0 Z := X
  have hx := X.1
  have hb := X.2.1
  have hown := X.2.2.2.1
  have hts := X.2.2.2.2.1
  have hl : lv_has ls 2 [(0, .ref (A 0))] := hl
  unfold f7_anew at hf
  obtain ⟨H, eH⟩ : ∃ H, H = s.heap := ⟨_, rfl⟩
  obtain ⟨locs, eL⟩ : ∃ locs : List Loc, locs = [] := ⟨_, rfl⟩
  have hI : XI D cl (mw ci A d σ) A0 s.heap H locs := by rw [eH, eL]; exact hI
  rw [← eL]
  suffices h : W p l e r7_anew s m args below meth c H locs 0 0 Q (F0 m 0 ls []) by rw [eH] at h; exact h
  clear eH eL
  refine lv_aload_n hx hb dX7_anew_0 rfl (lv_at hl 0 rfl) ?_
  obtain ⟨r2, σ1, hσ1, hf⟩ := bnd_some hf
  refine m_calli X hI hc [] (m7_isBase l D cl Z hz ci A d tm hc σ r2 σ1 hσ1) (cw7_isBase hts ⟨Nat.le_of_ble_eq_true rfl, Nat.le_of_ble_eq_true rfl⟩) rfl hl.1 (Nat.le_of_ble_eq_true rfl) rfl dX7_anew_1 ⟨Nat.le_of_ble_eq_true rfl, Nat.le_of_ble_eq_true rfl⟩ (fun H locs hI => ?_)
  refine lv_if_ne (tgt := 10) hx hb dX7_anew_4 (by decide) (fun c3 => ?_) (fun c3 => ?_)
  · have hf := o_neg hf c3
    refine lv_aload_n hx hb dX7_anew_10 rfl (lv_at hl 0 rfl) ?_
    refine m_get (v := .ref (A 1)) X hI hc 1 (by decide) q2659 rfl dX7_anew_11 ?_
    refine lv_bipush (v := 6) hx hb dX7_anew_14 (by decide) ?_
    refine m_iald (k := 6) X hI 1 1 76 rfl rfl rfl dX7_anew_16 ?_
    refine lv_istore_n (lv' := [(1, .int (gA σ1 1 6)), (0, .ref (A 0))]) hx hb dX7_anew_17 rfl hl (by decide) rfl (fun ls hl => ?_)
    refine lv_aload_n hx hb dX7_anew_18 rfl (lv_at hl 1 rfl) ?_
    refine m_get (v := .ref (A 1)) X hI hc 1 (by decide) q2659 rfl dX7_anew_19 ?_
    refine lv_bipush (v := 6) hx hb dX7_anew_22 (by decide) ?_
    refine lv_iconst (v := 0) hx hb dX7_anew_24 (by decide) ?_
    refine m_iast (k := 6) X hI 1 1 76 rfl rfl rfl rfl dX7_anew_25 (fun H locs hI => ?_)
    obtain ⟨σ4, eσ4, hf⟩ := nxt_some hf
    rw [← eσ4] at hI
    clear eσ4
    refine lv_iload_n hx hb dX7_anew_26 rfl (lv_at hl 0 rfl) ?_
    exact hret hf hI dX7_anew_27
  · have hf := o_pos hf c3
    refine lv_bipush (v := -2) hx hb dX7_anew_7 (by decide) ?_
    exact hret hf hI dX7_anew_9
/-! isSeed -/
def f7_isSeed (p0 : Int32) : Option Int32 :=
  bn1 (f7_in p0.toInt64 0 2000000000) fun r1 =>
  grd (bZ r1) <|
  some r1
abbrev r7_isSeed : Room := { frames := 1, cells := 0, slots := 0, locals := 25 }
theorem cw7_isSeed {R : Room} {s : State} {args : Array Value} (ht : ∀ w ∈ lw_all, w.before args s = true) (hR : r7_isSeed.frames + 1 ≤ R.frames ∧ 8 + (1 + 11) + r7_isSeed.locals ≤ R.locals) : CallB R s args RX7 514 yX7_isSeed cX7_isSeed 1 (some .boolean) (ws_ yX7_isSeed cX7_isSeed 1 (some .boolean)) r7_isSeed 0 0 1 ∧ (Cond.static yX7_isSeed).before args s = true :=
  va_cwS 1 ht (lw_S q3454 q3455 q178 q3456) rfl rfl rfl (by decide +kernel) hR
theorem m7_isSeed (l : Launch) (p0 : Int32) (r : Int32) (hf : f7_isSeed p0 = some r) : XPi l yX7_isSeed (ws_ yX7_isSeed cX7_isSeed 1 (some .boolean)) r7_isSeed [.int p0] r := by
  refine s_openz (by decide) (by exact Nat.le_of_ble_eq_true rfl) (fun p e s m args below meth c ls A0 Q D cl tys X hI hl hret => ?_)
  have X : XC p s m args meth c cX7_isSeed 1 RX7 D cl tys A0 ZT := X
  have hx := X.1
  have hb := X.2.1
  have hown := X.2.2.2.1
  have hts := X.2.2.2.2.1
  have hl : lv_has ls 1 [(0, .int p0)] := hl
  unfold f7_isSeed at hf
  obtain ⟨H, eH⟩ : ∃ H, H = s.heap := ⟨_, rfl⟩
  obtain ⟨locs, eL⟩ : ∃ locs : List Loc, locs = [] := ⟨_, rfl⟩
  have hI : XI D cl [] A0 s.heap H locs := by rw [eH, eL]; exact hI
  rw [← eL]
  suffices h : W p l e r7_isSeed s m args below meth c H locs 0 0 Q (F0 m 0 ls []) by rw [eH] at h; exact h
  clear eH eL
  refine lv_iload_n hx hb dX7_isSeed_0 rfl (lv_at hl 0 rfl) ?_
  refine lv_i2l hx hb dX7_isSeed_1 rfl ?_
  refine lv_lconst (v := 0) hx hb dX7_isSeed_2 (by decide) ?_
  refine lv_ldc2 (v := 2000000000) hx hb hown (hts _ q3457) dX7_isSeed_3 ?_
  obtain ⟨r1, hr1, hf⟩ := bn1_some hf
  refine x_callSi (As := [.long p0.toInt64, .long 0, .long 2000000000]) X hI (m7_in l p0.toInt64 0 2000000000 r1 hr1) (cw7_in hts ⟨Nat.le_of_ble_eq_true rfl, Nat.le_of_ble_eq_true rfl⟩) rfl hl.1 (Nat.le_of_ble_eq_true rfl) rfl dX7_isSeed_6 ⟨Nat.le_of_ble_eq_true rfl, Nat.le_of_ble_eq_true rfl⟩ (fun H locs hI => ?_)
  obtain ⟨g2, hf⟩ := grd_some hf
  exact hret hf g2 hI dX7_isSeed_9
/-! drawnSet -/
def f7_drawnSet_b61 (K8 : Int64 → Int32 → Int32 → MS → oI Int32) (x3 : Int64) (x6 : Int32) (z0 : Int32) (z1 : Int32) (σ : MS) : oI Int32 :=
  K8 x3 (z0 ||| z1) (x6 + 1) σ
def f7_drawnSet_b8 (K8 : Int64 → Int32 → Int32 → MS → oI Int32) (x3 : Int64) (x5 : Int32) (x6 : Int32) (σ : MS) : oI Int32 :=
  bnd (f7_rules σ) fun r2 σ1 =>
  if r2 ≤ x6 then (some (x5, σ1)) else (nxt ((((1103515245 : Int64) * x3) + 12345) - (((1103515245 : Int64) * x3) + 12345) / 2147483648 * 2147483648) fun v4 =>
  if 0 ≤ (lg_cmp ((v4 / 65536) - (v4 / 65536) / 10 * 10) ((gA σ1 1 2).toInt64)) then (f7_drawnSet_b61 K8 v4 x6 x5 0 σ1) else (f7_drawnSet_b61 K8 v4 x6 x5 ((1 : Int32) <<< (x6 &&& 31)) σ1))
def f7_drawnSet_l8 : Nat → Int64 → Int32 → Int32 → MS → oI Int32
  | 0 => fun _ _ _ _ => none
  | n + 1 => fun x3 x5 x6 σ => f7_drawnSet_b8 (f7_drawnSet_l8 n) x3 x5 x6 σ
def f7_drawnSet (p0 : Int64) (σ : MS) : oI Int32 :=
  f7_drawnSet_l8 FU p0 0 0 σ
abbrev r7_drawnSet : Room := { frames := 1, cells := 0, slots := 0, locals := 20 }
theorem cw7_drawnSet {R : Room} {s : State} {args : Array Value} (ht : ∀ w ∈ lw_all, w.before args s = true) (hR : r7_drawnSet.frames + 1 ≤ R.frames ∧ 8 + (7 + 11) + r7_drawnSet.locals ≤ R.locals) : CallW R s args RX7 RX7 517 yX7_drawnSet cX7_drawnSet 7 (some .int) (ws_ yX7_drawnSet cX7_drawnSet 7 (some .int)) r7_drawnSet 0 0 1 :=
  cwV 1 ht (lw_V q3458 q3460 qs165 q178 q3461) rfl rfl rfl (by decide +kernel) hR
theorem m7_drawnSet (l : Launch) (D : va_G) (cl : vC2) (Z : (Nat → Prop) → State → Heap → Prop) (hz : ZK Z) (ci : Nat) (A : Nat → Nat) (d : Nat → ClassId) (tm : List (ClassId × FieldType)) (hc : cl.1[ci]? = some (RX7, TX7, 42)) (p0 : Int64) (σ : MS) (r : Int32) (σ' : MS) (hf : f7_drawnSet p0 σ = some (r, σ')) : MMi l yX7_drawnSet (ws_ yX7_drawnSet cX7_drawnSet 7 (some .int)) r7_drawnSet D cl Z ci A d tm σ [.long p0] r σ' := by
  refine m_openi hz (by decide) (by exact Nat.le_of_ble_eq_true rfl) (fun p e s m args below meth c ls A0 Q X hI hl hret => ?_)
  have X : XC p s m args meth c cX7_drawnSet 7 RX7 D cl (mty d tm) A0 Z := X
  have hx := X.1
  have hb := X.2.1
  have hown := X.2.2.2.1
  have hts := X.2.2.2.2.1
  have L8 : ∀ (n : Nat) (x3 : Int64) (x5 : Int32) (x6 : Int32) (σ : MS), f7_drawnSet_l8 n x3 x5 x6 σ = some (r, σ') → ∀ (H : Heap) (locs : List Loc), XI D cl (mw ci A d σ) A0 s.heap H locs → ∀ (ls : Array Slot), lv_has ls 7 [(0, .ref (A 0)), (3, .long x3), (5, .int x5), (6, .int x6)] → W p l e r7_drawnSet s m args below meth c H locs 0 0 Q (F0 m 8 ls []) := by
    intro n8
    induction n8 with
    | zero => intro x3 x5 x6 σ hf; cases hf
    | succ n8 ih8 =>
      have J61 : ∀ (x3 : Int64) (x6 : Int32) (z0 : Int32) (z1 : Int32) (σ : MS), f7_drawnSet_b61 (f7_drawnSet_l8 n8) x3 x6 z0 z1 σ = some (r, σ') → ∀ (H : Heap) (locs : List Loc), XI D cl (mw ci A d σ) A0 s.heap H locs → ∀ (ls : Array Slot), lv_has ls 7 [(0, .ref (A 0)), (3, .long x3), (6, .int x6)] → W p l e r7_drawnSet s m args below meth c H locs 0 0 Q (F0 m 61 ls [.int z1, .int z0]) := by
        intro x3 x6 z0 z1 σ hf H locs hI ls hl
        unfold f7_drawnSet_b61 at hf
        refine lv_ior hx hb dX7_drawnSet_61 ?_
        refine lv_istore (lv' := [(5, .int (z0 ||| z1)), (0, .ref (A 0)), (3, .long x3), (6, .int x6)]) hx hb dX7_drawnSet_62 hl (by decide) rfl (fun ls hl => ?_)
        refine lv_iinc (v := x6 + 1) (lv' := [(6, .int (x6 + 1)), (5, .int (z0 ||| z1)), (0, .ref (A 0)), (3, .long x3)]) hx hb dX7_drawnSet_64 hl (k := 3) rfl rfl (by decide) rfl (fun ls hl => ?_)
        refine lv_goto (tgt := 8) hx hb dX7_drawnSet_67 (by decide) ?_
        exact ih8 x3 (z0 ||| z1) (x6 + 1) σ hf H locs hI ls (lv_sub hl [2, 3, 1, 0] rfl)
      intro x3 x5 x6 σ hf H locs hI ls hl
      have hf : f7_drawnSet_b8 (f7_drawnSet_l8 n8) x3 x5 x6 σ = some (r, σ') := hf
      unfold f7_drawnSet_b8 at hf
      refine lv_iload hx hb dX7_drawnSet_8 (lv_at hl 3 rfl) ?_
      refine lv_aload_n hx hb dX7_drawnSet_10 rfl (lv_at hl 0 rfl) ?_
      obtain ⟨r2, σ1, hσ1, hf⟩ := bnd_some hf
      refine m_calli X hI hc [] (m7_rules l D cl Z hz ci A d tm hc σ r2 σ1 hσ1) (cw7_rules hts ⟨Nat.le_of_ble_eq_true rfl, Nat.le_of_ble_eq_true rfl⟩) rfl hl.1 (Nat.le_of_ble_eq_true rfl) rfl dX7_drawnSet_11 ⟨Nat.le_of_ble_eq_true rfl, Nat.le_of_ble_eq_true rfl⟩ (fun H locs hI => ?_)
      refine lv_icmp_ge (tgt := 70) hx hb dX7_drawnSet_14 (by decide) (fun c3 => ?_) (fun c3 => ?_)
      · have hf := o_pos hf c3
        refine lv_iload hx hb dX7_drawnSet_70 (lv_at hl 2 rfl) ?_
        exact hret hf hI dX7_drawnSet_72
      · have hf := o_neg hf c3
        refine lv_ldc2 (v := 1103515245) hx hb hown (hts _ q3462) dX7_drawnSet_17 ?_
        refine lv_lload_n hx hb dX7_drawnSet_20 rfl (lv_at hl 1 rfl) ?_
        refine lv_lmul hx hb dX7_drawnSet_21 ?_
        refine lv_ldc2 (v := 12345) hx hb hown (hts _ q3463) dX7_drawnSet_22 ?_
        refine lv_ladd hx hb dX7_drawnSet_25 ?_
        refine lv_ldc2 (v := 2147483648) hx hb hown (hts _ q3464) dX7_drawnSet_26 ?_
        refine lv_lrem hx hb dX7_drawnSet_29 (by decide) ?_
        obtain ⟨v4, ev4, hf⟩ := nxt_some hf
        rw [← ev4]
        clear ev4
        refine lv_lstore_n (lv' := [(3, .long v4), (0, .ref (A 0)), (5, .int x5), (6, .int x6)]) hx hb dX7_drawnSet_30 rfl hl (by decide) rfl (fun ls hl => ?_)
        refine lv_iload hx hb dX7_drawnSet_31 (lv_at hl 2 rfl) ?_
        refine lv_lload_n hx hb dX7_drawnSet_33 rfl (lv_at hl 0 rfl) ?_
        refine lv_ldc2 (v := 65536) hx hb hown (hts _ q3465) dX7_drawnSet_34 ?_
        refine lv_ldiv hx hb dX7_drawnSet_37 (by decide) ?_
        refine lv_ldc2 (v := 10) hx hb hown (hts _ q3466) dX7_drawnSet_38 ?_
        refine lv_lrem hx hb dX7_drawnSet_41 (by decide) ?_
        refine lv_aload_n hx hb dX7_drawnSet_42 rfl (lv_at hl 1 rfl) ?_
        refine m_get (v := .ref (A 1)) X hI hc 1 (by decide) q2659 rfl dX7_drawnSet_43 ?_
        refine lv_iconst (v := 2) hx hb dX7_drawnSet_46 (by decide) ?_
        refine m_iald (k := 2) X hI 1 1 76 rfl rfl rfl dX7_drawnSet_47 ?_
        refine lv_i2l hx hb dX7_drawnSet_48 rfl ?_
        refine W.lcmp hx hb dX7_drawnSet_49 ?_
        refine lv_if_ge (tgt := 60) hx hb dX7_drawnSet_50 (by decide) (fun c5 => ?_) (fun c5 => ?_)
        · have hf := o_pos hf c5
          refine lv_iconst (v := 0) hx hb dX7_drawnSet_60 (by decide) ?_
          exact J61 v4 x6 x5 0 σ1 hf H locs hI ls (lv_sub hl [1, 0, 3] rfl)
        · have hf := o_neg hf c5
          refine lv_iconst (v := 1) hx hb dX7_drawnSet_53 (by decide) ?_
          refine lv_iload hx hb dX7_drawnSet_54 (lv_at hl 3 rfl) ?_
          refine lv_ishl hx hb dX7_drawnSet_56 ?_
          refine lv_goto (tgt := 61) hx hb dX7_drawnSet_57 (by decide) ?_
          exact J61 v4 x6 x5 ((1 : Int32) <<< (x6 &&& 31)) σ1 hf H locs hI ls (lv_sub hl [1, 0, 3] rfl)
  have hl : lv_has ls 7 [(0, .ref (A 0)), (1, .long p0)] := hl
  unfold f7_drawnSet at hf
  obtain ⟨H, eH⟩ : ∃ H, H = s.heap := ⟨_, rfl⟩
  obtain ⟨locs, eL⟩ : ∃ locs : List Loc, locs = [] := ⟨_, rfl⟩
  have hI : XI D cl (mw ci A d σ) A0 s.heap H locs := by rw [eH, eL]; exact hI
  rw [← eL]
  suffices h : W p l e r7_drawnSet s m args below meth c H locs 0 0 Q (F0 m 0 ls []) by rw [eH] at h; exact h
  clear eH eL
  refine lv_lload_n hx hb dX7_drawnSet_0 rfl (lv_at hl 1 rfl) ?_
  refine lv_lstore_n (lv' := [(3, .long p0), (0, .ref (A 0)), (1, .long p0)]) hx hb dX7_drawnSet_1 rfl hl (by decide) rfl (fun ls hl => ?_)
  refine lv_iconst (v := 0) hx hb dX7_drawnSet_2 (by decide) ?_
  refine lv_istore (lv' := [(5, .int 0), (3, .long p0), (0, .ref (A 0)), (1, .long p0)]) hx hb dX7_drawnSet_3 hl (by decide) rfl (fun ls hl => ?_)
  refine lv_iconst (v := 0) hx hb dX7_drawnSet_5 (by decide) ?_
  refine lv_istore (lv' := [(6, .int 0), (5, .int 0), (3, .long p0), (0, .ref (A 0)), (1, .long p0)]) hx hb dX7_drawnSet_6 hl (by decide) rfl (fun ls hl => ?_)
  exact L8 FU p0 0 0 σ hf H locs hI ls (lv_sub hl [3, 2, 1, 0] rfl)
/-! drawn -/
def f7_drawn (p0 : Int32) (p1 : Int32) (σ : MS) : oI Int32 :=
  bnd (f7_isBase σ) fun r2 σ1 =>
  if r2 = 0 then (some ((-2), σ1)) else (bn1 (f7_isSeed p0) fun r4 =>
  if r4 = 0 then (some ((-2), σ1)) else (bn1 (f7_in p1.toInt64 0 1) fun r6 =>
  if r6 = 0 then (some ((-2), σ1)) else (bnd (f7_drawnSet p0.toInt64 σ1) fun r9 σ8 =>
  if p1 = 0 then (some (r9, σ8)) else (bnd (f7_allRules σ8) fun r12 σ11 =>
  bnd (f7_worthOf (r12 &&& (r9 ^^^ (-1))) σ11) fun r14 σ13 =>
  some (r14, σ13)))))
abbrev r7_drawn : Room := { frames := 9, cells := 0, slots := 0, locals := 206 }
theorem m7_drawn (l : Launch) (D : va_G) (cl : vC2) (Z : (Nat → Prop) → State → Heap → Prop) (hz : ZK Z) (ci : Nat) (A : Nat → Nat) (d : Nat → ClassId) (tm : List (ClassId × FieldType)) (hc : cl.1[ci]? = some (RX7, TX7, 42)) (p0 : Int32) (p1 : Int32) (σ : MS) (r : Int32) (σ' : MS) (hf : f7_drawn p0 p1 σ = some (r, σ')) : MMi l yX7_drawn (ws_ yX7_drawn cX7_drawn 4 (some .int)) r7_drawn D cl Z ci A d tm σ [.int p0, .int p1] r σ' := by
  refine m_openi hz (by decide) (by exact Nat.le_of_ble_eq_true rfl) (fun p e s m args below meth c ls A0 Q X hI hl hret => ?_)
  have X : XC p s m args meth c cX7_drawn 4 RX7 D cl (mty d tm) A0 Z := X
  have hx := X.1
  have hb := X.2.1
  have hown := X.2.2.2.1
  have hts := X.2.2.2.2.1
  have hl : lv_has ls 4 [(0, .ref (A 0)), (1, .int p0), (2, .int p1)] := hl
  unfold f7_drawn at hf
  obtain ⟨H, eH⟩ : ∃ H, H = s.heap := ⟨_, rfl⟩
  obtain ⟨locs, eL⟩ : ∃ locs : List Loc, locs = [] := ⟨_, rfl⟩
  have hI : XI D cl (mw ci A d σ) A0 s.heap H locs := by rw [eH, eL]; exact hI
  rw [← eL]
  suffices h : W p l e r7_drawn s m args below meth c H locs 0 0 Q (F0 m 0 ls []) by rw [eH] at h; exact h
  clear eH eL
  refine lv_aload_n hx hb dX7_drawn_0 rfl (lv_at hl 0 rfl) ?_
  obtain ⟨r2, σ1, hσ1, hf⟩ := bnd_some hf
  refine m_calli X hI hc [] (m7_isBase l D cl Z hz ci A d tm hc σ r2 σ1 hσ1) (cw7_isBase hts ⟨Nat.le_of_ble_eq_true rfl, Nat.le_of_ble_eq_true rfl⟩) rfl hl.1 (Nat.le_of_ble_eq_true rfl) rfl dX7_drawn_1 ⟨Nat.le_of_ble_eq_true rfl, Nat.le_of_ble_eq_true rfl⟩ (fun H locs hI => ?_)
  refine lv_if_eq (tgt := 24) hx hb dX7_drawn_4 (by decide) (fun c3 => ?_) (fun c3 => ?_)
  · have hf := o_pos hf c3
    refine lv_bipush (v := -2) hx hb dX7_drawn_24 (by decide) ?_
    exact hret hf hI dX7_drawn_26
  · have hf := o_neg hf c3
    refine lv_iload_n hx hb dX7_drawn_7 rfl (lv_at hl 1 rfl) ?_
    obtain ⟨r4, hr4, hf⟩ := bn1_some hf
    refine x_callSi (As := [.int p0]) X hI (m7_isSeed l p0 r4 hr4) (cw7_isSeed hts ⟨Nat.le_of_ble_eq_true rfl, Nat.le_of_ble_eq_true rfl⟩) rfl hl.1 (Nat.le_of_ble_eq_true rfl) rfl dX7_drawn_8 ⟨Nat.le_of_ble_eq_true rfl, Nat.le_of_ble_eq_true rfl⟩ (fun H locs hI => ?_)
    refine lv_if_eq (tgt := 24) hx hb dX7_drawn_11 (by decide) (fun c5 => ?_) (fun c5 => ?_)
    · have hf := o_pos hf c5
      refine lv_bipush (v := -2) hx hb dX7_drawn_24 (by decide) ?_
      exact hret hf hI dX7_drawn_26
    · have hf := o_neg hf c5
      refine lv_iload_n hx hb dX7_drawn_14 rfl (lv_at hl 2 rfl) ?_
      refine lv_i2l hx hb dX7_drawn_15 rfl ?_
      refine lv_lconst (v := 0) hx hb dX7_drawn_16 (by decide) ?_
      refine lv_lconst (v := 1) hx hb dX7_drawn_17 (by decide) ?_
      obtain ⟨r6, hr6, hf⟩ := bn1_some hf
      refine x_callSi (As := [.long p1.toInt64, .long 0, .long 1]) X hI (m7_in l p1.toInt64 0 1 r6 hr6) (cw7_in hts ⟨Nat.le_of_ble_eq_true rfl, Nat.le_of_ble_eq_true rfl⟩) rfl hl.1 (Nat.le_of_ble_eq_true rfl) rfl dX7_drawn_18 ⟨Nat.le_of_ble_eq_true rfl, Nat.le_of_ble_eq_true rfl⟩ (fun H locs hI => ?_)
      refine lv_if_ne (tgt := 27) hx hb dX7_drawn_21 (by decide) (fun c7 => ?_) (fun c7 => ?_)
      · have hf := o_neg hf c7
        refine lv_aload_n hx hb dX7_drawn_27 rfl (lv_at hl 0 rfl) ?_
        refine lv_iload_n hx hb dX7_drawn_28 rfl (lv_at hl 1 rfl) ?_
        refine lv_i2l hx hb dX7_drawn_29 rfl ?_
        obtain ⟨r9, σ8, hσ8, hf⟩ := bnd_some hf
        refine m_calli X hI hc [.long p0.toInt64] (m7_drawnSet l D cl Z hz ci A d tm hc p0.toInt64 σ1 r9 σ8 hσ8) (cw7_drawnSet hts ⟨Nat.le_of_ble_eq_true rfl, Nat.le_of_ble_eq_true rfl⟩) rfl hl.1 (Nat.le_of_ble_eq_true rfl) rfl dX7_drawn_30 ⟨Nat.le_of_ble_eq_true rfl, Nat.le_of_ble_eq_true rfl⟩ (fun H locs hI => ?_)
        refine lv_istore_n (lv' := [(3, .int r9), (0, .ref (A 0)), (1, .int p0), (2, .int p1)]) hx hb dX7_drawn_33 rfl hl (by decide) rfl (fun ls hl => ?_)
        refine lv_iload_n hx hb dX7_drawn_34 rfl (lv_at hl 3 rfl) ?_
        refine lv_if_ne (tgt := 42) hx hb dX7_drawn_35 (by decide) (fun c10 => ?_) (fun c10 => ?_)
        · have hf := o_neg hf c10
          refine lv_aload_n hx hb dX7_drawn_42 rfl (lv_at hl 1 rfl) ?_
          refine lv_aload_n hx hb dX7_drawn_43 rfl (lv_at hl 1 rfl) ?_
          obtain ⟨r12, σ11, hσ11, hf⟩ := bnd_some hf
          refine m_calli X hI hc [] (m7_allRules l D cl Z hz ci A d tm hc σ8 r12 σ11 hσ11) (cw7_allRules hts ⟨Nat.le_of_ble_eq_true rfl, Nat.le_of_ble_eq_true rfl⟩) rfl hl.1 (Nat.le_of_ble_eq_true rfl) rfl dX7_drawn_44 ⟨Nat.le_of_ble_eq_true rfl, Nat.le_of_ble_eq_true rfl⟩ (fun H locs hI => ?_)
          refine lv_iload_n hx hb dX7_drawn_47 rfl (lv_at hl 0 rfl) ?_
          refine lv_iconst (v := -1) hx hb dX7_drawn_48 (by decide) ?_
          refine lv_ixor hx hb dX7_drawn_49 ?_
          refine lv_iand hx hb dX7_drawn_50 ?_
          obtain ⟨r14, σ13, hσ13, hf⟩ := bnd_some hf
          refine m_calli X hI hc [.int (r12 &&& (r9 ^^^ (-1)))] (m7_worthOf l D cl Z hz ci A d tm hc (r12 &&& (r9 ^^^ (-1))) σ11 r14 σ13 hσ13) (cw7_worthOf hts ⟨Nat.le_of_ble_eq_true rfl, Nat.le_of_ble_eq_true rfl⟩) rfl hl.1 (Nat.le_of_ble_eq_true rfl) rfl dX7_drawn_51 ⟨Nat.le_of_ble_eq_true rfl, Nat.le_of_ble_eq_true rfl⟩ (fun H locs hI => ?_)
          exact hret hf hI dX7_drawn_54
        · have hf := o_pos hf c10
          refine lv_iload_n hx hb dX7_drawn_38 rfl (lv_at hl 0 rfl) ?_
          refine lv_goto (tgt := 54) hx hb dX7_drawn_39 (by decide) ?_
          exact hret hf hI dX7_drawn_54
      · have hf := o_pos hf c7
        refine lv_bipush (v := -2) hx hb dX7_drawn_24 (by decide) ?_
        exact hret hf hI dX7_drawn_26
/-! luck -/
def f7_luck_b70 (K34 : Int32 → Int32 → Int32 → Int32 → MS → oI Int32) (x1 : Int32) (x2 : Int32) (x4 : Int32) (z0 : Int32) (z1 : Int32) (σ : MS) : oI Int32 :=
  K34 x1 x2 (z0 + z1) (x4 + 1) σ
def f7_luck_b34 (K34 : Int32 → Int32 → Int32 → Int32 → MS → oI Int32) (x1 : Int32) (x2 : Int32) (x3 : Int32) (x4 : Int32) (σ : MS) : oI Int32 :=
  if x2 ≤ x4 then (some (x3, σ)) else (bnd (f7_allRules σ) fun r10 σ9 =>
  bnd (f7_drawnSet (x1.toInt64 + x4.toInt64) σ9) fun r12 σ11 =>
  bnd (f7_worthOf (r10 &&& (r12 ^^^ (-1))) σ11) fun r14 σ13 =>
  if r14 = 0 then (f7_luck_b70 K34 x1 x2 x4 x3 1 σ13) else (f7_luck_b70 K34 x1 x2 x4 x3 0 σ13))
def f7_luck_l34 : Nat → Int32 → Int32 → Int32 → Int32 → MS → oI Int32
  | 0 => fun _ _ _ _ _ => none
  | n + 1 => fun x1 x2 x3 x4 σ => f7_luck_b34 (f7_luck_l34 n) x1 x2 x3 x4 σ
def f7_luck (p0 : Int32) (p1 : Int32) (σ : MS) : oI Int32 :=
  bnd (f7_isBase σ) fun r2 σ1 =>
  if r2 = 0 then (some ((-2), σ1)) else (bn1 (f7_isSeed p0) fun r4 =>
  if r4 = 0 then (some ((-2), σ1)) else (bn1 (f7_in p1.toInt64 1 20) fun r6 =>
  if r6 = 0 then (some ((-2), σ1)) else (f7_luck_l34 FU p0 p1 0 0 σ1)))
abbrev r7_luck : Room := { frames := 9, cells := 0, slots := 0, locals := 206 }
theorem m7_luck (l : Launch) (D : va_G) (cl : vC2) (Z : (Nat → Prop) → State → Heap → Prop) (hz : ZK Z) (ci : Nat) (A : Nat → Nat) (d : Nat → ClassId) (tm : List (ClassId × FieldType)) (hc : cl.1[ci]? = some (RX7, TX7, 42)) (p0 : Int32) (p1 : Int32) (σ : MS) (r : Int32) (σ' : MS) (hf : f7_luck p0 p1 σ = some (r, σ')) : MMi l yX7_luck (ws_ yX7_luck cX7_luck 5 (some .int)) r7_luck D cl Z ci A d tm σ [.int p0, .int p1] r σ' := by
  refine m_openi hz (by decide) (by exact Nat.le_of_ble_eq_true rfl) (fun p e s m args below meth c ls A0 Q X hI hl hret => ?_)
  have X : XC p s m args meth c cX7_luck 5 RX7 D cl (mty d tm) A0 Z := X
  have hx := X.1
  have hb := X.2.1
  have hown := X.2.2.2.1
  have hts := X.2.2.2.2.1
  have L34 : ∀ (n : Nat) (x1 : Int32) (x2 : Int32) (x3 : Int32) (x4 : Int32) (σ : MS), f7_luck_l34 n x1 x2 x3 x4 σ = some (r, σ') → ∀ (H : Heap) (locs : List Loc), XI D cl (mw ci A d σ) A0 s.heap H locs → ∀ (ls : Array Slot), lv_has ls 5 [(0, .ref (A 0)), (1, .int x1), (2, .int x2), (3, .int x3), (4, .int x4)] → W p l e r7_luck s m args below meth c H locs 0 0 Q (F0 m 34 ls []) := by
    intro n34
    induction n34 with
    | zero => intro x1 x2 x3 x4 σ hf; cases hf
    | succ n34 ih34 =>
      have J70 : ∀ (x1 : Int32) (x2 : Int32) (x4 : Int32) (z0 : Int32) (z1 : Int32) (σ : MS), f7_luck_b70 (f7_luck_l34 n34) x1 x2 x4 z0 z1 σ = some (r, σ') → ∀ (H : Heap) (locs : List Loc), XI D cl (mw ci A d σ) A0 s.heap H locs → ∀ (ls : Array Slot), lv_has ls 5 [(0, .ref (A 0)), (1, .int x1), (2, .int x2), (4, .int x4)] → W p l e r7_luck s m args below meth c H locs 0 0 Q (F0 m 70 ls [.int z1, .int z0]) := by
        intro x1 x2 x4 z0 z1 σ hf H locs hI ls hl
        unfold f7_luck_b70 at hf
        refine lv_iadd hx hb dX7_luck_70 ?_
        refine lv_istore_n (lv' := [(3, .int (z0 + z1)), (0, .ref (A 0)), (1, .int x1), (2, .int x2), (4, .int x4)]) hx hb dX7_luck_71 rfl hl (by decide) rfl (fun ls hl => ?_)
        refine lv_iinc (v := x4 + 1) (lv' := [(4, .int (x4 + 1)), (3, .int (z0 + z1)), (0, .ref (A 0)), (1, .int x1), (2, .int x2)]) hx hb dX7_luck_72 hl (k := 4) rfl rfl (by decide) rfl (fun ls hl => ?_)
        refine lv_goto (tgt := 34) hx hb dX7_luck_75 (by decide) ?_
        exact ih34 x1 x2 (z0 + z1) (x4 + 1) σ hf H locs hI ls (lv_sub hl [2, 3, 4, 1, 0] rfl)
      intro x1 x2 x3 x4 σ hf H locs hI ls hl
      have hf : f7_luck_b34 (f7_luck_l34 n34) x1 x2 x3 x4 σ = some (r, σ') := hf
      unfold f7_luck_b34 at hf
      refine lv_iload hx hb dX7_luck_34 (lv_at hl 4 rfl) ?_
      refine lv_iload_n hx hb dX7_luck_36 rfl (lv_at hl 2 rfl) ?_
      refine lv_icmp_ge (tgt := 78) hx hb dX7_luck_37 (by decide) (fun c8 => ?_) (fun c8 => ?_)
      · have hf := o_pos hf c8
        refine lv_iload_n hx hb dX7_luck_78 rfl (lv_at hl 3 rfl) ?_
        exact hret hf hI dX7_luck_79
      · have hf := o_neg hf c8
        refine lv_iload_n hx hb dX7_luck_40 rfl (lv_at hl 3 rfl) ?_
        refine lv_aload_n hx hb dX7_luck_41 rfl (lv_at hl 0 rfl) ?_
        refine lv_aload_n hx hb dX7_luck_42 rfl (lv_at hl 0 rfl) ?_
        obtain ⟨r10, σ9, hσ9, hf⟩ := bnd_some hf
        refine m_calli X hI hc [] (m7_allRules l D cl Z hz ci A d tm hc σ r10 σ9 hσ9) (cw7_allRules hts ⟨Nat.le_of_ble_eq_true rfl, Nat.le_of_ble_eq_true rfl⟩) rfl hl.1 (Nat.le_of_ble_eq_true rfl) rfl dX7_luck_43 ⟨Nat.le_of_ble_eq_true rfl, Nat.le_of_ble_eq_true rfl⟩ (fun H locs hI => ?_)
        refine lv_aload_n hx hb dX7_luck_46 rfl (lv_at hl 0 rfl) ?_
        refine lv_iload_n hx hb dX7_luck_47 rfl (lv_at hl 1 rfl) ?_
        refine lv_i2l hx hb dX7_luck_48 rfl ?_
        refine lv_iload hx hb dX7_luck_49 (lv_at hl 4 rfl) ?_
        refine lv_i2l hx hb dX7_luck_51 rfl ?_
        refine lv_ladd hx hb dX7_luck_52 ?_
        obtain ⟨r12, σ11, hσ11, hf⟩ := bnd_some hf
        refine m_calli X hI hc [.long (x1.toInt64 + x4.toInt64)] (m7_drawnSet l D cl Z hz ci A d tm hc (x1.toInt64 + x4.toInt64) σ9 r12 σ11 hσ11) (cw7_drawnSet hts ⟨Nat.le_of_ble_eq_true rfl, Nat.le_of_ble_eq_true rfl⟩) rfl hl.1 (Nat.le_of_ble_eq_true rfl) rfl dX7_luck_53 ⟨Nat.le_of_ble_eq_true rfl, Nat.le_of_ble_eq_true rfl⟩ (fun H locs hI => ?_)
        refine lv_iconst (v := -1) hx hb dX7_luck_56 (by decide) ?_
        refine lv_ixor hx hb dX7_luck_57 ?_
        refine lv_iand hx hb dX7_luck_58 ?_
        obtain ⟨r14, σ13, hσ13, hf⟩ := bnd_some hf
        refine m_calli X hI hc [.int (r10 &&& (r12 ^^^ (-1)))] (m7_worthOf l D cl Z hz ci A d tm hc (r10 &&& (r12 ^^^ (-1))) σ11 r14 σ13 hσ13) (cw7_worthOf hts ⟨Nat.le_of_ble_eq_true rfl, Nat.le_of_ble_eq_true rfl⟩) rfl hl.1 (Nat.le_of_ble_eq_true rfl) rfl dX7_luck_59 ⟨Nat.le_of_ble_eq_true rfl, Nat.le_of_ble_eq_true rfl⟩ (fun H locs hI => ?_)
        refine lv_if_ne (tgt := 69) hx hb dX7_luck_62 (by decide) (fun c15 => ?_) (fun c15 => ?_)
        · have hf := o_neg hf c15
          refine lv_iconst (v := 0) hx hb dX7_luck_69 (by decide) ?_
          exact J70 x1 x2 x4 x3 0 σ13 hf H locs hI ls (lv_sub hl [0, 1, 2, 4] rfl)
        · have hf := o_pos hf c15
          refine lv_iconst (v := 1) hx hb dX7_luck_65 (by decide) ?_
          refine lv_goto (tgt := 70) hx hb dX7_luck_66 (by decide) ?_
          exact J70 x1 x2 x4 x3 1 σ13 hf H locs hI ls (lv_sub hl [0, 1, 2, 4] rfl)
  have hl : lv_has ls 5 [(0, .ref (A 0)), (1, .int p0), (2, .int p1)] := hl
  unfold f7_luck at hf
  obtain ⟨H, eH⟩ : ∃ H, H = s.heap := ⟨_, rfl⟩
  obtain ⟨locs, eL⟩ : ∃ locs : List Loc, locs = [] := ⟨_, rfl⟩
  have hI : XI D cl (mw ci A d σ) A0 s.heap H locs := by rw [eH, eL]; exact hI
  rw [← eL]
  suffices h : W p l e r7_luck s m args below meth c H locs 0 0 Q (F0 m 0 ls []) by rw [eH] at h; exact h
  clear eH eL
  refine lv_aload_n hx hb dX7_luck_0 rfl (lv_at hl 0 rfl) ?_
  obtain ⟨r2, σ1, hσ1, hf⟩ := bnd_some hf
  refine m_calli X hI hc [] (m7_isBase l D cl Z hz ci A d tm hc σ r2 σ1 hσ1) (cw7_isBase hts ⟨Nat.le_of_ble_eq_true rfl, Nat.le_of_ble_eq_true rfl⟩) rfl hl.1 (Nat.le_of_ble_eq_true rfl) rfl dX7_luck_1 ⟨Nat.le_of_ble_eq_true rfl, Nat.le_of_ble_eq_true rfl⟩ (fun H locs hI => ?_)
  refine lv_if_eq (tgt := 26) hx hb dX7_luck_4 (by decide) (fun c3 => ?_) (fun c3 => ?_)
  · have hf := o_pos hf c3
    refine lv_bipush (v := -2) hx hb dX7_luck_26 (by decide) ?_
    exact hret hf hI dX7_luck_28
  · have hf := o_neg hf c3
    refine lv_iload_n hx hb dX7_luck_7 rfl (lv_at hl 1 rfl) ?_
    obtain ⟨r4, hr4, hf⟩ := bn1_some hf
    refine x_callSi (As := [.int p0]) X hI (m7_isSeed l p0 r4 hr4) (cw7_isSeed hts ⟨Nat.le_of_ble_eq_true rfl, Nat.le_of_ble_eq_true rfl⟩) rfl hl.1 (Nat.le_of_ble_eq_true rfl) rfl dX7_luck_8 ⟨Nat.le_of_ble_eq_true rfl, Nat.le_of_ble_eq_true rfl⟩ (fun H locs hI => ?_)
    refine lv_if_eq (tgt := 26) hx hb dX7_luck_11 (by decide) (fun c5 => ?_) (fun c5 => ?_)
    · have hf := o_pos hf c5
      refine lv_bipush (v := -2) hx hb dX7_luck_26 (by decide) ?_
      exact hret hf hI dX7_luck_28
    · have hf := o_neg hf c5
      refine lv_iload_n hx hb dX7_luck_14 rfl (lv_at hl 2 rfl) ?_
      refine lv_i2l hx hb dX7_luck_15 rfl ?_
      refine lv_lconst (v := 1) hx hb dX7_luck_16 (by decide) ?_
      refine lv_ldc2 (v := 20) hx hb hown (hts _ q3471) dX7_luck_17 ?_
      obtain ⟨r6, hr6, hf⟩ := bn1_some hf
      refine x_callSi (As := [.long p1.toInt64, .long 1, .long 20]) X hI (m7_in l p1.toInt64 1 20 r6 hr6) (cw7_in hts ⟨Nat.le_of_ble_eq_true rfl, Nat.le_of_ble_eq_true rfl⟩) rfl hl.1 (Nat.le_of_ble_eq_true rfl) rfl dX7_luck_20 ⟨Nat.le_of_ble_eq_true rfl, Nat.le_of_ble_eq_true rfl⟩ (fun H locs hI => ?_)
      refine lv_if_ne (tgt := 29) hx hb dX7_luck_23 (by decide) (fun c7 => ?_) (fun c7 => ?_)
      · have hf := o_neg hf c7
        refine lv_iconst (v := 0) hx hb dX7_luck_29 (by decide) ?_
        refine lv_istore_n (lv' := [(3, .int 0), (0, .ref (A 0)), (1, .int p0), (2, .int p1)]) hx hb dX7_luck_30 rfl hl (by decide) rfl (fun ls hl => ?_)
        refine lv_iconst (v := 0) hx hb dX7_luck_31 (by decide) ?_
        refine lv_istore (lv' := [(4, .int 0), (3, .int 0), (0, .ref (A 0)), (1, .int p0), (2, .int p1)]) hx hb dX7_luck_32 hl (by decide) rfl (fun ls hl => ?_)
        exact L34 FU p0 p1 0 0 σ1 hf H locs hI ls (lv_sub hl [2, 3, 4, 1, 0] rfl)
      · have hf := o_pos hf c7
        refine lv_bipush (v := -2) hx hb dX7_luck_26 (by decide) ?_
        exact hret hf hI dX7_luck_28
/-! rate -/
def f7_rate (p0 : Int32) (p1 : Int32) (σ : MS) : oI Int32 :=
  bnd (f7_isCell p0 σ) fun r2 σ1 =>
  if r2 = 0 then (some ((-2), σ1)) else (bn1 (f7_in p1.toInt64 0 3) fun r4 =>
  if r4 = 0 then (some ((-2), σ1)) else (if (gA σ1 1 6) ≤ 0 then (grd (inB ((8 : Int32) + p0) 76) <|
  nxt (gA σ1 1 ((8 : Int32) + p0).toNatClampNeg) fun v8 =>
  grd (inB ((8 : Int32) + p0) 76) <|
  nxt (sA σ1 1 ((8 : Int32) + p0).toNatClampNeg p1) fun σ10 =>
  some (v8, σ10)) else (some ((-5), σ1))))
abbrev r7_rate : Room := { frames := 2, cells := 0, slots := 0, locals := 46 }
theorem m7_rate (l : Launch) (D : va_G) (cl : vC2) (Z : (Nat → Prop) → State → Heap → Prop) (hz : ZK Z) (ci : Nat) (A : Nat → Nat) (d : Nat → ClassId) (tm : List (ClassId × FieldType)) (hc : cl.1[ci]? = some (RX7, TX7, 42)) (p0 : Int32) (p1 : Int32) (σ : MS) (r : Int32) (σ' : MS) (hf : f7_rate p0 p1 σ = some (r, σ')) : MMi l yX7_rate (ws_ yX7_rate cX7_rate 4 (some .int)) r7_rate D cl Z ci A d tm σ [.int p0, .int p1] r σ' := by
  refine m_openi hz (by decide) (by exact Nat.le_of_ble_eq_true rfl) (fun p e s m args below meth c ls A0 Q X hI hl hret => ?_)
  have X : XC p s m args meth c cX7_rate 4 RX7 D cl (mty d tm) A0 Z := X
  have hx := X.1
  have hb := X.2.1
  have hown := X.2.2.2.1
  have hts := X.2.2.2.2.1
  have hl : lv_has ls 4 [(0, .ref (A 0)), (1, .int p0), (2, .int p1)] := hl
  unfold f7_rate at hf
  obtain ⟨H, eH⟩ : ∃ H, H = s.heap := ⟨_, rfl⟩
  obtain ⟨locs, eL⟩ : ∃ locs : List Loc, locs = [] := ⟨_, rfl⟩
  have hI : XI D cl (mw ci A d σ) A0 s.heap H locs := by rw [eH, eL]; exact hI
  rw [← eL]
  suffices h : W p l e r7_rate s m args below meth c H locs 0 0 Q (F0 m 0 ls []) by rw [eH] at h; exact h
  clear eH eL
  refine lv_aload_n hx hb dX7_rate_0 rfl (lv_at hl 0 rfl) ?_
  refine lv_iload_n hx hb dX7_rate_1 rfl (lv_at hl 1 rfl) ?_
  obtain ⟨r2, σ1, hσ1, hf⟩ := bnd_some hf
  refine m_calli X hI hc [.int p0] (m7_isCell l D cl Z hz ci A d tm hc p0 σ r2 σ1 hσ1) (cw7_isCell hts ⟨Nat.le_of_ble_eq_true rfl, Nat.le_of_ble_eq_true rfl⟩) rfl hl.1 (Nat.le_of_ble_eq_true rfl) rfl dX7_rate_2 ⟨Nat.le_of_ble_eq_true rfl, Nat.le_of_ble_eq_true rfl⟩ (fun H locs hI => ?_)
  refine lv_if_eq (tgt := 20) hx hb dX7_rate_5 (by decide) (fun c3 => ?_) (fun c3 => ?_)
  · have hf := o_pos hf c3
    refine lv_bipush (v := -2) hx hb dX7_rate_20 (by decide) ?_
    exact hret hf hI dX7_rate_22
  · have hf := o_neg hf c3
    refine lv_iload_n hx hb dX7_rate_8 rfl (lv_at hl 2 rfl) ?_
    refine lv_i2l hx hb dX7_rate_9 rfl ?_
    refine lv_lconst (v := 0) hx hb dX7_rate_10 (by decide) ?_
    refine lv_ldc2 (v := 3) hx hb hown (hts _ q2974) dX7_rate_11 ?_
    obtain ⟨r4, hr4, hf⟩ := bn1_some hf
    refine x_callSi (As := [.long p1.toInt64, .long 0, .long 3]) X hI (m7_in l p1.toInt64 0 3 r4 hr4) (cw7_in hts ⟨Nat.le_of_ble_eq_true rfl, Nat.le_of_ble_eq_true rfl⟩) rfl hl.1 (Nat.le_of_ble_eq_true rfl) rfl dX7_rate_14 ⟨Nat.le_of_ble_eq_true rfl, Nat.le_of_ble_eq_true rfl⟩ (fun H locs hI => ?_)
    refine lv_if_ne (tgt := 23) hx hb dX7_rate_17 (by decide) (fun c5 => ?_) (fun c5 => ?_)
    · have hf := o_neg hf c5
      refine lv_aload_n hx hb dX7_rate_23 rfl (lv_at hl 0 rfl) ?_
      refine m_get (v := .ref (A 1)) X hI hc 1 (by decide) q2659 rfl dX7_rate_24 ?_
      refine lv_bipush (v := 6) hx hb dX7_rate_27 (by decide) ?_
      refine m_iald (k := 6) X hI 1 1 76 rfl rfl rfl dX7_rate_29 ?_
      refine lv_if_le (tgt := 36) hx hb dX7_rate_30 (by decide) (fun c6 => ?_) (fun c6 => ?_)
      · have hf := o_pos hf c6
        refine lv_aload_n hx hb dX7_rate_36 rfl (lv_at hl 0 rfl) ?_
        refine m_get (v := .ref (A 1)) X hI hc 1 (by decide) q2659 rfl dX7_rate_37 ?_
        refine lv_bipush (v := 8) hx hb dX7_rate_40 (by decide) ?_
        refine lv_iload_n hx hb dX7_rate_42 rfl (lv_at hl 1 rfl) ?_
        refine lv_iadd hx hb dX7_rate_43 ?_
        obtain ⟨g7, hf⟩ := grd_some hf
        refine m_iald X hI 1 1 76 rfl rfl g7 dX7_rate_44 ?_
        obtain ⟨v8, ev8, hf⟩ := nxt_some hf
        rw [← ev8]
        clear ev8
        refine lv_istore_n (lv' := [(3, .int v8), (0, .ref (A 0)), (1, .int p0), (2, .int p1)]) hx hb dX7_rate_45 rfl hl (by decide) rfl (fun ls hl => ?_)
        refine lv_aload_n hx hb dX7_rate_46 rfl (lv_at hl 1 rfl) ?_
        refine m_get (v := .ref (A 1)) X hI hc 1 (by decide) q2659 rfl dX7_rate_47 ?_
        refine lv_bipush (v := 8) hx hb dX7_rate_50 (by decide) ?_
        refine lv_iload_n hx hb dX7_rate_52 rfl (lv_at hl 2 rfl) ?_
        refine lv_iadd hx hb dX7_rate_53 ?_
        refine lv_iload_n hx hb dX7_rate_54 rfl (lv_at hl 3 rfl) ?_
        obtain ⟨g9, hf⟩ := grd_some hf
        refine m_iast X hI 1 1 76 rfl rfl g9 rfl dX7_rate_55 (fun H locs hI => ?_)
        obtain ⟨σ10, eσ10, hf⟩ := nxt_some hf
        rw [← eσ10] at hI
        clear eσ10
        refine lv_iload_n hx hb dX7_rate_56 rfl (lv_at hl 0 rfl) ?_
        exact hret hf hI dX7_rate_57
      · have hf := o_neg hf c6
        refine lv_bipush (v := -5) hx hb dX7_rate_33 (by decide) ?_
        exact hret hf hI dX7_rate_35
    · have hf := o_pos hf c5
      refine lv_bipush (v := -2) hx hb dX7_rate_20 (by decide) ?_
      exact hret hf hI dX7_rate_22
/-! count -/
def f7_count_b63 (K42 : Int32 → Int32 → MS → oI Int32) (x3 : Int32) (z0 : Int32) (z1 : Int32) (σ : MS) : oI Int32 :=
  K42 (z0 + z1) (x3 + 1) σ
def f7_count_b42 (K42 : Int32 → Int32 → MS → oI Int32) (x2 : Int32) (x3 : Int32) (σ : MS) : oI Int32 :=
  if 4 ≤ x3 then (some (x2, σ)) else (grd (inB x3 4) <|
  if (gA σ 38 x3.toNatClampNeg) = (-1) then (f7_count_b63 K42 x3 x2 0 σ) else (f7_count_b63 K42 x3 x2 1 σ))
def f7_count_l42 : Nat → Int32 → Int32 → MS → oI Int32
  | 0 => fun _ _ _ => none
  | n + 1 => fun x2 x3 σ => f7_count_b42 (f7_count_l42 n) x2 x3 σ
def f7_count (p0 : Int32) (σ : MS) : oI Int32 :=
  bn1 (f7_in p0.toInt64 0 7) fun r1 =>
  if r1 = 0 then (if p0 = 8 then (some (gI σ 5, σ)) else (if p0 = 9 then (f7_count_l42 FU 0 0 σ) else (some ((-1), σ)))) else (grd (inB p0 76) <|
  some (gA σ 1 p0.toNatClampNeg, σ))
abbrev r7_count : Room := { frames := 1, cells := 0, slots := 0, locals := 25 }
theorem m7_count (l : Launch) (D : va_G) (cl : vC2) (Z : (Nat → Prop) → State → Heap → Prop) (hz : ZK Z) (ci : Nat) (A : Nat → Nat) (d : Nat → ClassId) (tm : List (ClassId × FieldType)) (hc : cl.1[ci]? = some (RX7, TX7, 42)) (p0 : Int32) (σ : MS) (r : Int32) (σ' : MS) (hf : f7_count p0 σ = some (r, σ')) : MMi l yX7_count (ws_ yX7_count cX7_count 4 (some .int)) r7_count D cl Z ci A d tm σ [.int p0] r σ' := by
  refine m_openi hz (by decide) (by exact Nat.le_of_ble_eq_true rfl) (fun p e s m args below meth c ls A0 Q X hI hl hret => ?_)
  have X : XC p s m args meth c cX7_count 4 RX7 D cl (mty d tm) A0 Z := X
  have hx := X.1
  have hb := X.2.1
  have hown := X.2.2.2.1
  have hts := X.2.2.2.2.1
  have L42 : ∀ (n : Nat) (x2 : Int32) (x3 : Int32) (σ : MS), f7_count_l42 n x2 x3 σ = some (r, σ') → ∀ (H : Heap) (locs : List Loc), XI D cl (mw ci A d σ) A0 s.heap H locs → ∀ (ls : Array Slot), lv_has ls 4 [(0, .ref (A 0)), (2, .int x2), (3, .int x3)] → W p l e r7_count s m args below meth c H locs 0 0 Q (F0 m 42 ls []) := by
    intro n42
    induction n42 with
    | zero => intro x2 x3 σ hf; cases hf
    | succ n42 ih42 =>
      have J63 : ∀ (x3 : Int32) (z0 : Int32) (z1 : Int32) (σ : MS), f7_count_b63 (f7_count_l42 n42) x3 z0 z1 σ = some (r, σ') → ∀ (H : Heap) (locs : List Loc), XI D cl (mw ci A d σ) A0 s.heap H locs → ∀ (ls : Array Slot), lv_has ls 4 [(0, .ref (A 0)), (3, .int x3)] → W p l e r7_count s m args below meth c H locs 0 0 Q (F0 m 63 ls [.int z1, .int z0]) := by
        intro x3 z0 z1 σ hf H locs hI ls hl
        unfold f7_count_b63 at hf
        refine lv_iadd hx hb dX7_count_63 ?_
        refine lv_istore_n (lv' := [(2, .int (z0 + z1)), (0, .ref (A 0)), (3, .int x3)]) hx hb dX7_count_64 rfl hl (by decide) rfl (fun ls hl => ?_)
        refine lv_iinc (v := x3 + 1) (lv' := [(3, .int (x3 + 1)), (2, .int (z0 + z1)), (0, .ref (A 0))]) hx hb dX7_count_65 hl (k := 2) rfl rfl (by decide) rfl (fun ls hl => ?_)
        refine lv_goto (tgt := 42) hx hb dX7_count_68 (by decide) ?_
        exact ih42 (z0 + z1) (x3 + 1) σ hf H locs hI ls (lv_sub hl [2, 1, 0] rfl)
      intro x2 x3 σ hf H locs hI ls hl
      have hf : f7_count_b42 (f7_count_l42 n42) x2 x3 σ = some (r, σ') := hf
      unfold f7_count_b42 at hf
      refine lv_iload_n hx hb dX7_count_42 rfl (lv_at hl 2 rfl) ?_
      refine lv_iconst (v := 4) hx hb dX7_count_43 (by decide) ?_
      refine lv_icmp_ge (tgt := 71) hx hb dX7_count_44 (by decide) (fun c6 => ?_) (fun c6 => ?_)
      · have hf := o_pos hf c6
        refine lv_iload_n hx hb dX7_count_71 rfl (lv_at hl 1 rfl) ?_
        exact hret hf hI dX7_count_72
      · have hf := o_neg hf c6
        refine lv_iload_n hx hb dX7_count_47 rfl (lv_at hl 1 rfl) ?_
        refine lv_aload_n hx hb dX7_count_48 rfl (lv_at hl 0 rfl) ?_
        refine m_get (v := .ref (A 38)) X hI hc 38 (by decide) q2696 rfl dX7_count_49 ?_
        refine lv_iload_n hx hb dX7_count_52 rfl (lv_at hl 2 rfl) ?_
        obtain ⟨g7, hf⟩ := grd_some hf
        refine m_iald X hI 38 15 4 rfl rfl g7 dX7_count_53 ?_
        refine lv_iconst (v := -1) hx hb dX7_count_54 (by decide) ?_
        refine lv_icmp_ne (tgt := 62) hx hb dX7_count_55 (by decide) (fun c8 => ?_) (fun c8 => ?_)
        · have hf := o_neg hf c8
          refine lv_iconst (v := 1) hx hb dX7_count_62 (by decide) ?_
          exact J63 x3 x2 1 σ hf H locs hI ls (lv_sub hl [0, 2] rfl)
        · have hf := o_pos hf c8
          refine lv_iconst (v := 0) hx hb dX7_count_58 (by decide) ?_
          refine lv_goto (tgt := 63) hx hb dX7_count_59 (by decide) ?_
          exact J63 x3 x2 0 σ hf H locs hI ls (lv_sub hl [0, 2] rfl)
  have hl : lv_has ls 4 [(0, .ref (A 0)), (1, .int p0)] := hl
  unfold f7_count at hf
  obtain ⟨H, eH⟩ : ∃ H, H = s.heap := ⟨_, rfl⟩
  obtain ⟨locs, eL⟩ : ∃ locs : List Loc, locs = [] := ⟨_, rfl⟩
  have hI : XI D cl (mw ci A d σ) A0 s.heap H locs := by rw [eH, eL]; exact hI
  rw [← eL]
  suffices h : W p l e r7_count s m args below meth c H locs 0 0 Q (F0 m 0 ls []) by rw [eH] at h; exact h
  clear eH eL
  refine lv_iload_n hx hb dX7_count_0 rfl (lv_at hl 1 rfl) ?_
  refine lv_i2l hx hb dX7_count_1 rfl ?_
  refine lv_lconst (v := 0) hx hb dX7_count_2 (by decide) ?_
  refine lv_ldc2 (v := 7) hx hb hown (hts _ q3480) dX7_count_3 ?_
  obtain ⟨r1, hr1, hf⟩ := bn1_some hf
  refine x_callSi (As := [.long p0.toInt64, .long 0, .long 7]) X hI (m7_in l p0.toInt64 0 7 r1 hr1) (cw7_in hts ⟨Nat.le_of_ble_eq_true rfl, Nat.le_of_ble_eq_true rfl⟩) rfl hl.1 (Nat.le_of_ble_eq_true rfl) rfl dX7_count_6 ⟨Nat.le_of_ble_eq_true rfl, Nat.le_of_ble_eq_true rfl⟩ (fun H locs hI => ?_)
  refine lv_if_eq (tgt := 19) hx hb dX7_count_9 (by decide) (fun c2 => ?_) (fun c2 => ?_)
  · have hf := o_pos hf c2
    refine lv_iload_n hx hb dX7_count_19 rfl (lv_at hl 1 rfl) ?_
    refine lv_bipush (v := 8) hx hb dX7_count_20 (by decide) ?_
    refine lv_icmp_ne (tgt := 30) hx hb dX7_count_22 (by decide) (fun c3 => ?_) (fun c3 => ?_)
    · have hf := o_neg hf c3
      refine lv_iload_n hx hb dX7_count_30 rfl (lv_at hl 1 rfl) ?_
      refine lv_bipush (v := 9) hx hb dX7_count_31 (by decide) ?_
      refine lv_icmp_eq (tgt := 38) hx hb dX7_count_33 (by decide) (fun c4 => ?_) (fun c4 => ?_)
      · have hf := o_pos hf c4
        refine lv_iconst (v := 0) hx hb dX7_count_38 (by decide) ?_
        refine lv_istore_n (lv' := [(2, .int 0), (0, .ref (A 0)), (1, .int p0)]) hx hb dX7_count_39 rfl hl (by decide) rfl (fun ls hl => ?_)
        refine lv_iconst (v := 0) hx hb dX7_count_40 (by decide) ?_
        refine lv_istore_n (lv' := [(3, .int 0), (2, .int 0), (0, .ref (A 0)), (1, .int p0)]) hx hb dX7_count_41 rfl hl (by decide) rfl (fun ls hl => ?_)
        exact L42 FU 0 0 σ hf H locs hI ls (lv_sub hl [2, 1, 0] rfl)
      · have hf := o_neg hf c4
        refine lv_iconst (v := -1) hx hb dX7_count_36 (by decide) ?_
        exact hret hf hI dX7_count_37
    · have hf := o_pos hf c3
      refine lv_aload_n hx hb dX7_count_25 rfl (lv_at hl 0 rfl) ?_
      refine m_get (v := .int (gI σ 5)) X hI hc 5 (by decide) q2663 rfl dX7_count_26 ?_
      exact hret hf hI dX7_count_29
  · have hf := o_neg hf c2
    refine lv_aload_n hx hb dX7_count_12 rfl (lv_at hl 0 rfl) ?_
    refine m_get (v := .ref (A 1)) X hI hc 1 (by decide) q2659 rfl dX7_count_13 ?_
    refine lv_iload_n hx hb dX7_count_16 rfl (lv_at hl 1 rfl) ?_
    obtain ⟨g5, hf⟩ := grd_some hf
    refine m_iald X hI 1 1 76 rfl rfl g5 dX7_count_17 ?_
    exact hret hf hI dX7_count_18
/-! row -/
def f7_row_b52 (K52 : Int32 → Int32 → MS → oI Int32) (x1 : Int32) (x4 : Int32) (σ : MS) : oI Int32 :=
  if 60 ≤ x4 then (some (0, σ)) else (grd (inB (((60 : Int32) * x1) + x4) 240) <|
  nxt (sB σ 40 (((60 : Int32) * x1) + x4).toNatClampNeg 0) fun σ13 =>
  K52 x1 (x4 + 1) σ13)
def f7_row_l52 : Nat → Int32 → Int32 → MS → oI Int32
  | 0 => fun _ _ _ => none
  | n + 1 => fun x1 x4 σ => f7_row_b52 (f7_row_l52 n) x1 x4 σ
def f7_row (p0 : Int32) (p1 : Int32) (p2 : Int32) (σ : MS) : oI Int32 :=
  bn1 (f7_isSlot p0) fun r1 =>
  if r1 = 0 then (some ((-2), σ)) else (bn1 (f7_in p1.toInt64 0 3) fun r3 =>
  if r3 = 0 then (some ((-2), σ)) else (if p2 ≤ 60 then (if 0 ≤ p2 then (grd (inB p0 4) <|
  nxt (sA σ 38 p0.toNatClampNeg p2) fun σ8 =>
  grd (inB p0 4) <|
  nxt (sA σ8 39 p0.toNatClampNeg p1) fun σ10 =>
  f7_row_l52 FU p0 0 σ10) else (some ((-3), σ))) else (some ((-2), σ))))
abbrev r7_row : Room := { frames := 2, cells := 0, slots := 0, locals := 45 }
theorem m7_row (l : Launch) (D : va_G) (cl : vC2) (Z : (Nat → Prop) → State → Heap → Prop) (hz : ZK Z) (ci : Nat) (A : Nat → Nat) (d : Nat → ClassId) (tm : List (ClassId × FieldType)) (hc : cl.1[ci]? = some (RX7, TX7, 42)) (p0 : Int32) (p1 : Int32) (p2 : Int32) (σ : MS) (r : Int32) (σ' : MS) (hf : f7_row p0 p1 p2 σ = some (r, σ')) : MMi l yX7_row (ws_ yX7_row cX7_row 5 (some .int)) r7_row D cl Z ci A d tm σ [.int p0, .int p1, .int p2] r σ' := by
  refine m_openi hz (by decide) (by exact Nat.le_of_ble_eq_true rfl) (fun p e s m args below meth c ls A0 Q X hI hl hret => ?_)
  have X : XC p s m args meth c cX7_row 5 RX7 D cl (mty d tm) A0 Z := X
  have hx := X.1
  have hb := X.2.1
  have hown := X.2.2.2.1
  have hts := X.2.2.2.2.1
  have L52 : ∀ (n : Nat) (x1 : Int32) (x4 : Int32) (σ : MS), f7_row_l52 n x1 x4 σ = some (r, σ') → ∀ (H : Heap) (locs : List Loc), XI D cl (mw ci A d σ) A0 s.heap H locs → ∀ (ls : Array Slot), lv_has ls 5 [(0, .ref (A 0)), (1, .int x1), (4, .int x4)] → W p l e r7_row s m args below meth c H locs 0 0 Q (F0 m 52 ls []) := by
    intro n52
    induction n52 with
    | zero => intro x1 x4 σ hf; cases hf
    | succ n52 ih52 =>
      intro x1 x4 σ hf H locs hI ls hl
      have hf : f7_row_b52 (f7_row_l52 n52) x1 x4 σ = some (r, σ') := hf
      unfold f7_row_b52 at hf
      refine lv_iload hx hb dX7_row_52 (lv_at hl 2 rfl) ?_
      refine lv_bipush (v := 60) hx hb dX7_row_54 (by decide) ?_
      refine lv_icmp_ge (tgt := 78) hx hb dX7_row_56 (by decide) (fun c11 => ?_) (fun c11 => ?_)
      · have hf := o_pos hf c11
        refine lv_iconst (v := 0) hx hb dX7_row_78 (by decide) ?_
        exact hret hf hI dX7_row_79
      · have hf := o_neg hf c11
        refine lv_aload_n hx hb dX7_row_59 rfl (lv_at hl 0 rfl) ?_
        refine m_get (v := .ref (A 40)) X hI hc 40 (by decide) q2698 rfl dX7_row_60 ?_
        refine lv_bipush (v := 60) hx hb dX7_row_63 (by decide) ?_
        refine lv_iload_n hx hb dX7_row_65 rfl (lv_at hl 1 rfl) ?_
        refine lv_imul hx hb dX7_row_66 ?_
        refine lv_iload hx hb dX7_row_67 (lv_at hl 2 rfl) ?_
        refine lv_iadd hx hb dX7_row_69 ?_
        refine lv_lconst (v := 0) hx hb dX7_row_70 (by decide) ?_
        obtain ⟨g12, hf⟩ := grd_some hf
        refine m_last X hI 40 17 240 rfl rfl g12 rfl dX7_row_71 (fun H locs hI => ?_)
        obtain ⟨σ13, eσ13, hf⟩ := nxt_some hf
        rw [← eσ13] at hI
        clear eσ13
        refine lv_iinc (v := x4 + 1) (lv' := [(4, .int (x4 + 1)), (0, .ref (A 0)), (1, .int x1)]) hx hb dX7_row_72 hl (k := 2) rfl rfl (by decide) rfl (fun ls hl => ?_)
        refine lv_goto (tgt := 52) hx hb dX7_row_75 (by decide) ?_
        exact ih52 x1 (x4 + 1) σ13 hf H locs hI ls (lv_sub hl [1, 2, 0] rfl)
  have hl : lv_has ls 5 [(0, .ref (A 0)), (1, .int p0), (2, .int p1), (3, .int p2)] := hl
  unfold f7_row at hf
  obtain ⟨H, eH⟩ : ∃ H, H = s.heap := ⟨_, rfl⟩
  obtain ⟨locs, eL⟩ : ∃ locs : List Loc, locs = [] := ⟨_, rfl⟩
  have hI : XI D cl (mw ci A d σ) A0 s.heap H locs := by rw [eH, eL]; exact hI
  rw [← eL]
  suffices h : W p l e r7_row s m args below meth c H locs 0 0 Q (F0 m 0 ls []) by rw [eH] at h; exact h
  clear eH eL
  refine lv_iload_n hx hb dX7_row_0 rfl (lv_at hl 1 rfl) ?_
  obtain ⟨r1, hr1, hf⟩ := bn1_some hf
  refine x_callSi (As := [.int p0]) X hI (m7_isSlot l p0 r1 hr1) (cw7_isSlot hts ⟨Nat.le_of_ble_eq_true rfl, Nat.le_of_ble_eq_true rfl⟩) rfl hl.1 (Nat.le_of_ble_eq_true rfl) rfl dX7_row_1 ⟨Nat.le_of_ble_eq_true rfl, Nat.le_of_ble_eq_true rfl⟩ (fun H locs hI => ?_)
  refine lv_if_eq (tgt := 25) hx hb dX7_row_4 (by decide) (fun c2 => ?_) (fun c2 => ?_)
  · have hf := o_pos hf c2
    refine lv_bipush (v := -2) hx hb dX7_row_25 (by decide) ?_
    exact hret hf hI dX7_row_27
  · have hf := o_neg hf c2
    refine lv_iload_n hx hb dX7_row_7 rfl (lv_at hl 2 rfl) ?_
    refine lv_i2l hx hb dX7_row_8 rfl ?_
    refine lv_lconst (v := 0) hx hb dX7_row_9 (by decide) ?_
    refine lv_ldc2 (v := 3) hx hb hown (hts _ q2974) dX7_row_10 ?_
    obtain ⟨r3, hr3, hf⟩ := bn1_some hf
    refine x_callSi (As := [.long p1.toInt64, .long 0, .long 3]) X hI (m7_in l p1.toInt64 0 3 r3 hr3) (cw7_in hts ⟨Nat.le_of_ble_eq_true rfl, Nat.le_of_ble_eq_true rfl⟩) rfl hl.1 (Nat.le_of_ble_eq_true rfl) rfl dX7_row_13 ⟨Nat.le_of_ble_eq_true rfl, Nat.le_of_ble_eq_true rfl⟩ (fun H locs hI => ?_)
    refine lv_if_eq (tgt := 25) hx hb dX7_row_16 (by decide) (fun c4 => ?_) (fun c4 => ?_)
    · have hf := o_pos hf c4
      refine lv_bipush (v := -2) hx hb dX7_row_25 (by decide) ?_
      exact hret hf hI dX7_row_27
    · have hf := o_neg hf c4
      refine lv_iload_n hx hb dX7_row_19 rfl (lv_at hl 3 rfl) ?_
      refine lv_bipush (v := 60) hx hb dX7_row_20 (by decide) ?_
      refine lv_icmp_le (tgt := 28) hx hb dX7_row_22 (by decide) (fun c5 => ?_) (fun c5 => ?_)
      · have hf := o_pos hf c5
        refine lv_iload_n hx hb dX7_row_28 rfl (lv_at hl 3 rfl) ?_
        refine lv_if_ge (tgt := 35) hx hb dX7_row_29 (by decide) (fun c6 => ?_) (fun c6 => ?_)
        · have hf := o_pos hf c6
          refine lv_aload_n hx hb dX7_row_35 rfl (lv_at hl 0 rfl) ?_
          refine m_get (v := .ref (A 38)) X hI hc 38 (by decide) q2696 rfl dX7_row_36 ?_
          refine lv_iload_n hx hb dX7_row_39 rfl (lv_at hl 1 rfl) ?_
          refine lv_iload_n hx hb dX7_row_40 rfl (lv_at hl 3 rfl) ?_
          obtain ⟨g7, hf⟩ := grd_some hf
          refine m_iast X hI 38 15 4 rfl rfl g7 rfl dX7_row_41 (fun H locs hI => ?_)
          obtain ⟨σ8, eσ8, hf⟩ := nxt_some hf
          rw [← eσ8] at hI
          clear eσ8
          refine lv_aload_n hx hb dX7_row_42 rfl (lv_at hl 0 rfl) ?_
          refine m_get (v := .ref (A 39)) X hI hc 39 (by decide) q2697 rfl dX7_row_43 ?_
          refine lv_iload_n hx hb dX7_row_46 rfl (lv_at hl 1 rfl) ?_
          refine lv_iload_n hx hb dX7_row_47 rfl (lv_at hl 2 rfl) ?_
          obtain ⟨g9, hf⟩ := grd_some hf
          refine m_iast X hI 39 16 4 rfl rfl g9 rfl dX7_row_48 (fun H locs hI => ?_)
          obtain ⟨σ10, eσ10, hf⟩ := nxt_some hf
          rw [← eσ10] at hI
          clear eσ10
          refine lv_iconst (v := 0) hx hb dX7_row_49 (by decide) ?_
          refine lv_istore (lv' := [(4, .int 0), (0, .ref (A 0)), (1, .int p0), (2, .int p1), (3, .int p2)]) hx hb dX7_row_50 hl (by decide) rfl (fun ls hl => ?_)
          exact L52 FU p0 0 σ10 hf H locs hI ls (lv_sub hl [1, 2, 0] rfl)
        · have hf := o_neg hf c6
          refine lv_bipush (v := -3) hx hb dX7_row_32 (by decide) ?_
          exact hret hf hI dX7_row_34
      · have hf := o_neg hf c5
        refine lv_bipush (v := -2) hx hb dX7_row_25 (by decide) ?_
        exact hret hf hI dX7_row_27
/-! clipped -/
def f7_clipped (p0 : Int64) (p1 : Int32) : Option Int64 :=
  nxt ((64 : Int32) - ((8 : Int32) <<< (p1 &&& 31))) fun v1 =>
  some ((p0 <<< (v1.toInt64 &&& 63)) >>> (v1.toInt64 &&& 63))
abbrev r7_clipped : Room := { frames := 0, cells := 0, slots := 0, locals := 0 }
theorem cw7_clipped {R : Room} {s : State} {args : Array Value} (ht : ∀ w ∈ lw_all, w.before args s = true) (hR : r7_clipped.frames + 1 ≤ R.frames ∧ 8 + (4 + 11) + r7_clipped.locals ≤ R.locals) : CallB R s args RX7 525 yX7_clipped cX7_clipped 4 (some .long) (ws_ yX7_clipped cX7_clipped 4 (some .long)) r7_clipped 0 0 2 ∧ (Cond.static yX7_clipped).before args s = true :=
  va_cwS 2 ht (lw_S q3489 q3490 q178 q3491) rfl rfl rfl (by decide +kernel) hR
theorem m7_clipped (l : Launch) (p0 : Int64) (p1 : Int32) (r : Int64) (hf : f7_clipped p0 p1 = some r) : XPl l yX7_clipped (ws_ yX7_clipped cX7_clipped 4 (some .long)) r7_clipped [.long p0, .int p1] r := by
  refine s_openl (by decide) (by exact Nat.le_of_ble_eq_true rfl) (fun p e s m args below meth c ls A0 Q D cl tys X hI hl hret => ?_)
  have X : XC p s m args meth c cX7_clipped 4 RX7 D cl tys A0 ZT := X
  have hx := X.1
  have hb := X.2.1
  have hown := X.2.2.2.1
  have hts := X.2.2.2.2.1
  have hl : lv_has ls 4 [(0, .long p0), (2, .int p1)] := hl
  unfold f7_clipped at hf
  obtain ⟨H, eH⟩ : ∃ H, H = s.heap := ⟨_, rfl⟩
  obtain ⟨locs, eL⟩ : ∃ locs : List Loc, locs = [] := ⟨_, rfl⟩
  have hI : XI D cl [] A0 s.heap H locs := by rw [eH, eL]; exact hI
  rw [← eL]
  suffices h : W p l e r7_clipped s m args below meth c H locs 0 0 Q (F0 m 0 ls []) by rw [eH] at h; exact h
  clear eH eL
  refine lv_bipush (v := 64) hx hb dX7_clipped_0 (by decide) ?_
  refine lv_bipush (v := 8) hx hb dX7_clipped_2 (by decide) ?_
  refine lv_iload_n hx hb dX7_clipped_4 rfl (lv_at hl 1 rfl) ?_
  refine lv_ishl hx hb dX7_clipped_5 ?_
  refine lv_isub hx hb dX7_clipped_6 ?_
  obtain ⟨v1, ev1, hf⟩ := nxt_some hf
  rw [← ev1]
  clear ev1
  refine lv_istore_n (lv' := [(3, .int v1), (0, .long p0), (2, .int p1)]) hx hb dX7_clipped_7 rfl hl (by decide) rfl (fun ls hl => ?_)
  refine lv_lload_n hx hb dX7_clipped_8 rfl (lv_at hl 1 rfl) ?_
  refine lv_iload_n hx hb dX7_clipped_9 rfl (lv_at hl 0 rfl) ?_
  refine lv_lshl hx hb dX7_clipped_10 rfl ?_
  refine lv_iload_n hx hb dX7_clipped_11 rfl (lv_at hl 0 rfl) ?_
  refine lv_lshr hx hb dX7_clipped_12 rfl ?_
  exact hret hf hI dX7_clipped_13
/-! write -/
def f7_write (p0 : Int32) (p1 : Int32) (p2 : Int64) (σ : MS) : oI Int32 :=
  bn1 (f7_isSlot p0) fun r1 =>
  if r1 = 0 then (some ((-2), σ)) else (grd (inB p0 4) <|
  if (gA σ 38 p0.toNatClampNeg) = (-1) then (some ((-6), σ)) else (grd (inB p0 4) <|
  bn1 (f7_in p1.toInt64 0 (((gA σ 38 p0.toNatClampNeg) - 1).toInt64)) fun r6 =>
  if r6 = 0 then (some ((-7), σ)) else (grd (inB p0 4) <|
  bn1 (f7_clipped p2 (gA σ 39 p0.toNatClampNeg)) fun r9 =>
  grd (inB (((60 : Int32) * p0) + p1) 240) <|
  nxt (sB σ 40 (((60 : Int32) * p0) + p1).toNatClampNeg r9) fun σ11 =>
  some (0, σ11))))
abbrev r7_write : Room := { frames := 2, cells := 0, slots := 0, locals := 45 }
theorem m7_write (l : Launch) (D : va_G) (cl : vC2) (Z : (Nat → Prop) → State → Heap → Prop) (hz : ZK Z) (ci : Nat) (A : Nat → Nat) (d : Nat → ClassId) (tm : List (ClassId × FieldType)) (hc : cl.1[ci]? = some (RX7, TX7, 42)) (p0 : Int32) (p1 : Int32) (p2 : Int64) (σ : MS) (r : Int32) (σ' : MS) (hf : f7_write p0 p1 p2 σ = some (r, σ')) : MMi l yX7_write (ws_ yX7_write cX7_write 5 (some .int)) r7_write D cl Z ci A d tm σ [.int p0, .int p1, .long p2] r σ' := by
  refine m_openi hz (by decide) (by exact Nat.le_of_ble_eq_true rfl) (fun p e s m args below meth c ls A0 Q X hI hl hret => ?_)
  have X : XC p s m args meth c cX7_write 5 RX7 D cl (mty d tm) A0 Z := X
  have hx := X.1
  have hb := X.2.1
  have hown := X.2.2.2.1
  have hts := X.2.2.2.2.1
  have hl : lv_has ls 5 [(0, .ref (A 0)), (1, .int p0), (2, .int p1), (3, .long p2)] := hl
  unfold f7_write at hf
  obtain ⟨H, eH⟩ : ∃ H, H = s.heap := ⟨_, rfl⟩
  obtain ⟨locs, eL⟩ : ∃ locs : List Loc, locs = [] := ⟨_, rfl⟩
  have hI : XI D cl (mw ci A d σ) A0 s.heap H locs := by rw [eH, eL]; exact hI
  rw [← eL]
  suffices h : W p l e r7_write s m args below meth c H locs 0 0 Q (F0 m 0 ls []) by rw [eH] at h; exact h
  clear eH eL
  refine lv_iload_n hx hb dX7_write_0 rfl (lv_at hl 1 rfl) ?_
  obtain ⟨r1, hr1, hf⟩ := bn1_some hf
  refine x_callSi (As := [.int p0]) X hI (m7_isSlot l p0 r1 hr1) (cw7_isSlot hts ⟨Nat.le_of_ble_eq_true rfl, Nat.le_of_ble_eq_true rfl⟩) rfl hl.1 (Nat.le_of_ble_eq_true rfl) rfl dX7_write_1 ⟨Nat.le_of_ble_eq_true rfl, Nat.le_of_ble_eq_true rfl⟩ (fun H locs hI => ?_)
  refine lv_if_ne (tgt := 10) hx hb dX7_write_4 (by decide) (fun c2 => ?_) (fun c2 => ?_)
  · have hf := o_neg hf c2
    refine lv_aload_n hx hb dX7_write_10 rfl (lv_at hl 0 rfl) ?_
    refine m_get (v := .ref (A 38)) X hI hc 38 (by decide) q2696 rfl dX7_write_11 ?_
    refine lv_iload_n hx hb dX7_write_14 rfl (lv_at hl 1 rfl) ?_
    obtain ⟨g3, hf⟩ := grd_some hf
    refine m_iald X hI 38 15 4 rfl rfl g3 dX7_write_15 ?_
    refine lv_iconst (v := -1) hx hb dX7_write_16 (by decide) ?_
    refine lv_icmp_ne (tgt := 23) hx hb dX7_write_17 (by decide) (fun c4 => ?_) (fun c4 => ?_)
    · have hf := o_neg hf c4
      refine lv_iload_n hx hb dX7_write_23 rfl (lv_at hl 2 rfl) ?_
      refine lv_i2l hx hb dX7_write_24 rfl ?_
      refine lv_lconst (v := 0) hx hb dX7_write_25 (by decide) ?_
      refine lv_aload_n hx hb dX7_write_26 rfl (lv_at hl 0 rfl) ?_
      refine m_get (v := .ref (A 38)) X hI hc 38 (by decide) q2696 rfl dX7_write_27 ?_
      refine lv_iload_n hx hb dX7_write_30 rfl (lv_at hl 1 rfl) ?_
      obtain ⟨g5, hf⟩ := grd_some hf
      refine m_iald X hI 38 15 4 rfl rfl g5 dX7_write_31 ?_
      refine lv_iconst (v := 1) hx hb dX7_write_32 (by decide) ?_
      refine lv_isub hx hb dX7_write_33 ?_
      refine lv_i2l hx hb dX7_write_34 rfl ?_
      obtain ⟨r6, hr6, hf⟩ := bn1_some hf
      refine x_callSi (As := [.long p1.toInt64, .long 0, .long (((gA σ 38 p0.toNatClampNeg) - 1).toInt64)]) X hI (m7_in l p1.toInt64 0 (((gA σ 38 p0.toNatClampNeg) - 1).toInt64) r6 hr6) (cw7_in hts ⟨Nat.le_of_ble_eq_true rfl, Nat.le_of_ble_eq_true rfl⟩) rfl hl.1 (Nat.le_of_ble_eq_true rfl) rfl dX7_write_35 ⟨Nat.le_of_ble_eq_true rfl, Nat.le_of_ble_eq_true rfl⟩ (fun H locs hI => ?_)
      refine lv_if_ne (tgt := 44) hx hb dX7_write_38 (by decide) (fun c7 => ?_) (fun c7 => ?_)
      · have hf := o_neg hf c7
        refine lv_aload_n hx hb dX7_write_44 rfl (lv_at hl 0 rfl) ?_
        refine m_get (v := .ref (A 40)) X hI hc 40 (by decide) q2698 rfl dX7_write_45 ?_
        refine lv_bipush (v := 60) hx hb dX7_write_48 (by decide) ?_
        refine lv_iload_n hx hb dX7_write_50 rfl (lv_at hl 1 rfl) ?_
        refine lv_imul hx hb dX7_write_51 ?_
        refine lv_iload_n hx hb dX7_write_52 rfl (lv_at hl 2 rfl) ?_
        refine lv_iadd hx hb dX7_write_53 ?_
        refine lv_lload_n hx hb dX7_write_54 rfl (lv_at hl 3 rfl) ?_
        refine lv_aload_n hx hb dX7_write_55 rfl (lv_at hl 0 rfl) ?_
        refine m_get (v := .ref (A 39)) X hI hc 39 (by decide) q2697 rfl dX7_write_56 ?_
        refine lv_iload_n hx hb dX7_write_59 rfl (lv_at hl 1 rfl) ?_
        obtain ⟨g8, hf⟩ := grd_some hf
        refine m_iald X hI 39 16 4 rfl rfl g8 dX7_write_60 ?_
        obtain ⟨r9, hr9, hf⟩ := bn1_some hf
        refine x_callSl (As := [.long p2, .int (gA σ 39 p0.toNatClampNeg)]) X hI (m7_clipped l p2 (gA σ 39 p0.toNatClampNeg) r9 hr9) (cw7_clipped hts ⟨Nat.le_of_ble_eq_true rfl, Nat.le_of_ble_eq_true rfl⟩) rfl hl.1 (Nat.le_of_ble_eq_true rfl) rfl dX7_write_61 ⟨Nat.le_of_ble_eq_true rfl, Nat.le_of_ble_eq_true rfl⟩ (fun H locs hI => ?_)
        obtain ⟨g10, hf⟩ := grd_some hf
        refine m_last X hI 40 17 240 rfl rfl g10 rfl dX7_write_64 (fun H locs hI => ?_)
        obtain ⟨σ11, eσ11, hf⟩ := nxt_some hf
        rw [← eσ11] at hI
        clear eσ11
        refine lv_iconst (v := 0) hx hb dX7_write_65 (by decide) ?_
        exact hret hf hI dX7_write_66
      · have hf := o_pos hf c7
        refine lv_bipush (v := -7) hx hb dX7_write_41 (by decide) ?_
        exact hret hf hI dX7_write_43
    · have hf := o_pos hf c4
      refine lv_bipush (v := -6) hx hb dX7_write_20 (by decide) ?_
      exact hret hf hI dX7_write_22
  · have hf := o_pos hf c2
    refine lv_bipush (v := -2) hx hb dX7_write_7 (by decide) ?_
    exact hret hf hI dX7_write_9
/-! paste -/
def f7_paste_b150 (K150 : Int32 → Int32 → Int32 → Int32 → MS → oI Int32) (x3 : Int32) (x4 : Int32) (x5 : Int32) (x6 : Int32) (σ : MS) : oI Int32 :=
  if x5 ≤ x6 then (some (0, σ)) else (grd (inB x6 60) <|
  grd (inB ((((60 : Int32) * x3) + x4) + x6) 240) <|
  nxt (sB σ 40 ((((60 : Int32) * x3) + x4) + x6).toNatClampNeg (gB σ 41 x6.toNatClampNeg)) fun σ26 =>
  K150 x3 x4 x5 (x6 + 1) σ26)
def f7_paste_l150 : Nat → Int32 → Int32 → Int32 → Int32 → MS → oI Int32
  | 0 => fun _ _ _ _ _ => none
  | n + 1 => fun x3 x4 x5 x6 σ => f7_paste_b150 (f7_paste_l150 n) x3 x4 x5 x6 σ
def f7_paste_b113 (K113 : Int32 → Int32 → Int32 → Int32 → Int32 → Int32 → MS → oI Int32) (x1 : Int32) (x2 : Int32) (x3 : Int32) (x4 : Int32) (x5 : Int32) (x6 : Int32) (σ : MS) : oI Int32 :=
  if x5 ≤ x6 then (f7_paste_l150 FU x3 x4 x5 0 σ) else (grd (inB ((((60 : Int32) * x1) + x2) + x6) 240) <|
  grd (inB x6 60) <|
  nxt (sB σ 41 x6.toNatClampNeg (gB σ 40 ((((60 : Int32) * x1) + x2) + x6).toNatClampNeg)) fun σ22 =>
  K113 x1 x2 x3 x4 x5 (x6 + 1) σ22)
def f7_paste_l113 : Nat → Int32 → Int32 → Int32 → Int32 → Int32 → Int32 → MS → oI Int32
  | 0 => fun _ _ _ _ _ _ _ => none
  | n + 1 => fun x1 x2 x3 x4 x5 x6 σ => f7_paste_b113 (f7_paste_l113 n) x1 x2 x3 x4 x5 x6 σ
def f7_paste (p0 : Int32) (p1 : Int32) (p2 : Int32) (p3 : Int32) (p4 : Int32) (σ : MS) : oI Int32 :=
  bn1 (f7_isSlot p0) fun r1 =>
  if r1 = 0 then (some ((-2), σ)) else (bn1 (f7_isSlot p2) fun r3 =>
  if r3 = 0 then (some ((-2), σ)) else (grd (inB p0 4) <|
  if (gA σ 38 p0.toNatClampNeg) = (-1) then (some ((-6), σ)) else (grd (inB p2 4) <|
  if (gA σ 38 p2.toNatClampNeg) = (-1) then (some ((-6), σ)) else (grd (inB p0 4) <|
  grd (inB p2 4) <|
  if (gA σ 39 p0.toNatClampNeg) = (gA σ 39 p2.toNatClampNeg) then (if p1 < 0 then (some ((-7), σ)) else (if p3 < 0 then (some ((-7), σ)) else (if p4 < 0 then (some ((-7), σ)) else (grd (inB p0 4) <|
  if 0 < (lg_cmp (p1.toInt64 + p4.toInt64) ((gA σ 38 p0.toNatClampNeg).toInt64)) then (some ((-7), σ)) else (grd (inB p2 4) <|
  if (lg_cmp (p3.toInt64 + p4.toInt64) ((gA σ 38 p2.toNatClampNeg).toInt64)) ≤ 0 then (f7_paste_l113 FU p0 p1 p2 p3 p4 0 σ) else (some ((-7), σ))))))) else (some ((-8), σ))))))
abbrev r7_paste : Room := { frames := 2, cells := 0, slots := 0, locals := 45 }
theorem m7_paste (l : Launch) (D : va_G) (cl : vC2) (Z : (Nat → Prop) → State → Heap → Prop) (hz : ZK Z) (ci : Nat) (A : Nat → Nat) (d : Nat → ClassId) (tm : List (ClassId × FieldType)) (hc : cl.1[ci]? = some (RX7, TX7, 42)) (p0 : Int32) (p1 : Int32) (p2 : Int32) (p3 : Int32) (p4 : Int32) (σ : MS) (r : Int32) (σ' : MS) (hf : f7_paste p0 p1 p2 p3 p4 σ = some (r, σ')) : MMi l yX7_paste (ws_ yX7_paste cX7_paste 7 (some .int)) r7_paste D cl Z ci A d tm σ [.int p0, .int p1, .int p2, .int p3, .int p4] r σ' := by
  refine m_openi hz (by decide) (by exact Nat.le_of_ble_eq_true rfl) (fun p e s m args below meth c ls A0 Q X hI hl hret => ?_)
  have X : XC p s m args meth c cX7_paste 7 RX7 D cl (mty d tm) A0 Z := X
  have hx := X.1
  have hb := X.2.1
  have hown := X.2.2.2.1
  have hts := X.2.2.2.2.1
  have L150 : ∀ (n : Nat) (x3 : Int32) (x4 : Int32) (x5 : Int32) (x6 : Int32) (σ : MS), f7_paste_l150 n x3 x4 x5 x6 σ = some (r, σ') → ∀ (H : Heap) (locs : List Loc), XI D cl (mw ci A d σ) A0 s.heap H locs → ∀ (ls : Array Slot), lv_has ls 7 [(0, .ref (A 0)), (3, .int x3), (4, .int x4), (5, .int x5), (6, .int x6)] → W p l e r7_paste s m args below meth c H locs 0 0 Q (F0 m 150 ls []) := by
    intro n150
    induction n150 with
    | zero => intro x3 x4 x5 x6 σ hf; cases hf
    | succ n150 ih150 =>
      intro x3 x4 x5 x6 σ hf H locs hI ls hl
      have hf : f7_paste_b150 (f7_paste_l150 n150) x3 x4 x5 x6 σ = some (r, σ') := hf
      unfold f7_paste_b150 at hf
      refine lv_iload hx hb dX7_paste_150 (lv_at hl 4 rfl) ?_
      refine lv_iload hx hb dX7_paste_152 (lv_at hl 3 rfl) ?_
      refine lv_icmp_ge (tgt := 185) hx hb dX7_paste_154 (by decide) (fun c23 => ?_) (fun c23 => ?_)
      · have hf := o_pos hf c23
        refine lv_iconst (v := 0) hx hb dX7_paste_185 (by decide) ?_
        exact hret hf hI dX7_paste_186
      · have hf := o_neg hf c23
        refine lv_aload_n hx hb dX7_paste_157 rfl (lv_at hl 0 rfl) ?_
        refine m_get (v := .ref (A 40)) X hI hc 40 (by decide) q2698 rfl dX7_paste_158 ?_
        refine lv_bipush (v := 60) hx hb dX7_paste_161 (by decide) ?_
        refine lv_iload_n hx hb dX7_paste_163 rfl (lv_at hl 1 rfl) ?_
        refine lv_imul hx hb dX7_paste_164 ?_
        refine lv_iload hx hb dX7_paste_165 (lv_at hl 2 rfl) ?_
        refine lv_iadd hx hb dX7_paste_167 ?_
        refine lv_iload hx hb dX7_paste_168 (lv_at hl 4 rfl) ?_
        refine lv_iadd hx hb dX7_paste_170 ?_
        refine lv_aload_n hx hb dX7_paste_171 rfl (lv_at hl 0 rfl) ?_
        refine m_get (v := .ref (A 41)) X hI hc 41 (by decide) q2699 rfl dX7_paste_172 ?_
        refine lv_iload hx hb dX7_paste_175 (lv_at hl 4 rfl) ?_
        obtain ⟨g24, hf⟩ := grd_some hf
        refine m_lald X hI 41 18 60 rfl rfl g24 dX7_paste_177 ?_
        obtain ⟨g25, hf⟩ := grd_some hf
        refine m_last X hI 40 17 240 rfl rfl g25 rfl dX7_paste_178 (fun H locs hI => ?_)
        obtain ⟨σ26, eσ26, hf⟩ := nxt_some hf
        rw [← eσ26] at hI
        clear eσ26
        refine lv_iinc (v := x6 + 1) (lv' := [(6, .int (x6 + 1)), (0, .ref (A 0)), (3, .int x3), (4, .int x4), (5, .int x5)]) hx hb dX7_paste_179 hl (k := 4) rfl rfl (by decide) rfl (fun ls hl => ?_)
        refine lv_goto (tgt := 150) hx hb dX7_paste_182 (by decide) ?_
        exact ih150 x3 x4 x5 (x6 + 1) σ26 hf H locs hI ls (lv_sub hl [1, 2, 3, 4, 0] rfl)
  have L113 : ∀ (n : Nat) (x1 : Int32) (x2 : Int32) (x3 : Int32) (x4 : Int32) (x5 : Int32) (x6 : Int32) (σ : MS), f7_paste_l113 n x1 x2 x3 x4 x5 x6 σ = some (r, σ') → ∀ (H : Heap) (locs : List Loc), XI D cl (mw ci A d σ) A0 s.heap H locs → ∀ (ls : Array Slot), lv_has ls 7 [(0, .ref (A 0)), (1, .int x1), (2, .int x2), (3, .int x3), (4, .int x4), (5, .int x5), (6, .int x6)] → W p l e r7_paste s m args below meth c H locs 0 0 Q (F0 m 113 ls []) := by
    intro n113
    induction n113 with
    | zero => intro x1 x2 x3 x4 x5 x6 σ hf; cases hf
    | succ n113 ih113 =>
      intro x1 x2 x3 x4 x5 x6 σ hf H locs hI ls hl
      have hf : f7_paste_b113 (f7_paste_l113 n113) x1 x2 x3 x4 x5 x6 σ = some (r, σ') := hf
      unfold f7_paste_b113 at hf
      refine lv_iload hx hb dX7_paste_113 (lv_at hl 6 rfl) ?_
      refine lv_iload hx hb dX7_paste_115 (lv_at hl 5 rfl) ?_
      refine lv_icmp_ge (tgt := 147) hx hb dX7_paste_117 (by decide) (fun c19 => ?_) (fun c19 => ?_)
      · have hf := o_pos hf c19
        refine lv_iconst (v := 0) hx hb dX7_paste_147 (by decide) ?_
        refine lv_istore (lv' := [(6, .int 0), (0, .ref (A 0)), (1, .int x1), (2, .int x2), (3, .int x3), (4, .int x4), (5, .int x5)]) hx hb dX7_paste_148 hl (by decide) rfl (fun ls hl => ?_)
        exact L150 FU x3 x4 x5 0 σ hf H locs hI ls (lv_sub hl [1, 4, 5, 6, 0] rfl)
      · have hf := o_neg hf c19
        refine lv_aload_n hx hb dX7_paste_120 rfl (lv_at hl 0 rfl) ?_
        refine m_get (v := .ref (A 41)) X hI hc 41 (by decide) q2699 rfl dX7_paste_121 ?_
        refine lv_iload hx hb dX7_paste_124 (lv_at hl 6 rfl) ?_
        refine lv_aload_n hx hb dX7_paste_126 rfl (lv_at hl 0 rfl) ?_
        refine m_get (v := .ref (A 40)) X hI hc 40 (by decide) q2698 rfl dX7_paste_127 ?_
        refine lv_bipush (v := 60) hx hb dX7_paste_130 (by decide) ?_
        refine lv_iload_n hx hb dX7_paste_132 rfl (lv_at hl 1 rfl) ?_
        refine lv_imul hx hb dX7_paste_133 ?_
        refine lv_iload_n hx hb dX7_paste_134 rfl (lv_at hl 2 rfl) ?_
        refine lv_iadd hx hb dX7_paste_135 ?_
        refine lv_iload hx hb dX7_paste_136 (lv_at hl 6 rfl) ?_
        refine lv_iadd hx hb dX7_paste_138 ?_
        obtain ⟨g20, hf⟩ := grd_some hf
        refine m_lald X hI 40 17 240 rfl rfl g20 dX7_paste_139 ?_
        obtain ⟨g21, hf⟩ := grd_some hf
        refine m_last X hI 41 18 60 rfl rfl g21 rfl dX7_paste_140 (fun H locs hI => ?_)
        obtain ⟨σ22, eσ22, hf⟩ := nxt_some hf
        rw [← eσ22] at hI
        clear eσ22
        refine lv_iinc (v := x6 + 1) (lv' := [(6, .int (x6 + 1)), (0, .ref (A 0)), (1, .int x1), (2, .int x2), (3, .int x3), (4, .int x4), (5, .int x5)]) hx hb dX7_paste_141 hl (k := 6) rfl rfl (by decide) rfl (fun ls hl => ?_)
        refine lv_goto (tgt := 113) hx hb dX7_paste_144 (by decide) ?_
        exact ih113 x1 x2 x3 x4 x5 (x6 + 1) σ22 hf H locs hI ls (lv_sub hl [1, 2, 3, 4, 5, 6, 0] rfl)
  have hl : lv_has ls 7 [(0, .ref (A 0)), (1, .int p0), (2, .int p1), (3, .int p2), (4, .int p3), (5, .int p4)] := hl
  unfold f7_paste at hf
  obtain ⟨H, eH⟩ : ∃ H, H = s.heap := ⟨_, rfl⟩
  obtain ⟨locs, eL⟩ : ∃ locs : List Loc, locs = [] := ⟨_, rfl⟩
  have hI : XI D cl (mw ci A d σ) A0 s.heap H locs := by rw [eH, eL]; exact hI
  rw [← eL]
  suffices h : W p l e r7_paste s m args below meth c H locs 0 0 Q (F0 m 0 ls []) by rw [eH] at h; exact h
  clear eH eL
  refine lv_iload_n hx hb dX7_paste_0 rfl (lv_at hl 1 rfl) ?_
  obtain ⟨r1, hr1, hf⟩ := bn1_some hf
  refine x_callSi (As := [.int p0]) X hI (m7_isSlot l p0 r1 hr1) (cw7_isSlot hts ⟨Nat.le_of_ble_eq_true rfl, Nat.le_of_ble_eq_true rfl⟩) rfl hl.1 (Nat.le_of_ble_eq_true rfl) rfl dX7_paste_1 ⟨Nat.le_of_ble_eq_true rfl, Nat.le_of_ble_eq_true rfl⟩ (fun H locs hI => ?_)
  refine lv_if_eq (tgt := 14) hx hb dX7_paste_4 (by decide) (fun c2 => ?_) (fun c2 => ?_)
  · have hf := o_pos hf c2
    refine lv_bipush (v := -2) hx hb dX7_paste_14 (by decide) ?_
    exact hret hf hI dX7_paste_16
  · have hf := o_neg hf c2
    refine lv_iload_n hx hb dX7_paste_7 rfl (lv_at hl 3 rfl) ?_
    obtain ⟨r3, hr3, hf⟩ := bn1_some hf
    refine x_callSi (As := [.int p2]) X hI (m7_isSlot l p2 r3 hr3) (cw7_isSlot hts ⟨Nat.le_of_ble_eq_true rfl, Nat.le_of_ble_eq_true rfl⟩) rfl hl.1 (Nat.le_of_ble_eq_true rfl) rfl dX7_paste_8 ⟨Nat.le_of_ble_eq_true rfl, Nat.le_of_ble_eq_true rfl⟩ (fun H locs hI => ?_)
    refine lv_if_ne (tgt := 17) hx hb dX7_paste_11 (by decide) (fun c4 => ?_) (fun c4 => ?_)
    · have hf := o_neg hf c4
      refine lv_aload_n hx hb dX7_paste_17 rfl (lv_at hl 0 rfl) ?_
      refine m_get (v := .ref (A 38)) X hI hc 38 (by decide) q2696 rfl dX7_paste_18 ?_
      refine lv_iload_n hx hb dX7_paste_21 rfl (lv_at hl 1 rfl) ?_
      obtain ⟨g5, hf⟩ := grd_some hf
      refine m_iald X hI 38 15 4 rfl rfl g5 dX7_paste_22 ?_
      refine lv_iconst (v := -1) hx hb dX7_paste_23 (by decide) ?_
      refine lv_icmp_eq (tgt := 37) hx hb dX7_paste_24 (by decide) (fun c6 => ?_) (fun c6 => ?_)
      · have hf := o_pos hf c6
        refine lv_bipush (v := -6) hx hb dX7_paste_37 (by decide) ?_
        exact hret hf hI dX7_paste_39
      · have hf := o_neg hf c6
        refine lv_aload_n hx hb dX7_paste_27 rfl (lv_at hl 0 rfl) ?_
        refine m_get (v := .ref (A 38)) X hI hc 38 (by decide) q2696 rfl dX7_paste_28 ?_
        refine lv_iload_n hx hb dX7_paste_31 rfl (lv_at hl 3 rfl) ?_
        obtain ⟨g7, hf⟩ := grd_some hf
        refine m_iald X hI 38 15 4 rfl rfl g7 dX7_paste_32 ?_
        refine lv_iconst (v := -1) hx hb dX7_paste_33 (by decide) ?_
        refine lv_icmp_ne (tgt := 40) hx hb dX7_paste_34 (by decide) (fun c8 => ?_) (fun c8 => ?_)
        · have hf := o_neg hf c8
          refine lv_aload_n hx hb dX7_paste_40 rfl (lv_at hl 0 rfl) ?_
          refine m_get (v := .ref (A 39)) X hI hc 39 (by decide) q2697 rfl dX7_paste_41 ?_
          refine lv_iload_n hx hb dX7_paste_44 rfl (lv_at hl 1 rfl) ?_
          obtain ⟨g9, hf⟩ := grd_some hf
          refine m_iald X hI 39 16 4 rfl rfl g9 dX7_paste_45 ?_
          refine lv_aload_n hx hb dX7_paste_46 rfl (lv_at hl 0 rfl) ?_
          refine m_get (v := .ref (A 39)) X hI hc 39 (by decide) q2697 rfl dX7_paste_47 ?_
          refine lv_iload_n hx hb dX7_paste_50 rfl (lv_at hl 3 rfl) ?_
          obtain ⟨g10, hf⟩ := grd_some hf
          refine m_iald X hI 39 16 4 rfl rfl g10 dX7_paste_51 ?_
          refine lv_icmp_eq (tgt := 58) hx hb dX7_paste_52 (by decide) (fun c11 => ?_) (fun c11 => ?_)
          · have hf := o_pos hf c11
            refine lv_iload_n hx hb dX7_paste_58 rfl (lv_at hl 2 rfl) ?_
            refine lv_if_lt (tgt := 107) hx hb dX7_paste_59 (by decide) (fun c12 => ?_) (fun c12 => ?_)
            · have hf := o_pos hf c12
              refine lv_bipush (v := -7) hx hb dX7_paste_107 (by decide) ?_
              exact hret hf hI dX7_paste_109
            · have hf := o_neg hf c12
              refine lv_iload hx hb dX7_paste_62 (lv_at hl 4 rfl) ?_
              refine lv_if_lt (tgt := 107) hx hb dX7_paste_64 (by decide) (fun c13 => ?_) (fun c13 => ?_)
              · have hf := o_pos hf c13
                refine lv_bipush (v := -7) hx hb dX7_paste_107 (by decide) ?_
                exact hret hf hI dX7_paste_109
              · have hf := o_neg hf c13
                refine lv_iload hx hb dX7_paste_67 (lv_at hl 5 rfl) ?_
                refine lv_if_lt (tgt := 107) hx hb dX7_paste_69 (by decide) (fun c14 => ?_) (fun c14 => ?_)
                · have hf := o_pos hf c14
                  refine lv_bipush (v := -7) hx hb dX7_paste_107 (by decide) ?_
                  exact hret hf hI dX7_paste_109
                · have hf := o_neg hf c14
                  refine lv_iload_n hx hb dX7_paste_72 rfl (lv_at hl 2 rfl) ?_
                  refine lv_i2l hx hb dX7_paste_73 rfl ?_
                  refine lv_iload hx hb dX7_paste_74 (lv_at hl 5 rfl) ?_
                  refine lv_i2l hx hb dX7_paste_76 rfl ?_
                  refine lv_ladd hx hb dX7_paste_77 ?_
                  refine lv_aload_n hx hb dX7_paste_78 rfl (lv_at hl 0 rfl) ?_
                  refine m_get (v := .ref (A 38)) X hI hc 38 (by decide) q2696 rfl dX7_paste_79 ?_
                  refine lv_iload_n hx hb dX7_paste_82 rfl (lv_at hl 1 rfl) ?_
                  obtain ⟨g15, hf⟩ := grd_some hf
                  refine m_iald X hI 38 15 4 rfl rfl g15 dX7_paste_83 ?_
                  refine lv_i2l hx hb dX7_paste_84 rfl ?_
                  refine W.lcmp hx hb dX7_paste_85 ?_
                  refine lv_if_gt (tgt := 107) hx hb dX7_paste_86 (by decide) (fun c16 => ?_) (fun c16 => ?_)
                  · have hf := o_pos hf c16
                    refine lv_bipush (v := -7) hx hb dX7_paste_107 (by decide) ?_
                    exact hret hf hI dX7_paste_109
                  · have hf := o_neg hf c16
                    refine lv_iload hx hb dX7_paste_89 (lv_at hl 4 rfl) ?_
                    refine lv_i2l hx hb dX7_paste_91 rfl ?_
                    refine lv_iload hx hb dX7_paste_92 (lv_at hl 5 rfl) ?_
                    refine lv_i2l hx hb dX7_paste_94 rfl ?_
                    refine lv_ladd hx hb dX7_paste_95 ?_
                    refine lv_aload_n hx hb dX7_paste_96 rfl (lv_at hl 0 rfl) ?_
                    refine m_get (v := .ref (A 38)) X hI hc 38 (by decide) q2696 rfl dX7_paste_97 ?_
                    refine lv_iload_n hx hb dX7_paste_100 rfl (lv_at hl 3 rfl) ?_
                    obtain ⟨g17, hf⟩ := grd_some hf
                    refine m_iald X hI 38 15 4 rfl rfl g17 dX7_paste_101 ?_
                    refine lv_i2l hx hb dX7_paste_102 rfl ?_
                    refine W.lcmp hx hb dX7_paste_103 ?_
                    refine lv_if_le (tgt := 110) hx hb dX7_paste_104 (by decide) (fun c18 => ?_) (fun c18 => ?_)
                    · have hf := o_pos hf c18
                      refine lv_iconst (v := 0) hx hb dX7_paste_110 (by decide) ?_
                      refine lv_istore (lv' := [(6, .int 0), (0, .ref (A 0)), (1, .int p0), (2, .int p1), (3, .int p2), (4, .int p3), (5, .int p4)]) hx hb dX7_paste_111 hl (by decide) rfl (fun ls hl => ?_)
                      exact L113 FU p0 p1 p2 p3 p4 0 σ hf H locs hI ls (lv_sub hl [1, 2, 3, 4, 5, 6, 0] rfl)
                    · have hf := o_neg hf c18
                      refine lv_bipush (v := -7) hx hb dX7_paste_107 (by decide) ?_
                      exact hret hf hI dX7_paste_109
          · have hf := o_neg hf c11
            refine lv_bipush (v := -8) hx hb dX7_paste_55 (by decide) ?_
            exact hret hf hI dX7_paste_57
        · have hf := o_pos hf c8
          refine lv_bipush (v := -6) hx hb dX7_paste_37 (by decide) ?_
          exact hret hf hI dX7_paste_39
    · have hf := o_pos hf c4
      refine lv_bipush (v := -2) hx hb dX7_paste_14 (by decide) ?_
      exact hret hf hI dX7_paste_16
