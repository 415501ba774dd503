/-! THE MODEL decompiled, and its walks (printed by gen/genm.py) -/
/-! breaksFrom -/
def f7_breaksFrom (p0 : Int32) (p1 : Int32) (σ : MS) : oI Int32 :=
  bn1 (f7_begins σ) fun σ1 =>
  bn1 (f7_findFrom p0 p1 σ1) fun σ2 =>
  some (gI σ2 25, σ2)
abbrev r7_breaksFrom : Room := { frames := 6, cells := 0, slots := 0, locals := 142 }
theorem cw7_breaksFrom {R : Room} {s : State} {args : Array Value} (ht : ∀ w ∈ lw_all, w.before args s = true) (hR : r7_breaksFrom.frames + 1 ≤ R.frames ∧ 8 + (3 + 11) + r7_breaksFrom.locals ≤ R.locals) : CallW R s args RX7 RX7 396 yX7_breaksFrom cX7_breaksFrom 3 (some .int) (ws_ yX7_breaksFrom cX7_breaksFrom 3 (some .int)) r7_breaksFrom 0 0 2 :=
  cwV 2 ht (lw_V q3200 q3202 qs142 q178 q3203) rfl rfl rfl (by decide +kernel) hR
theorem m7_breaksFrom (l : Launch) (D : va_G) (cl : vC2) (Z : (Nat → Prop) → State → Heap → Prop) (hz : ZK Z) (ci : Nat) (A : Nat → Nat) (d : Nat → ClassId) (tm : List (ClassId × FieldType)) (hc : cl.1[ci]? = some (RX7, TX7, 42)) (p0 : Int32) (p1 : Int32) (σ : MS) (r : Int32) (σ' : MS) (hf : f7_breaksFrom p0 p1 σ = some (r, σ')) : MMi l yX7_breaksFrom (ws_ yX7_breaksFrom cX7_breaksFrom 3 (some .int)) r7_breaksFrom D cl Z ci A d tm σ [.int p0, .int p1] r σ' := by
  refine m_openi hz (by decide) (by exact Nat.le_of_ble_eq_true rfl) (fun p e s m args below meth c ls A0 Q X hI hl hret => ?_)
  have X : XC p s m args meth c cX7_breaksFrom 3 RX7 D cl (mty d tm) A0 Z := X
  have hx := X.1
  have hb := X.2.1
  have hown := X.2.2.2.1
  have hts := X.2.2.2.2.1
  have hl : lv_has ls 3 [(0, .ref (A 0)), (1, .int p0), (2, .int p1)] := hl
  unfold f7_breaksFrom at hf
  obtain ⟨H, eH⟩ : ∃ H, H = s.heap := ⟨_, rfl⟩
  obtain ⟨locs, eL⟩ : ∃ locs : List Loc, locs = [] := ⟨_, rfl⟩
  have hI : XI D cl (mw ci A d σ) A0 s.heap H locs := by rw [eH, eL]; exact hI
  rw [← eL]
  suffices h : W p l e r7_breaksFrom s m args below meth c H locs 0 0 Q (F0 m 0 ls []) by rw [eH] at h; exact h
  clear eH eL
  refine lv_aload_n hx hb dX7_breaksFrom_0 rfl (lv_at hl 0 rfl) ?_
  obtain ⟨σ1, hσ1, hf⟩ := bn1_some hf
  refine m_callv X hI hc [] (m7_begins l D cl Z hz ci A d tm hc σ σ1 hσ1) (cw7_begins hts ⟨Nat.le_of_ble_eq_true rfl, Nat.le_of_ble_eq_true rfl⟩) rfl hl.1 (Nat.le_of_ble_eq_true rfl) rfl dX7_breaksFrom_1 ⟨Nat.le_of_ble_eq_true rfl, Nat.le_of_ble_eq_true rfl⟩ (fun H locs hI => ?_)
  refine lv_aload_n hx hb dX7_breaksFrom_4 rfl (lv_at hl 0 rfl) ?_
  refine lv_iload_n hx hb dX7_breaksFrom_5 rfl (lv_at hl 1 rfl) ?_
  refine lv_iload_n hx hb dX7_breaksFrom_6 rfl (lv_at hl 2 rfl) ?_
  obtain ⟨σ2, hσ2, hf⟩ := bn1_some hf
  refine m_callv X hI hc [.int p0, .int p1] (m7_findFrom l D cl Z hz ci A d tm hc p0 p1 σ1 σ2 hσ2) (cw7_findFrom hts ⟨Nat.le_of_ble_eq_true rfl, Nat.le_of_ble_eq_true rfl⟩) rfl hl.1 (Nat.le_of_ble_eq_true rfl) rfl dX7_breaksFrom_7 ⟨Nat.le_of_ble_eq_true rfl, Nat.le_of_ble_eq_true rfl⟩ (fun H locs hI => ?_)
  refine lv_aload_n hx hb dX7_breaksFrom_10 rfl (lv_at hl 0 rfl) ?_
  refine m_get (v := .int (gI σ2 25)) X hI hc 25 (by decide) q2683 rfl dX7_breaksFrom_11 ?_
  exact hret hf hI dX7_breaksFrom_14
/-! bad -/
def f7_bad (p0 : Int32) (p1 : Int32) (σ : MS) : oI Int32 :=
  bnd (f7_asks σ) fun r2 σ1 =>
  if r2 = 0 then (some ((-2), σ1)) else (bnd (f7_isState p0.toInt64 σ1) fun r5 σ4 =>
  if r5 = 0 then (some ((-2), σ4)) else (bn1 (f7_isDepth p1) fun r7 =>
  if r7 = 0 then (some ((-2), σ4)) else (bnd (f7_breaksFrom p0 p1 σ4) fun r10 σ9 =>
  some (r10, σ9))))
abbrev r7_bad : Room := { frames := 7, cells := 0, slots := 0, locals := 164 }
theorem m7_bad (l : Launch) (D : va_G) (cl : vC2) (Z : (Nat → Prop) → State → Heap → Prop) (hz : ZK Z) (ci : Nat) (A : Nat → Nat) (d : Nat → ClassId) (tm : List (ClassId × FieldType)) (hc : cl.1[ci]? = some (RX7, TX7, 42)) (p0 : Int32) (p1 : Int32) (σ : MS) (r : Int32) (σ' : MS) (hf : f7_bad p0 p1 σ = some (r, σ')) : MMi l yX7_bad (ws_ yX7_bad cX7_bad 3 (some .int)) r7_bad D cl Z ci A d tm σ [.int p0, .int p1] r σ' := by
  refine m_openi hz (by decide) (by exact Nat.le_of_ble_eq_true rfl) (fun p e s m args below meth c ls A0 Q X hI hl hret => ?_)
  have X : XC p s m args meth c cX7_bad 3 RX7 D cl (mty d tm) A0 Z := X
  have hx := X.1
  have hb := X.2.1
  have hown := X.2.2.2.1
  have hts := X.2.2.2.2.1
  have hl : lv_has ls 3 [(0, .ref (A 0)), (1, .int p0), (2, .int p1)] := hl
  unfold f7_bad at hf
  obtain ⟨H, eH⟩ : ∃ H, H = s.heap := ⟨_, rfl⟩
  obtain ⟨locs, eL⟩ : ∃ locs : List Loc, locs = [] := ⟨_, rfl⟩
  have hI : XI D cl (mw ci A d σ) A0 s.heap H locs := by rw [eH, eL]; exact hI
  rw [← eL]
  suffices h : W p l e r7_bad s m args below meth c H locs 0 0 Q (F0 m 0 ls []) by rw [eH] at h; exact h
  clear eH eL
  refine lv_aload_n hx hb dX7_bad_0 rfl (lv_at hl 0 rfl) ?_
  obtain ⟨r2, σ1, hσ1, hf⟩ := bnd_some hf
  refine m_calli X hI hc [] (m7_asks l D cl Z hz ci A d tm hc σ r2 σ1 hσ1) (cw7_asks hts ⟨Nat.le_of_ble_eq_true rfl, Nat.le_of_ble_eq_true rfl⟩) rfl hl.1 (Nat.le_of_ble_eq_true rfl) rfl dX7_bad_1 ⟨Nat.le_of_ble_eq_true rfl, Nat.le_of_ble_eq_true rfl⟩ (fun H locs hI => ?_)
  refine lv_if_eq (tgt := 32) hx hb dX7_bad_4 (by decide) (fun c3 => ?_) (fun c3 => ?_)
  · have hf := o_pos hf c3
    refine lv_bipush (v := -2) hx hb dX7_bad_32 (by decide) ?_
    exact hret hf hI dX7_bad_34
  · have hf := o_neg hf c3
    refine lv_aload_n hx hb dX7_bad_7 rfl (lv_at hl 0 rfl) ?_
    refine lv_iload_n hx hb dX7_bad_8 rfl (lv_at hl 1 rfl) ?_
    refine lv_i2l hx hb dX7_bad_9 rfl ?_
    obtain ⟨r5, σ4, hσ4, hf⟩ := bnd_some hf
    refine m_calli X hI hc [.long p0.toInt64] (m7_isState l D cl Z hz ci A d tm hc p0.toInt64 σ1 r5 σ4 hσ4) (cw7_isState hts ⟨Nat.le_of_ble_eq_true rfl, Nat.le_of_ble_eq_true rfl⟩) rfl hl.1 (Nat.le_of_ble_eq_true rfl) rfl dX7_bad_10 ⟨Nat.le_of_ble_eq_true rfl, Nat.le_of_ble_eq_true rfl⟩ (fun H locs hI => ?_)
    refine lv_if_eq (tgt := 32) hx hb dX7_bad_13 (by decide) (fun c6 => ?_) (fun c6 => ?_)
    · have hf := o_pos hf c6
      refine lv_bipush (v := -2) hx hb dX7_bad_32 (by decide) ?_
      exact hret hf hI dX7_bad_34
    · have hf := o_neg hf c6
      refine lv_iload_n hx hb dX7_bad_16 rfl (lv_at hl 2 rfl) ?_
      obtain ⟨r7, hr7, hf⟩ := bn1_some hf
      refine x_callSi (As := [.int p1]) X hI (m7_isDepth l p1 r7 hr7) (cw7_isDepth hts ⟨Nat.le_of_ble_eq_true rfl, Nat.le_of_ble_eq_true rfl⟩) rfl hl.1 (Nat.le_of_ble_eq_true rfl) rfl dX7_bad_17 ⟨Nat.le_of_ble_eq_true rfl, Nat.le_of_ble_eq_true rfl⟩ (fun H locs hI => ?_)
      refine lv_if_eq (tgt := 32) hx hb dX7_bad_20 (by decide) (fun c8 => ?_) (fun c8 => ?_)
      · have hf := o_pos hf c8
        refine lv_bipush (v := -2) hx hb dX7_bad_32 (by decide) ?_
        exact hret hf hI dX7_bad_34
      · have hf := o_neg hf c8
        refine lv_aload_n hx hb dX7_bad_23 rfl (lv_at hl 0 rfl) ?_
        refine lv_iload_n hx hb dX7_bad_24 rfl (lv_at hl 1 rfl) ?_
        refine lv_iload_n hx hb dX7_bad_25 rfl (lv_at hl 2 rfl) ?_
        obtain ⟨r10, σ9, hσ9, hf⟩ := bnd_some hf
        refine m_calli X hI hc [.int p0, .int p1] (m7_breaksFrom l D cl Z hz ci A d tm hc p0 p1 σ4 r10 σ9 hσ9) (cw7_breaksFrom hts ⟨Nat.le_of_ble_eq_true rfl, Nat.le_of_ble_eq_true rfl⟩) rfl hl.1 (Nat.le_of_ble_eq_true rfl) rfl dX7_bad_26 ⟨Nat.le_of_ble_eq_true rfl, Nat.le_of_ble_eq_true rfl⟩ (fun H locs hI => ?_)
        refine lv_goto (tgt := 34) hx hb dX7_bad_29 (by decide) ?_
        exact hret hf hI dX7_bad_34
/-! breaksIn -/
def f7_breaksIn_b6 (K6 : Int32 → Int32 → MS → oI Int32) (x1 : Int32) (x2 : Int32) (σ : MS) : oI Int32 :=
  bnd (f7_stateMany σ) fun r3 σ2 =>
  if r3 ≤ x2 then (some (gI σ2 25, σ2)) else (bn1 (f7_findFrom x2 x1 σ2) fun σ5 =>
  K6 x1 (x2 + 1) σ5)
def f7_breaksIn_l6 : Nat → Int32 → Int32 → MS → oI Int32
  | 0 => fun _ _ _ => none
  | n + 1 => fun x1 x2 σ => f7_breaksIn_b6 (f7_breaksIn_l6 n) x1 x2 σ
def f7_breaksIn (p0 : Int32) (σ : MS) : oI Int32 :=
  bn1 (f7_begins σ) fun σ1 =>
  f7_breaksIn_l6 FU p0 0 σ1
abbrev r7_breaksIn : Room := { frames := 6, cells := 0, slots := 0, locals := 142 }
theorem cw7_breaksIn {R : Room} {s : State} {args : Array Value} (ht : ∀ w ∈ lw_all, w.before args s = true) (hR : r7_breaksIn.frames + 1 ≤ R.frames ∧ 8 + (3 + 11) + r7_breaksIn.locals ≤ R.locals) : CallW R s args RX7 RX7 393 yX7_breaksIn cX7_breaksIn 3 (some .int) (ws_ yX7_breaksIn cX7_breaksIn 3 (some .int)) r7_breaksIn 0 0 1 :=
  cwV 1 ht (lw_V q3224 q3226 qs147 q178 q3227) rfl rfl rfl (by decide +kernel) hR
theorem m7_breaksIn (l : Launch) (D : va_G) (cl : vC2) (Z : (Nat → Prop) → State → Heap → Prop) (hz : ZK Z) (ci : Nat) (A : Nat → Nat) (d : Nat → ClassId) (tm : List (ClassId × FieldType)) (hc : cl.1[ci]? = some (RX7, TX7, 42)) (p0 : Int32) (σ : MS) (r : Int32) (σ' : MS) (hf : f7_breaksIn p0 σ = some (r, σ')) : MMi l yX7_breaksIn (ws_ yX7_breaksIn cX7_breaksIn 3 (some .int)) r7_breaksIn D cl Z ci A d tm σ [.int p0] r σ' := by
  refine m_openi hz (by decide) (by exact Nat.le_of_ble_eq_true rfl) (fun p e s m args below meth c ls A0 Q X hI hl hret => ?_)
  have X : XC p s m args meth c cX7_breaksIn 3 RX7 D cl (mty d tm) A0 Z := X
  have hx := X.1
  have hb := X.2.1
  have hown := X.2.2.2.1
  have hts := X.2.2.2.2.1
  have L6 : ∀ (n : Nat) (x1 : Int32) (x2 : Int32) (σ : MS), f7_breaksIn_l6 n x1 x2 σ = some (r, σ') → ∀ (H : Heap) (locs : List Loc), XI D cl (mw ci A d σ) A0 s.heap H locs → ∀ (ls : Array Slot), lv_has ls 3 [(0, .ref (A 0)), (1, .int x1), (2, .int x2)] → W p l e r7_breaksIn s m args below meth c H locs 0 0 Q (F0 m 6 ls []) := by
    intro n6
    induction n6 with
    | zero => intro x1 x2 σ hf; cases hf
    | succ n6 ih6 =>
      intro x1 x2 σ hf H locs hI ls hl
      have hf : f7_breaksIn_b6 (f7_breaksIn_l6 n6) x1 x2 σ = some (r, σ') := hf
      unfold f7_breaksIn_b6 at hf
      refine lv_iload_n hx hb dX7_breaksIn_6 rfl (lv_at hl 2 rfl) ?_
      refine lv_aload_n hx hb dX7_breaksIn_7 rfl (lv_at hl 0 rfl) ?_
      obtain ⟨r3, σ2, hσ2, hf⟩ := bnd_some hf
      refine m_calli X hI hc [] (m7_stateMany l D cl Z hz ci A d tm hc σ r3 σ2 hσ2) (cw7_stateMany hts ⟨Nat.le_of_ble_eq_true rfl, Nat.le_of_ble_eq_true rfl⟩) rfl hl.1 (Nat.le_of_ble_eq_true rfl) rfl dX7_breaksIn_8 ⟨Nat.le_of_ble_eq_true rfl, Nat.le_of_ble_eq_true rfl⟩ (fun H locs hI => ?_)
      refine lv_icmp_ge (tgt := 26) hx hb dX7_breaksIn_11 (by decide) (fun c4 => ?_) (fun c4 => ?_)
      · have hf := o_pos hf c4
        refine lv_aload_n hx hb dX7_breaksIn_26 rfl (lv_at hl 0 rfl) ?_
        refine m_get (v := .int (gI σ2 25)) X hI hc 25 (by decide) q2683 rfl dX7_breaksIn_27 ?_
        exact hret hf hI dX7_breaksIn_30
      · have hf := o_neg hf c4
        refine lv_aload_n hx hb dX7_breaksIn_14 rfl (lv_at hl 0 rfl) ?_
        refine lv_iload_n hx hb dX7_breaksIn_15 rfl (lv_at hl 2 rfl) ?_
        refine lv_iload_n hx hb dX7_breaksIn_16 rfl (lv_at hl 1 rfl) ?_
        obtain ⟨σ5, hσ5, hf⟩ := bn1_some hf
        refine m_callv X hI hc [.int x2, .int x1] (m7_findFrom l D cl Z hz ci A d tm hc x2 x1 σ2 σ5 hσ5) (cw7_findFrom hts ⟨Nat.le_of_ble_eq_true rfl, Nat.le_of_ble_eq_true rfl⟩) rfl hl.1 (Nat.le_of_ble_eq_true rfl) rfl dX7_breaksIn_17 ⟨Nat.le_of_ble_eq_true rfl, Nat.le_of_ble_eq_true rfl⟩ (fun H locs hI => ?_)
        refine lv_iinc (v := x2 + 1) (lv' := [(2, .int (x2 + 1)), (0, .ref (A 0)), (1, .int x1)]) hx hb dX7_breaksIn_20 hl (k := 2) rfl rfl (by decide) rfl (fun ls hl => ?_)
        refine lv_goto (tgt := 6) hx hb dX7_breaksIn_23 (by decide) ?_
        exact ih6 x1 (x2 + 1) σ5 hf H locs hI ls (lv_sub hl [1, 2, 0] rfl)
  have hl : lv_has ls 3 [(0, .ref (A 0)), (1, .int p0)] := hl
  unfold f7_breaksIn at hf
  obtain ⟨H, eH⟩ : ∃ H, H = s.heap := ⟨_, rfl⟩
  obtain ⟨locs, eL⟩ : ∃ locs : List Loc, locs = [] := ⟨_, rfl⟩
  have hI : XI D cl (mw ci A d σ) A0 s.heap H locs := by rw [eH, eL]; exact hI
  rw [← eL]
  suffices h : W p l e r7_breaksIn s m args below meth c H locs 0 0 Q (F0 m 0 ls []) by rw [eH] at h; exact h
  clear eH eL
  refine lv_aload_n hx hb dX7_breaksIn_0 rfl (lv_at hl 0 rfl) ?_
  obtain ⟨σ1, hσ1, hf⟩ := bn1_some hf
  refine m_callv X hI hc [] (m7_begins l D cl Z hz ci A d tm hc σ σ1 hσ1) (cw7_begins hts ⟨Nat.le_of_ble_eq_true rfl, Nat.le_of_ble_eq_true rfl⟩) rfl hl.1 (Nat.le_of_ble_eq_true rfl) rfl dX7_breaksIn_1 ⟨Nat.le_of_ble_eq_true rfl, Nat.le_of_ble_eq_true rfl⟩ (fun H locs hI => ?_)
  refine lv_iconst (v := 0) hx hb dX7_breaksIn_4 (by decide) ?_
  refine lv_istore_n (lv' := [(2, .int 0), (0, .ref (A 0)), (1, .int p0)]) hx hb dX7_breaksIn_5 rfl hl (by decide) rfl (fun ls hl => ?_)
  exact L6 FU p0 0 σ1 hf H locs hI ls (lv_sub hl [1, 2, 0] rfl)
/-! asksIn -/
def f7_asksIn (p0 : Int32) (σ : MS) : oI Int32 :=
  bnd (f7_asks σ) fun r2 σ1 =>
  if r2 = 0 then (some (0, σ1)) else (bn1 (f7_isDepth p0) fun r4 =>
  if r4 = 0 then (some (0, σ1)) else (bnd (f7_breaksIn p0 σ1) fun r7 σ6 =>
  some (1, σ6)))
abbrev r7_asksIn : Room := { frames := 7, cells := 0, slots := 0, locals := 164 }
theorem cw7_asksIn {R : Room} {s : State} {args : Array Value} (ht : ∀ w ∈ lw_all, w.before args s = true) (hR : r7_asksIn.frames + 1 ≤ R.frames ∧ 8 + (2 + 11) + r7_asksIn.locals ≤ R.locals) : CallW R s args RX7 RX7 399 yX7_asksIn cX7_asksIn 2 (some .boolean) (ws_ yX7_asksIn cX7_asksIn 2 (some .boolean)) r7_asksIn 0 0 1 :=
  cwV 1 ht (lw_V q3220 q3222 qs146 q178 q3223) rfl rfl rfl (by decide +kernel) hR
theorem m7_asksIn (l : Launch) (D : va_G) (cl : vC2) (Z : (Nat → Prop) → State → Heap → Prop) (hz : ZK Z) (ci : Nat) (A : Nat → Nat) (d : Nat → ClassId) (tm : List (ClassId × FieldType)) (hc : cl.1[ci]? = some (RX7, TX7, 42)) (p0 : Int32) (σ : MS) (r : Int32) (σ' : MS) (hf : f7_asksIn p0 σ = some (r, σ')) : MMi l yX7_asksIn (ws_ yX7_asksIn cX7_asksIn 2 (some .boolean)) r7_asksIn D cl Z ci A d tm σ [.int p0] r σ' := by
  refine m_openz hz (by decide) (by exact Nat.le_of_ble_eq_true rfl) (fun p e s m args below meth c ls A0 Q X hI hl hret => ?_)
  have X : XC p s m args meth c cX7_asksIn 2 RX7 D cl (mty d tm) A0 Z := X
  have hx := X.1
  have hb := X.2.1
  have hown := X.2.2.2.1
  have hts := X.2.2.2.2.1
  have hl : lv_has ls 2 [(0, .ref (A 0)), (1, .int p0)] := hl
  unfold f7_asksIn at hf
  obtain ⟨H, eH⟩ : ∃ H, H = s.heap := ⟨_, rfl⟩
  obtain ⟨locs, eL⟩ : ∃ locs : List Loc, locs = [] := ⟨_, rfl⟩
  have hI : XI D cl (mw ci A d σ) A0 s.heap H locs := by rw [eH, eL]; exact hI
  rw [← eL]
  suffices h : W p l e r7_asksIn s m args below meth c H locs 0 0 Q (F0 m 0 ls []) by rw [eH] at h; exact h
  clear eH eL
  refine lv_aload_n hx hb dX7_asksIn_0 rfl (lv_at hl 0 rfl) ?_
  obtain ⟨r2, σ1, hσ1, hf⟩ := bnd_some hf
  refine m_calli X hI hc [] (m7_asks l D cl Z hz ci A d tm hc σ r2 σ1 hσ1) (cw7_asks hts ⟨Nat.le_of_ble_eq_true rfl, Nat.le_of_ble_eq_true rfl⟩) rfl hl.1 (Nat.le_of_ble_eq_true rfl) rfl dX7_asksIn_1 ⟨Nat.le_of_ble_eq_true rfl, Nat.le_of_ble_eq_true rfl⟩ (fun H locs hI => ?_)
  refine lv_if_eq (tgt := 14) hx hb dX7_asksIn_4 (by decide) (fun c3 => ?_) (fun c3 => ?_)
  · have hf := o_pos hf c3
    refine lv_iconst (v := 0) hx hb dX7_asksIn_14 (by decide) ?_
    exact hret hf rfl hI dX7_asksIn_15
  · have hf := o_neg hf c3
    refine lv_iload_n hx hb dX7_asksIn_7 rfl (lv_at hl 1 rfl) ?_
    obtain ⟨r4, hr4, hf⟩ := bn1_some hf
    refine x_callSi (As := [.int p0]) X hI (m7_isDepth l p0 r4 hr4) (cw7_isDepth hts ⟨Nat.le_of_ble_eq_true rfl, Nat.le_of_ble_eq_true rfl⟩) rfl hl.1 (Nat.le_of_ble_eq_true rfl) rfl dX7_asksIn_8 ⟨Nat.le_of_ble_eq_true rfl, Nat.le_of_ble_eq_true rfl⟩ (fun H locs hI => ?_)
    refine lv_if_ne (tgt := 16) hx hb dX7_asksIn_11 (by decide) (fun c5 => ?_) (fun c5 => ?_)
    · have hf := o_neg hf c5
      refine lv_aload_n hx hb dX7_asksIn_16 rfl (lv_at hl 0 rfl) ?_
      refine lv_iload_n hx hb dX7_asksIn_17 rfl (lv_at hl 1 rfl) ?_
      obtain ⟨r7, σ6, hσ6, hf⟩ := bnd_some hf
      refine m_calli X hI hc [.int p0] (m7_breaksIn l D cl Z hz ci A d tm hc p0 σ1 r7 σ6 hσ6) (cw7_breaksIn hts ⟨Nat.le_of_ble_eq_true rfl, Nat.le_of_ble_eq_true rfl⟩) rfl hl.1 (Nat.le_of_ble_eq_true rfl) rfl dX7_asksIn_18 ⟨Nat.le_of_ble_eq_true rfl, Nat.le_of_ble_eq_true rfl⟩ (fun H locs hI => ?_)
      refine lv_pop hx hb dX7_asksIn_21 rfl ?_
      refine lv_iconst (v := 1) hx hb dX7_asksIn_22 (by decide) ?_
      exact hret hf rfl hI dX7_asksIn_23
    · have hf := o_pos hf c5
      refine lv_iconst (v := 0) hx hb dX7_asksIn_14 (by decide) ?_
      exact hret hf rfl hI dX7_asksIn_15
/-! all -/
def f7_all (p0 : Int32) (σ : MS) : oI Int32 :=
  bnd (f7_asksIn p0 σ) fun r2 σ1 =>
  if r2 = 0 then (some ((-2), σ1)) else (some (gI σ1 25, σ1))
abbrev r7_all : Room := { frames := 8, cells := 0, slots := 0, locals := 185 }
theorem m7_all (l : Launch) (D : va_G) (cl : vC2) (Z : (Nat → Prop) → State → Heap → Prop) (hz : ZK Z) (ci : Nat) (A : Nat → Nat) (d : Nat → ClassId) (tm : List (ClassId × FieldType)) (hc : cl.1[ci]? = some (RX7, TX7, 42)) (p0 : Int32) (σ : MS) (r : Int32) (σ' : MS) (hf : f7_all p0 σ = some (r, σ')) : MMi l yX7_all (ws_ yX7_all cX7_all 2 (some .int)) r7_all D cl Z ci A d tm σ [.int p0] r σ' := by
  refine m_openi hz (by decide) (by exact Nat.le_of_ble_eq_true rfl) (fun p e s m args below meth c ls A0 Q X hI hl hret => ?_)
  have X : XC p s m args meth c cX7_all 2 RX7 D cl (mty d tm) A0 Z := X
  have hx := X.1
  have hb := X.2.1
  have hown := X.2.2.2.1
  have hts := X.2.2.2.2.1
  have hl : lv_has ls 2 [(0, .ref (A 0)), (1, .int p0)] := hl
  unfold f7_all at hf
  obtain ⟨H, eH⟩ : ∃ H, H = s.heap := ⟨_, rfl⟩
  obtain ⟨locs, eL⟩ : ∃ locs : List Loc, locs = [] := ⟨_, rfl⟩
  have hI : XI D cl (mw ci A d σ) A0 s.heap H locs := by rw [eH, eL]; exact hI
  rw [← eL]
  suffices h : W p l e r7_all s m args below meth c H locs 0 0 Q (F0 m 0 ls []) by rw [eH] at h; exact h
  clear eH eL
  refine lv_aload_n hx hb dX7_all_0 rfl (lv_at hl 0 rfl) ?_
  refine lv_iload_n hx hb dX7_all_1 rfl (lv_at hl 1 rfl) ?_
  obtain ⟨r2, σ1, hσ1, hf⟩ := bnd_some hf
  refine m_calli X hI hc [.int p0] (m7_asksIn l D cl Z hz ci A d tm hc p0 σ r2 σ1 hσ1) (cw7_asksIn hts ⟨Nat.le_of_ble_eq_true rfl, Nat.le_of_ble_eq_true rfl⟩) rfl hl.1 (Nat.le_of_ble_eq_true rfl) rfl dX7_all_2 ⟨Nat.le_of_ble_eq_true rfl, Nat.le_of_ble_eq_true rfl⟩ (fun H locs hI => ?_)
  refine lv_if_eq (tgt := 15) hx hb dX7_all_5 (by decide) (fun c3 => ?_) (fun c3 => ?_)
  · have hf := o_pos hf c3
    refine lv_bipush (v := -2) hx hb dX7_all_15 (by decide) ?_
    exact hret hf hI dX7_all_17
  · have hf := o_neg hf c3
    refine lv_aload_n hx hb dX7_all_8 rfl (lv_at hl 0 rfl) ?_
    refine m_get (v := .int (gI σ1 25)) X hI hc 25 (by decide) q2683 rfl dX7_all_9 ?_
    refine lv_goto (tgt := 17) hx hb dX7_all_12 (by decide) ?_
    exact hret hf hI dX7_all_17
/-! pairs -/
def f7_pairs_b37 (K15 : Int32 → Int32 → MS → oI Int32) (x3 : Int32) (z0 : Int32) (z1 : Int32) (σ : MS) : oI Int32 :=
  K15 (z0 + z1) (x3 + 1) σ
def f7_pairs_b15 (K15 : Int32 → Int32 → MS → oI Int32) (x2 : Int32) (x3 : Int32) (σ : MS) : oI Int32 :=
  if 4096 ≤ x3 then (some (x2, σ)) else (grd (inB x3 4096) <|
  if (gA σ 23 x3.toNatClampNeg) = 0 then (f7_pairs_b37 K15 x3 x2 0 σ) else (f7_pairs_b37 K15 x3 x2 1 σ))
def f7_pairs_l15 : Nat → Int32 → Int32 → MS → oI Int32
  | 0 => fun _ _ _ => none
  | n + 1 => fun x2 x3 σ => f7_pairs_b15 (f7_pairs_l15 n) x2 x3 σ
def f7_pairs (p0 : Int32) (σ : MS) : oI Int32 :=
  bnd (f7_asksIn p0 σ) fun r2 σ1 =>
  if r2 = 0 then (some ((-2), σ1)) else (f7_pairs_l15 FU 0 0 σ1)
abbrev r7_pairs : Room := { frames := 8, cells := 0, slots := 0, locals := 185 }
theorem m7_pairs (l : Launch) (D : va_G) (cl : vC2) (Z : (Nat → Prop) → State → Heap → Prop) (hz : ZK Z) (ci : Nat) (A : Nat → Nat) (d : Nat → ClassId) (tm : List (ClassId × FieldType)) (hc : cl.1[ci]? = some (RX7, TX7, 42)) (p0 : Int32) (σ : MS) (r : Int32) (σ' : MS) (hf : f7_pairs p0 σ = some (r, σ')) : MMi l yX7_pairs (ws_ yX7_pairs cX7_pairs 4 (some .int)) r7_pairs D cl Z ci A d tm σ [.int p0] r σ' := by
  refine m_openi hz (by decide) (by exact Nat.le_of_ble_eq_true rfl) (fun p e s m args below meth c ls A0 Q X hI hl hret => ?_)
  have X : XC p s m args meth c cX7_pairs 4 RX7 D cl (mty d tm) A0 Z := X
  have hx := X.1
  have hb := X.2.1
  have hown := X.2.2.2.1
  have hts := X.2.2.2.2.1
  have L15 : ∀ (n : Nat) (x2 : Int32) (x3 : Int32) (σ : MS), f7_pairs_l15 n x2 x3 σ = some (r, σ') → ∀ (H : Heap) (locs : List Loc), XI D cl (mw ci A d σ) A0 s.heap H locs → ∀ (ls : Array Slot), lv_has ls 4 [(0, .ref (A 0)), (2, .int x2), (3, .int x3)] → W p l e r7_pairs s m args below meth c H locs 0 0 Q (F0 m 15 ls []) := by
    intro n15
    induction n15 with
    | zero => intro x2 x3 σ hf; cases hf
    | succ n15 ih15 =>
      have J37 : ∀ (x3 : Int32) (z0 : Int32) (z1 : Int32) (σ : MS), f7_pairs_b37 (f7_pairs_l15 n15) x3 z0 z1 σ = some (r, σ') → ∀ (H : Heap) (locs : List Loc), XI D cl (mw ci A d σ) A0 s.heap H locs → ∀ (ls : Array Slot), lv_has ls 4 [(0, .ref (A 0)), (3, .int x3)] → W p l e r7_pairs s m args below meth c H locs 0 0 Q (F0 m 37 ls [.int z1, .int z0]) := by
        intro x3 z0 z1 σ hf H locs hI ls hl
        unfold f7_pairs_b37 at hf
        refine lv_iadd hx hb dX7_pairs_37 ?_
        refine lv_istore_n (lv' := [(2, .int (z0 + z1)), (0, .ref (A 0)), (3, .int x3)]) hx hb dX7_pairs_38 rfl hl (by decide) rfl (fun ls hl => ?_)
        refine lv_iinc (v := x3 + 1) (lv' := [(3, .int (x3 + 1)), (2, .int (z0 + z1)), (0, .ref (A 0))]) hx hb dX7_pairs_39 hl (k := 2) rfl rfl (by decide) rfl (fun ls hl => ?_)
        refine lv_goto (tgt := 15) hx hb dX7_pairs_42 (by decide) ?_
        exact ih15 (z0 + z1) (x3 + 1) σ hf H locs hI ls (lv_sub hl [2, 1, 0] rfl)
      intro x2 x3 σ hf H locs hI ls hl
      have hf : f7_pairs_b15 (f7_pairs_l15 n15) x2 x3 σ = some (r, σ') := hf
      unfold f7_pairs_b15 at hf
      refine lv_iload_n hx hb dX7_pairs_15 rfl (lv_at hl 2 rfl) ?_
      refine lv_sipush (v := 4096) hx hb dX7_pairs_16 (by decide) ?_
      refine lv_icmp_ge (tgt := 45) hx hb dX7_pairs_19 (by decide) (fun c4 => ?_) (fun c4 => ?_)
      · have hf := o_pos hf c4
        refine lv_iload_n hx hb dX7_pairs_45 rfl (lv_at hl 1 rfl) ?_
        exact hret hf hI dX7_pairs_46
      · have hf := o_neg hf c4
        refine lv_iload_n hx hb dX7_pairs_22 rfl (lv_at hl 1 rfl) ?_
        refine lv_aload_n hx hb dX7_pairs_23 rfl (lv_at hl 0 rfl) ?_
        refine m_get (v := .ref (A 23)) X hI hc 23 (by decide) q2681 rfl dX7_pairs_24 ?_
        refine lv_iload_n hx hb dX7_pairs_27 rfl (lv_at hl 2 rfl) ?_
        obtain ⟨g5, hf⟩ := grd_some hf
        refine m_zald X hI 23 12 4096 rfl rfl g5 dX7_pairs_28 ?_
        refine lv_if_eq (tgt := 36) hx hb dX7_pairs_29 (by decide) (fun c6 => ?_) (fun c6 => ?_)
        · have hf := o_pos hf c6
          refine lv_iconst (v := 0) hx hb dX7_pairs_36 (by decide) ?_
          exact J37 x3 x2 0 σ hf H locs hI ls (lv_sub hl [0, 2] rfl)
        · have hf := o_neg hf c6
          refine lv_iconst (v := 1) hx hb dX7_pairs_32 (by decide) ?_
          refine lv_goto (tgt := 37) hx hb dX7_pairs_33 (by decide) ?_
          exact J37 x3 x2 1 σ hf H locs hI ls (lv_sub hl [0, 2] rfl)
  have hl : lv_has ls 4 [(0, .ref (A 0)), (1, .int p0)] := hl
  unfold f7_pairs at hf
  obtain ⟨H, eH⟩ : ∃ H, H = s.heap := ⟨_, rfl⟩
  obtain ⟨locs, eL⟩ : ∃ locs : List Loc, locs = [] := ⟨_, rfl⟩
  have hI : XI D cl (mw ci A d σ) A0 s.heap H locs := by rw [eH, eL]; exact hI
  rw [← eL]
  suffices h : W p l e r7_pairs s m args below meth c H locs 0 0 Q (F0 m 0 ls []) by rw [eH] at h; exact h
  clear eH eL
  refine lv_aload_n hx hb dX7_pairs_0 rfl (lv_at hl 0 rfl) ?_
  refine lv_iload_n hx hb dX7_pairs_1 rfl (lv_at hl 1 rfl) ?_
  obtain ⟨r2, σ1, hσ1, hf⟩ := bnd_some hf
  refine m_calli X hI hc [.int p0] (m7_asksIn l D cl Z hz ci A d tm hc p0 σ r2 σ1 hσ1) (cw7_asksIn hts ⟨Nat.le_of_ble_eq_true rfl, Nat.le_of_ble_eq_true rfl⟩) rfl hl.1 (Nat.le_of_ble_eq_true rfl) rfl dX7_pairs_2 ⟨Nat.le_of_ble_eq_true rfl, Nat.le_of_ble_eq_true rfl⟩ (fun H locs hI => ?_)
  refine lv_if_ne (tgt := 11) hx hb dX7_pairs_5 (by decide) (fun c3 => ?_) (fun c3 => ?_)
  · have hf := o_neg hf c3
    refine lv_iconst (v := 0) hx hb dX7_pairs_11 (by decide) ?_
    refine lv_istore_n (lv' := [(2, .int 0), (0, .ref (A 0)), (1, .int p0)]) hx hb dX7_pairs_12 rfl hl (by decide) rfl (fun ls hl => ?_)
    refine lv_iconst (v := 0) hx hb dX7_pairs_13 (by decide) ?_
    refine lv_istore_n (lv' := [(3, .int 0), (2, .int 0), (0, .ref (A 0)), (1, .int p0)]) hx hb dX7_pairs_14 rfl hl (by decide) rfl (fun ls hl => ?_)
    exact L15 FU 0 0 σ1 hf H locs hI ls (lv_sub hl [2, 1, 0] rfl)
  · have hf := o_pos hf c3
    refine lv_bipush (v := -2) hx hb dX7_pairs_8 (by decide) ?_
    exact hret hf hI dX7_pairs_10
/-! safe -/
def f7_safe (p0 : Int32) (σ : MS) : oI Int32 :=
  bnd (f7_asksIn p0 σ) fun r2 σ1 =>
  if r2 = 0 then (some ((-2), σ1)) else (if (gI σ1 25) = 0 then (some (1, σ1)) else (some (0, σ1)))
abbrev r7_safe : Room := { frames := 8, cells := 0, slots := 0, locals := 185 }
theorem m7_safe (l : Launch) (D : va_G) (cl : vC2) (Z : (Nat → Prop) → State → Heap → Prop) (hz : ZK Z) (ci : Nat) (A : Nat → Nat) (d : Nat → ClassId) (tm : List (ClassId × FieldType)) (hc : cl.1[ci]? = some (RX7, TX7, 42)) (p0 : Int32) (σ : MS) (r : Int32) (σ' : MS) (hf : f7_safe p0 σ = some (r, σ')) : MMi l yX7_safe (ws_ yX7_safe cX7_safe 2 (some .int)) r7_safe D cl Z ci A d tm σ [.int p0] r σ' := by
  refine m_openi hz (by decide) (by exact Nat.le_of_ble_eq_true rfl) (fun p e s m args below meth c ls A0 Q X hI hl hret => ?_)
  have X : XC p s m args meth c cX7_safe 2 RX7 D cl (mty d tm) A0 Z := X
  have hx := X.1
  have hb := X.2.1
  have hown := X.2.2.2.1
  have hts := X.2.2.2.2.1
  have hl : lv_has ls 2 [(0, .ref (A 0)), (1, .int p0)] := hl
  unfold f7_safe at hf
  obtain ⟨H, eH⟩ : ∃ H, H = s.heap := ⟨_, rfl⟩
  obtain ⟨locs, eL⟩ : ∃ locs : List Loc, locs = [] := ⟨_, rfl⟩
  have hI : XI D cl (mw ci A d σ) A0 s.heap H locs := by rw [eH, eL]; exact hI
  rw [← eL]
  suffices h : W p l e r7_safe s m args below meth c H locs 0 0 Q (F0 m 0 ls []) by rw [eH] at h; exact h
  clear eH eL
  refine lv_aload_n hx hb dX7_safe_0 rfl (lv_at hl 0 rfl) ?_
  refine lv_iload_n hx hb dX7_safe_1 rfl (lv_at hl 1 rfl) ?_
  obtain ⟨r2, σ1, hσ1, hf⟩ := bnd_some hf
  refine m_calli X hI hc [.int p0] (m7_asksIn l D cl Z hz ci A d tm hc p0 σ r2 σ1 hσ1) (cw7_asksIn hts ⟨Nat.le_of_ble_eq_true rfl, Nat.le_of_ble_eq_true rfl⟩) rfl hl.1 (Nat.le_of_ble_eq_true rfl) rfl dX7_safe_2 ⟨Nat.le_of_ble_eq_true rfl, Nat.le_of_ble_eq_true rfl⟩ (fun H locs hI => ?_)
  refine lv_if_ne (tgt := 11) hx hb dX7_safe_5 (by decide) (fun c3 => ?_) (fun c3 => ?_)
  · have hf := o_neg hf c3
    refine lv_aload_n hx hb dX7_safe_11 rfl (lv_at hl 0 rfl) ?_
    refine m_get (v := .int (gI σ1 25)) X hI hc 25 (by decide) q2683 rfl dX7_safe_12 ?_
    refine lv_if_ne (tgt := 22) hx hb dX7_safe_15 (by decide) (fun c4 => ?_) (fun c4 => ?_)
    · have hf := o_neg hf c4
      refine lv_iconst (v := 0) hx hb dX7_safe_22 (by decide) ?_
      exact hret hf hI dX7_safe_23
    · have hf := o_pos hf c4
      refine lv_iconst (v := 1) hx hb dX7_safe_18 (by decide) ?_
      refine lv_goto (tgt := 23) hx hb dX7_safe_19 (by decide) ?_
      exact hret hf hI dX7_safe_23
  · have hf := o_pos hf c3
    refine lv_bipush (v := -2) hx hb dX7_safe_8 (by decide) ?_
    exact hret hf hI dX7_safe_10
/-! bound -/
def f7_bound_b12 (K12 : Int32 → MS → oI Int32) (x1 : Int32) (σ : MS) : oI Int32 :=
  if x1 < 0 then (some (x1, σ)) else (bnd (f7_breaksIn x1 σ) fun r6 σ5 =>
  if r6 ≤ 0 then (some (x1, σ5)) else (K12 (x1 + (-1)) σ5))
def f7_bound_l12 : Nat → Int32 → MS → oI Int32
  | 0 => fun _ _ => none
  | n + 1 => fun x1 σ => f7_bound_b12 (f7_bound_l12 n) x1 σ
def f7_bound (σ : MS) : oI Int32 :=
  bnd (f7_asks σ) fun r2 σ1 =>
  if r2 = 0 then (some ((-2), σ1)) else (f7_bound_l12 FU 3 σ1)
abbrev r7_bound : Room := { frames := 7, cells := 0, slots := 0, locals := 164 }
theorem m7_bound (l : Launch) (D : va_G) (cl : vC2) (Z : (Nat → Prop) → State → Heap → Prop) (hz : ZK Z) (ci : Nat) (A : Nat → Nat) (d : Nat → ClassId) (tm : List (ClassId × FieldType)) (hc : cl.1[ci]? = some (RX7, TX7, 42)) (σ : MS) (r : Int32) (σ' : MS) (hf : f7_bound σ = some (r, σ')) : MMi l yX7_bound (ws_ yX7_bound cX7_bound 2 (some .int)) r7_bound D cl Z ci A d tm σ [] r σ' := by
  refine m_openi hz (by decide) (by exact Nat.le_of_ble_eq_true rfl) (fun p e s m args below meth c ls A0 Q X hI hl hret => ?_)
  have X : XC p s m args meth c cX7_bound 2 RX7 D cl (mty d tm) A0 Z := X
  have hx := X.1
  have hb := X.2.1
  have hown := X.2.2.2.1
  have hts := X.2.2.2.2.1
  have L12 : ∀ (n : Nat) (x1 : Int32) (σ : MS), f7_bound_l12 n x1 σ = some (r, σ') → ∀ (H : Heap) (locs : List Loc), XI D cl (mw ci A d σ) A0 s.heap H locs → ∀ (ls : Array Slot), lv_has ls 2 [(0, .ref (A 0)), (1, .int x1)] → W p l e r7_bound s m args below meth c H locs 0 0 Q (F0 m 12 ls []) := by
    intro n12
    induction n12 with
    | zero => intro x1 σ hf; cases hf
    | succ n12 ih12 =>
      intro x1 σ hf H locs hI ls hl
      have hf : f7_bound_b12 (f7_bound_l12 n12) x1 σ = some (r, σ') := hf
      unfold f7_bound_b12 at hf
      refine lv_iload_n hx hb dX7_bound_12 rfl (lv_at hl 1 rfl) ?_
      refine lv_if_lt (tgt := 30) hx hb dX7_bound_13 (by decide) (fun c4 => ?_) (fun c4 => ?_)
      · have hf := o_pos hf c4
        refine lv_iload_n hx hb dX7_bound_30 rfl (lv_at hl 1 rfl) ?_
        exact hret hf hI dX7_bound_31
      · have hf := o_neg hf c4
        refine lv_aload_n hx hb dX7_bound_16 rfl (lv_at hl 0 rfl) ?_
        refine lv_iload_n hx hb dX7_bound_17 rfl (lv_at hl 1 rfl) ?_
        obtain ⟨r6, σ5, hσ5, hf⟩ := bnd_some hf
        refine m_calli X hI hc [.int x1] (m7_breaksIn l D cl Z hz ci A d tm hc x1 σ r6 σ5 hσ5) (cw7_breaksIn hts ⟨Nat.le_of_ble_eq_true rfl, Nat.le_of_ble_eq_true rfl⟩) rfl hl.1 (Nat.le_of_ble_eq_true rfl) rfl dX7_bound_18 ⟨Nat.le_of_ble_eq_true rfl, Nat.le_of_ble_eq_true rfl⟩ (fun H locs hI => ?_)
        refine lv_if_le (tgt := 30) hx hb dX7_bound_21 (by decide) (fun c7 => ?_) (fun c7 => ?_)
        · have hf := o_pos hf c7
          refine lv_iload_n hx hb dX7_bound_30 rfl (lv_at hl 1 rfl) ?_
          exact hret hf hI dX7_bound_31
        · have hf := o_neg hf c7
          refine lv_iinc (v := x1 + (-1)) (lv' := [(1, .int (x1 + (-1))), (0, .ref (A 0))]) hx hb dX7_bound_24 hl (k := 1) rfl rfl (by decide) rfl (fun ls hl => ?_)
          refine lv_goto (tgt := 12) hx hb dX7_bound_27 (by decide) ?_
          exact ih12 (x1 + (-1)) σ5 hf H locs hI ls (lv_sub hl [1, 0] rfl)
  have hl : lv_has ls 2 [(0, .ref (A 0))] := hl
  unfold f7_bound at hf
  obtain ⟨H, eH⟩ : ∃ H, H = s.heap := ⟨_, rfl⟩
  obtain ⟨locs, eL⟩ : ∃ locs : List Loc, locs = [] := ⟨_, rfl⟩
  have hI : XI D cl (mw ci A d σ) A0 s.heap H locs := by rw [eH, eL]; exact hI
  rw [← eL]
  suffices h : W p l e r7_bound s m args below meth c H locs 0 0 Q (F0 m 0 ls []) by rw [eH] at h; exact h
  clear eH eL
  refine lv_aload_n hx hb dX7_bound_0 rfl (lv_at hl 0 rfl) ?_
  obtain ⟨r2, σ1, hσ1, hf⟩ := bnd_some hf
  refine m_calli X hI hc [] (m7_asks l D cl Z hz ci A d tm hc σ r2 σ1 hσ1) (cw7_asks hts ⟨Nat.le_of_ble_eq_true rfl, Nat.le_of_ble_eq_true rfl⟩) rfl hl.1 (Nat.le_of_ble_eq_true rfl) rfl dX7_bound_1 ⟨Nat.le_of_ble_eq_true rfl, Nat.le_of_ble_eq_true rfl⟩ (fun H locs hI => ?_)
  refine lv_if_ne (tgt := 10) hx hb dX7_bound_4 (by decide) (fun c3 => ?_) (fun c3 => ?_)
  · have hf := o_neg hf c3
    refine lv_iconst (v := 3) hx hb dX7_bound_10 (by decide) ?_
    refine lv_istore_n (lv' := [(1, .int 3), (0, .ref (A 0))]) hx hb dX7_bound_11 rfl hl (by decide) rfl (fun ls hl => ?_)
    exact L12 FU 3 σ1 hf H locs hI ls (lv_sub hl [1, 0] rfl)
  · have hf := o_pos hf c3
    refine lv_bipush (v := -2) hx hb dX7_bound_7 (by decide) ?_
    exact hret hf hI dX7_bound_9
/-! bare -/
def f7_bare_b44 (K21 : Int32 → Int32 → Int32 → MS → oI Int32) (x1 : Int32) (x3 : Int32) (z0 : Int32) (z1 : Int32) (σ : MS) : oI Int32 :=
  K21 x1 (z0 + z1) (x3 + 1) σ
def f7_bare_b21 (K21 : Int32 → Int32 → Int32 → MS → oI Int32) (x1 : Int32) (x2 : Int32) (x3 : Int32) (σ : MS) : oI Int32 :=
  bnd (f7_stateMany σ) fun r7 σ6 =>
  if r7 ≤ x3 then (some (x2, σ6)) else (bnd (f7_breaksFrom x3 x1 σ6) fun r10 σ9 =>
  if r10 ≤ 0 then (f7_bare_b44 K21 x1 x3 x2 0 σ9) else (f7_bare_b44 K21 x1 x3 x2 1 σ9))
def f7_bare_l21 : Nat → Int32 → Int32 → Int32 → MS → oI Int32
  | 0 => fun _ _ _ _ => none
  | n + 1 => fun x1 x2 x3 σ => f7_bare_b21 (f7_bare_l21 n) x1 x2 x3 σ
def f7_bare (p0 : Int32) (σ : MS) : oI Int32 :=
  bnd (f7_asks σ) fun r2 σ1 =>
  if r2 = 0 then (some ((-2), σ1)) else (bn1 (f7_isDepth p0) fun r4 =>
  if r4 = 0 then (some ((-2), σ1)) else (f7_bare_l21 FU p0 0 0 σ1))
abbrev r7_bare : Room := { frames := 7, cells := 0, slots := 0, locals := 164 }
theorem m7_bare (l : Launch) (D : va_G) (cl : vC2) (Z : (Nat → Prop) → State → Heap → Prop) (hz : ZK Z) (ci : Nat) (A : Nat → Nat) (d : Nat → ClassId) (tm : List (ClassId × FieldType)) (hc : cl.1[ci]? = some (RX7, TX7, 42)) (p0 : Int32) (σ : MS) (r : Int32) (σ' : MS) (hf : f7_bare p0 σ = some (r, σ')) : MMi l yX7_bare (ws_ yX7_bare cX7_bare 4 (some .int)) r7_bare D cl Z ci A d tm σ [.int p0] r σ' := by
  refine m_openi hz (by decide) (by exact Nat.le_of_ble_eq_true rfl) (fun p e s m args below meth c ls A0 Q X hI hl hret => ?_)
  have X : XC p s m args meth c cX7_bare 4 RX7 D cl (mty d tm) A0 Z := X
  have hx := X.1
  have hb := X.2.1
  have hown := X.2.2.2.1
  have hts := X.2.2.2.2.1
  have L21 : ∀ (n : Nat) (x1 : Int32) (x2 : Int32) (x3 : Int32) (σ : MS), f7_bare_l21 n x1 x2 x3 σ = some (r, σ') → ∀ (H : Heap) (locs : List Loc), XI D cl (mw ci A d σ) A0 s.heap H locs → ∀ (ls : Array Slot), lv_has ls 4 [(0, .ref (A 0)), (1, .int x1), (2, .int x2), (3, .int x3)] → W p l e r7_bare s m args below meth c H locs 0 0 Q (F0 m 21 ls []) := by
    intro n21
    induction n21 with
    | zero => intro x1 x2 x3 σ hf; cases hf
    | succ n21 ih21 =>
      have J44 : ∀ (x1 : Int32) (x3 : Int32) (z0 : Int32) (z1 : Int32) (σ : MS), f7_bare_b44 (f7_bare_l21 n21) x1 x3 z0 z1 σ = some (r, σ') → ∀ (H : Heap) (locs : List Loc), XI D cl (mw ci A d σ) A0 s.heap H locs → ∀ (ls : Array Slot), lv_has ls 4 [(0, .ref (A 0)), (1, .int x1), (3, .int x3)] → W p l e r7_bare s m args below meth c H locs 0 0 Q (F0 m 44 ls [.int z1, .int z0]) := by
        intro x1 x3 z0 z1 σ hf H locs hI ls hl
        unfold f7_bare_b44 at hf
        refine lv_iadd hx hb dX7_bare_44 ?_
        refine lv_istore_n (lv' := [(2, .int (z0 + z1)), (0, .ref (A 0)), (1, .int x1), (3, .int x3)]) hx hb dX7_bare_45 rfl hl (by decide) rfl (fun ls hl => ?_)
        refine lv_iinc (v := x3 + 1) (lv' := [(3, .int (x3 + 1)), (2, .int (z0 + z1)), (0, .ref (A 0)), (1, .int x1)]) hx hb dX7_bare_46 hl (k := 3) rfl rfl (by decide) rfl (fun ls hl => ?_)
        refine lv_goto (tgt := 21) hx hb dX7_bare_49 (by decide) ?_
        exact ih21 x1 (z0 + z1) (x3 + 1) σ hf H locs hI ls (lv_sub hl [2, 3, 1, 0] rfl)
      intro x1 x2 x3 σ hf H locs hI ls hl
      have hf : f7_bare_b21 (f7_bare_l21 n21) x1 x2 x3 σ = some (r, σ') := hf
      unfold f7_bare_b21 at hf
      refine lv_iload_n hx hb dX7_bare_21 rfl (lv_at hl 3 rfl) ?_
      refine lv_aload_n hx hb dX7_bare_22 rfl (lv_at hl 0 rfl) ?_
      obtain ⟨r7, σ6, hσ6, hf⟩ := bnd_some hf
      refine m_calli X hI hc [] (m7_stateMany l D cl Z hz ci A d tm hc σ r7 σ6 hσ6) (cw7_stateMany hts ⟨Nat.le_of_ble_eq_true rfl, Nat.le_of_ble_eq_true rfl⟩) rfl hl.1 (Nat.le_of_ble_eq_true rfl) rfl dX7_bare_23 ⟨Nat.le_of_ble_eq_true rfl, Nat.le_of_ble_eq_true rfl⟩ (fun H locs hI => ?_)
      refine lv_icmp_ge (tgt := 52) hx hb dX7_bare_26 (by decide) (fun c8 => ?_) (fun c8 => ?_)
      · have hf := o_pos hf c8
        refine lv_iload_n hx hb dX7_bare_52 rfl (lv_at hl 2 rfl) ?_
        exact hret hf hI dX7_bare_53
      · have hf := o_neg hf c8
        refine lv_iload_n hx hb dX7_bare_29 rfl (lv_at hl 2 rfl) ?_
        refine lv_aload_n hx hb dX7_bare_30 rfl (lv_at hl 0 rfl) ?_
        refine lv_iload_n hx hb dX7_bare_31 rfl (lv_at hl 3 rfl) ?_
        refine lv_iload_n hx hb dX7_bare_32 rfl (lv_at hl 1 rfl) ?_
        obtain ⟨r10, σ9, hσ9, hf⟩ := bnd_some hf
        refine m_calli X hI hc [.int x3, .int x1] (m7_breaksFrom l D cl Z hz ci A d tm hc x3 x1 σ6 r10 σ9 hσ9) (cw7_breaksFrom hts ⟨Nat.le_of_ble_eq_true rfl, Nat.le_of_ble_eq_true rfl⟩) rfl hl.1 (Nat.le_of_ble_eq_true rfl) rfl dX7_bare_33 ⟨Nat.le_of_ble_eq_true rfl, Nat.le_of_ble_eq_true rfl⟩ (fun H locs hI => ?_)
        refine lv_if_le (tgt := 43) hx hb dX7_bare_36 (by decide) (fun c11 => ?_) (fun c11 => ?_)
        · have hf := o_pos hf c11
          refine lv_iconst (v := 0) hx hb dX7_bare_43 (by decide) ?_
          exact J44 x1 x3 x2 0 σ9 hf H locs hI ls (lv_sub hl [0, 1, 3] rfl)
        · have hf := o_neg hf c11
          refine lv_iconst (v := 1) hx hb dX7_bare_39 (by decide) ?_
          refine lv_goto (tgt := 44) hx hb dX7_bare_40 (by decide) ?_
          exact J44 x1 x3 x2 1 σ9 hf H locs hI ls (lv_sub hl [0, 1, 3] rfl)
  have hl : lv_has ls 4 [(0, .ref (A 0)), (1, .int p0)] := hl
  unfold f7_bare at hf
  obtain ⟨H, eH⟩ : ∃ H, H = s.heap := ⟨_, rfl⟩
  obtain ⟨locs, eL⟩ : ∃ locs : List Loc, locs = [] := ⟨_, rfl⟩
  have hI : XI D cl (mw ci A d σ) A0 s.heap H locs := by rw [eH, eL]; exact hI
  rw [← eL]
  suffices h : W p l e r7_bare s m args below meth c H locs 0 0 Q (F0 m 0 ls []) by rw [eH] at h; exact h
  clear eH eL
  refine lv_aload_n hx hb dX7_bare_0 rfl (lv_at hl 0 rfl) ?_
  obtain ⟨r2, σ1, hσ1, hf⟩ := bnd_some hf
  refine m_calli X hI hc [] (m7_asks l D cl Z hz ci A d tm hc σ r2 σ1 hσ1) (cw7_asks hts ⟨Nat.le_of_ble_eq_true rfl, Nat.le_of_ble_eq_true rfl⟩) rfl hl.1 (Nat.le_of_ble_eq_true rfl) rfl dX7_bare_1 ⟨Nat.le_of_ble_eq_true rfl, Nat.le_of_ble_eq_true rfl⟩ (fun H locs hI => ?_)
  refine lv_if_eq (tgt := 14) hx hb dX7_bare_4 (by decide) (fun c3 => ?_) (fun c3 => ?_)
  · have hf := o_pos hf c3
    refine lv_bipush (v := -2) hx hb dX7_bare_14 (by decide) ?_
    exact hret hf hI dX7_bare_16
  · have hf := o_neg hf c3
    refine lv_iload_n hx hb dX7_bare_7 rfl (lv_at hl 1 rfl) ?_
    obtain ⟨r4, hr4, hf⟩ := bn1_some hf
    refine x_callSi (As := [.int p0]) X hI (m7_isDepth l p0 r4 hr4) (cw7_isDepth hts ⟨Nat.le_of_ble_eq_true rfl, Nat.le_of_ble_eq_true rfl⟩) rfl hl.1 (Nat.le_of_ble_eq_true rfl) rfl dX7_bare_8 ⟨Nat.le_of_ble_eq_true rfl, Nat.le_of_ble_eq_true rfl⟩ (fun H locs hI => ?_)
    refine lv_if_ne (tgt := 17) hx hb dX7_bare_11 (by decide) (fun c5 => ?_) (fun c5 => ?_)
    · have hf := o_neg hf c5
      refine lv_iconst (v := 0) hx hb dX7_bare_17 (by decide) ?_
      refine lv_istore_n (lv' := [(2, .int 0), (0, .ref (A 0)), (1, .int p0)]) hx hb dX7_bare_18 rfl hl (by decide) rfl (fun ls hl => ?_)
      refine lv_iconst (v := 0) hx hb dX7_bare_19 (by decide) ?_
      refine lv_istore_n (lv' := [(3, .int 0), (2, .int 0), (0, .ref (A 0)), (1, .int p0)]) hx hb dX7_bare_20 rfl hl (by decide) rfl (fun ls hl => ?_)
      exact L21 FU p0 0 0 σ1 hf H locs hI ls (lv_sub hl [2, 3, 1, 0] rfl)
    · have hf := o_pos hf c5
      refine lv_bipush (v := -2) hx hb dX7_bare_14 (by decide) ?_
      exact hret hf hI dX7_bare_16
/-! calm -/
def f7_calm_b32 (K32 : Int32 → Int32 → MS → oI Int32) (x1 : Int32) (x2 : Int32) (σ : MS) : oI Int32 :=
  if x2 < 0 then (some (x2, σ)) else (bnd (f7_breaksFrom x1 x2 σ) fun r11 σ10 =>
  if r11 ≤ 0 then (some (x2, σ10)) else (K32 x1 (x2 + (-1)) σ10))
def f7_calm_l32 : Nat → Int32 → Int32 → MS → oI Int32
  | 0 => fun _ _ _ => none
  | n + 1 => fun x1 x2 σ => f7_calm_b32 (f7_calm_l32 n) x1 x2 σ
def f7_calm (p0 : Int32) (σ : MS) : oI Int32 :=
  bnd (f7_asks σ) fun r2 σ1 =>
  if r2 = 0 then (some ((-2), σ1)) else (bnd (f7_isState p0.toInt64 σ1) fun r5 σ4 =>
  if r5 = 0 then (some ((-2), σ4)) else (grd (inB p0 64) <|
  if (gA σ4 19 p0.toNatClampNeg) = 0 then (some ((-1), σ4)) else (f7_calm_l32 FU p0 3 σ4)))
abbrev r7_calm : Room := { frames := 7, cells := 0, slots := 0, locals := 164 }
theorem m7_calm (l : Launch) (D : va_G) (cl : vC2) (Z : (Nat → Prop) → State → Heap → Prop) (hz : ZK Z) (ci : Nat) (A : Nat → Nat) (d : Nat → ClassId) (tm : List (ClassId × FieldType)) (hc : cl.1[ci]? = some (RX7, TX7, 42)) (p0 : Int32) (σ : MS) (r : Int32) (σ' : MS) (hf : f7_calm p0 σ = some (r, σ')) : MMi l yX7_calm (ws_ yX7_calm cX7_calm 3 (some .int)) r7_calm D cl Z ci A d tm σ [.int p0] r σ' := by
  refine m_openi hz (by decide) (by exact Nat.le_of_ble_eq_true rfl) (fun p e s m args below meth c ls A0 Q X hI hl hret => ?_)
  have X : XC p s m args meth c cX7_calm 3 RX7 D cl (mty d tm) A0 Z := X
  have hx := X.1
  have hb := X.2.1
  have hown := X.2.2.2.1
  have hts := X.2.2.2.2.1
  have L32 : ∀ (n : Nat) (x1 : Int32) (x2 : Int32) (σ : MS), f7_calm_l32 n x1 x2 σ = some (r, σ') → ∀ (H : Heap) (locs : List Loc), XI D cl (mw ci A d σ) A0 s.heap H locs → ∀ (ls : Array Slot), lv_has ls 3 [(0, .ref (A 0)), (1, .int x1), (2, .int x2)] → W p l e r7_calm s m args below meth c H locs 0 0 Q (F0 m 32 ls []) := by
    intro n32
    induction n32 with
    | zero => intro x1 x2 σ hf; cases hf
    | succ n32 ih32 =>
      intro x1 x2 σ hf H locs hI ls hl
      have hf : f7_calm_b32 (f7_calm_l32 n32) x1 x2 σ = some (r, σ') := hf
      unfold f7_calm_b32 at hf
      refine lv_iload_n hx hb dX7_calm_32 rfl (lv_at hl 2 rfl) ?_
      refine lv_if_lt (tgt := 51) hx hb dX7_calm_33 (by decide) (fun c9 => ?_) (fun c9 => ?_)
      · have hf := o_pos hf c9
        refine lv_iload_n hx hb dX7_calm_51 rfl (lv_at hl 2 rfl) ?_
        exact hret hf hI dX7_calm_52
      · have hf := o_neg hf c9
        refine lv_aload_n hx hb dX7_calm_36 rfl (lv_at hl 0 rfl) ?_
        refine lv_iload_n hx hb dX7_calm_37 rfl (lv_at hl 1 rfl) ?_
        refine lv_iload_n hx hb dX7_calm_38 rfl (lv_at hl 2 rfl) ?_
        obtain ⟨r11, σ10, hσ10, hf⟩ := bnd_some hf
        refine m_calli X hI hc [.int x1, .int x2] (m7_breaksFrom l D cl Z hz ci A d tm hc x1 x2 σ r11 σ10 hσ10) (cw7_breaksFrom hts ⟨Nat.le_of_ble_eq_true rfl, Nat.le_of_ble_eq_true rfl⟩) rfl hl.1 (Nat.le_of_ble_eq_true rfl) rfl dX7_calm_39 ⟨Nat.le_of_ble_eq_true rfl, Nat.le_of_ble_eq_true rfl⟩ (fun H locs hI => ?_)
        refine lv_if_le (tgt := 51) hx hb dX7_calm_42 (by decide) (fun c12 => ?_) (fun c12 => ?_)
        · have hf := o_pos hf c12
          refine lv_iload_n hx hb dX7_calm_51 rfl (lv_at hl 2 rfl) ?_
          exact hret hf hI dX7_calm_52
        · have hf := o_neg hf c12
          refine lv_iinc (v := x2 + (-1)) (lv' := [(2, .int (x2 + (-1))), (0, .ref (A 0)), (1, .int x1)]) hx hb dX7_calm_45 hl (k := 2) rfl rfl (by decide) rfl (fun ls hl => ?_)
          refine lv_goto (tgt := 32) hx hb dX7_calm_48 (by decide) ?_
          exact ih32 x1 (x2 + (-1)) σ10 hf H locs hI ls (lv_sub hl [1, 2, 0] rfl)
  have hl : lv_has ls 3 [(0, .ref (A 0)), (1, .int p0)] := hl
  unfold f7_calm at hf
  obtain ⟨H, eH⟩ : ∃ H, H = s.heap := ⟨_, rfl⟩
  obtain ⟨locs, eL⟩ : ∃ locs : List Loc, locs = [] := ⟨_, rfl⟩
  have hI : XI D cl (mw ci A d σ) A0 s.heap H locs := by rw [eH, eL]; exact hI
  rw [← eL]
  suffices h : W p l e r7_calm s m args below meth c H locs 0 0 Q (F0 m 0 ls []) by rw [eH] at h; exact h
  clear eH eL
  refine lv_aload_n hx hb dX7_calm_0 rfl (lv_at hl 0 rfl) ?_
  obtain ⟨r2, σ1, hσ1, hf⟩ := bnd_some hf
  refine m_calli X hI hc [] (m7_asks l D cl Z hz ci A d tm hc σ r2 σ1 hσ1) (cw7_asks hts ⟨Nat.le_of_ble_eq_true rfl, Nat.le_of_ble_eq_true rfl⟩) rfl hl.1 (Nat.le_of_ble_eq_true rfl) rfl dX7_calm_1 ⟨Nat.le_of_ble_eq_true rfl, Nat.le_of_ble_eq_true rfl⟩ (fun H locs hI => ?_)
  refine lv_if_eq (tgt := 16) hx hb dX7_calm_4 (by decide) (fun c3 => ?_) (fun c3 => ?_)
  · have hf := o_pos hf c3
    refine lv_bipush (v := -2) hx hb dX7_calm_16 (by decide) ?_
    exact hret hf hI dX7_calm_18
  · have hf := o_neg hf c3
    refine lv_aload_n hx hb dX7_calm_7 rfl (lv_at hl 0 rfl) ?_
    refine lv_iload_n hx hb dX7_calm_8 rfl (lv_at hl 1 rfl) ?_
    refine lv_i2l hx hb dX7_calm_9 rfl ?_
    obtain ⟨r5, σ4, hσ4, hf⟩ := bnd_some hf
    refine m_calli X hI hc [.long p0.toInt64] (m7_isState l D cl Z hz ci A d tm hc p0.toInt64 σ1 r5 σ4 hσ4) (cw7_isState hts ⟨Nat.le_of_ble_eq_true rfl, Nat.le_of_ble_eq_true rfl⟩) rfl hl.1 (Nat.le_of_ble_eq_true rfl) rfl dX7_calm_10 ⟨Nat.le_of_ble_eq_true rfl, Nat.le_of_ble_eq_true rfl⟩ (fun H locs hI => ?_)
    refine lv_if_ne (tgt := 19) hx hb dX7_calm_13 (by decide) (fun c6 => ?_) (fun c6 => ?_)
    · have hf := o_neg hf c6
      refine lv_aload_n hx hb dX7_calm_19 rfl (lv_at hl 0 rfl) ?_
      refine m_get (v := .ref (A 19)) X hI hc 19 (by decide) q2677 rfl dX7_calm_20 ?_
      refine lv_iload_n hx hb dX7_calm_23 rfl (lv_at hl 1 rfl) ?_
      obtain ⟨g7, hf⟩ := grd_some hf
      refine m_zald X hI 19 8 64 rfl rfl g7 dX7_calm_24 ?_
      refine lv_if_ne (tgt := 30) hx hb dX7_calm_25 (by decide) (fun c8 => ?_) (fun c8 => ?_)
      · have hf := o_neg hf c8
        refine lv_iconst (v := 3) hx hb dX7_calm_30 (by decide) ?_
        refine lv_istore_n (lv' := [(2, .int 3), (0, .ref (A 0)), (1, .int p0)]) hx hb dX7_calm_31 rfl hl (by decide) rfl (fun ls hl => ?_)
        exact L32 FU p0 3 σ4 hf H locs hI ls (lv_sub hl [1, 2, 0] rfl)
      · have hf := o_pos hf c8
        refine lv_iconst (v := -1) hx hb dX7_calm_28 (by decide) ?_
        exact hret hf hI dX7_calm_29
    · have hf := o_pos hf c6
      refine lv_bipush (v := -2) hx hb dX7_calm_16 (by decide) ?_
      exact hret hf hI dX7_calm_18
/-! hot -/
def f7_hot_b55 (K24 : Int32 → Int32 → Int32 → Int32 → MS → oI Int32) (x1 : Int32) (x2 : Int32) (x3 : Int32) (x4 : Int32) (σ : MS) : oI Int32 :=
  K24 x1 x2 x3 (x4 + 1) σ
def f7_hot_b24 (K24 : Int32 → Int32 → Int32 → Int32 → MS → oI Int32) (x1 : Int32) (x2 : Int32) (x3 : Int32) (x4 : Int32) (σ : MS) : oI Int32 :=
  bnd (f7_stateMany σ) fun r7 σ6 =>
  if r7 ≤ x4 then (some (x2, σ6)) else (bnd (f7_breaksFrom x4 x1 σ6) fun r10 σ9 =>
  if x3 < r10 then (f7_hot_b55 K24 x1 x4 (gI σ9 25) x4 σ9) else (f7_hot_b55 K24 x1 x2 x3 x4 σ9))
def f7_hot_l24 : Nat → Int32 → Int32 → Int32 → Int32 → MS → oI Int32
  | 0 => fun _ _ _ _ _ => none
  | n + 1 => fun x1 x2 x3 x4 σ => f7_hot_b24 (f7_hot_l24 n) x1 x2 x3 x4 σ
def f7_hot (p0 : Int32) (σ : MS) : oI Int32 :=
  bnd (f7_asks σ) fun r2 σ1 =>
  if r2 = 0 then (some ((-2), σ1)) else (bn1 (f7_isDepth p0) fun r4 =>
  if r4 = 0 then (some ((-2), σ1)) else (f7_hot_l24 FU p0 (-1) 0 0 σ1))
abbrev r7_hot : Room := { frames := 7, cells := 0, slots := 0, locals := 164 }
theorem m7_hot (l : Launch) (D : va_G) (cl : vC2) (Z : (Nat → Prop) → State → Heap → Prop) (hz : ZK Z) (ci : Nat) (A : Nat → Nat) (d : Nat → ClassId) (tm : List (ClassId × FieldType)) (hc : cl.1[ci]? = some (RX7, TX7, 42)) (p0 : Int32) (σ : MS) (r : Int32) (σ' : MS) (hf : f7_hot p0 σ = some (r, σ')) : MMi l yX7_hot (ws_ yX7_hot cX7_hot 5 (some .int)) r7_hot D cl Z ci A d tm σ [.int p0] r σ' := by
  refine m_openi hz (by decide) (by exact Nat.le_of_ble_eq_true rfl) (fun p e s m args below meth c ls A0 Q X hI hl hret => ?_)
  have X : XC p s m args meth c cX7_hot 5 RX7 D cl (mty d tm) A0 Z := X
  have hx := X.1
  have hb := X.2.1
  have hown := X.2.2.2.1
  have hts := X.2.2.2.2.1
  have L24 : ∀ (n : Nat) (x1 : Int32) (x2 : Int32) (x3 : Int32) (x4 : Int32) (σ : MS), f7_hot_l24 n x1 x2 x3 x4 σ = some (r, σ') → ∀ (H : Heap) (locs : List Loc), XI D cl (mw ci A d σ) A0 s.heap H locs → ∀ (ls : Array Slot), lv_has ls 5 [(0, .ref (A 0)), (1, .int x1), (2, .int x2), (3, .int x3), (4, .int x4)] → W p l e r7_hot s m args below meth c H locs 0 0 Q (F0 m 24 ls []) := by
    intro n24
    induction n24 with
    | zero => intro x1 x2 x3 x4 σ hf; cases hf
    | succ n24 ih24 =>
      have J55 : ∀ (x1 : Int32) (x2 : Int32) (x3 : Int32) (x4 : Int32) (σ : MS), f7_hot_b55 (f7_hot_l24 n24) x1 x2 x3 x4 σ = some (r, σ') → ∀ (H : Heap) (locs : List Loc), XI D cl (mw ci A d σ) A0 s.heap H locs → ∀ (ls : Array Slot), lv_has ls 5 [(0, .ref (A 0)), (1, .int x1), (2, .int x2), (3, .int x3), (4, .int x4)] → W p l e r7_hot s m args below meth c H locs 0 0 Q (F0 m 55 ls []) := by
        intro x1 x2 x3 x4 σ hf H locs hI ls hl
        unfold f7_hot_b55 at hf
        refine lv_iinc (v := x4 + 1) (lv' := [(4, .int (x4 + 1)), (0, .ref (A 0)), (1, .int x1), (2, .int x2), (3, .int x3)]) hx hb dX7_hot_55 hl (k := 4) rfl rfl (by decide) rfl (fun ls hl => ?_)
        refine lv_goto (tgt := 24) hx hb dX7_hot_58 (by decide) ?_
        exact ih24 x1 x2 x3 (x4 + 1) σ hf H locs hI ls (lv_sub hl [1, 2, 3, 4, 0] rfl)
      intro x1 x2 x3 x4 σ hf H locs hI ls hl
      have hf : f7_hot_b24 (f7_hot_l24 n24) x1 x2 x3 x4 σ = some (r, σ') := hf
      unfold f7_hot_b24 at hf
      refine lv_iload hx hb dX7_hot_24 (lv_at hl 4 rfl) ?_
      refine lv_aload_n hx hb dX7_hot_26 rfl (lv_at hl 0 rfl) ?_
      obtain ⟨r7, σ6, hσ6, hf⟩ := bnd_some hf
      refine m_calli X hI hc [] (m7_stateMany l D cl Z hz ci A d tm hc σ r7 σ6 hσ6) (cw7_stateMany hts ⟨Nat.le_of_ble_eq_true rfl, Nat.le_of_ble_eq_true rfl⟩) rfl hl.1 (Nat.le_of_ble_eq_true rfl) rfl dX7_hot_27 ⟨Nat.le_of_ble_eq_true rfl, Nat.le_of_ble_eq_true rfl⟩ (fun H locs hI => ?_)
      refine lv_icmp_ge (tgt := 61) hx hb dX7_hot_30 (by decide) (fun c8 => ?_) (fun c8 => ?_)
      · have hf := o_pos hf c8
        refine lv_iload_n hx hb dX7_hot_61 rfl (lv_at hl 2 rfl) ?_
        exact hret hf hI dX7_hot_62
      · have hf := o_neg hf c8
        refine lv_aload_n hx hb dX7_hot_33 rfl (lv_at hl 0 rfl) ?_
        refine lv_iload hx hb dX7_hot_34 (lv_at hl 4 rfl) ?_
        refine lv_iload_n hx hb dX7_hot_36 rfl (lv_at hl 1 rfl) ?_
        obtain ⟨r10, σ9, hσ9, hf⟩ := bnd_some hf
        refine m_calli X hI hc [.int x4, .int x1] (m7_breaksFrom l D cl Z hz ci A d tm hc x4 x1 σ6 r10 σ9 hσ9) (cw7_breaksFrom hts ⟨Nat.le_of_ble_eq_true rfl, Nat.le_of_ble_eq_true rfl⟩) rfl hl.1 (Nat.le_of_ble_eq_true rfl) rfl dX7_hot_37 ⟨Nat.le_of_ble_eq_true rfl, Nat.le_of_ble_eq_true rfl⟩ (fun H locs hI => ?_)
        refine lv_iload_n hx hb dX7_hot_40 rfl (lv_at hl 3 rfl) ?_
        refine lv_icmp_gt (tgt := 47) hx hb dX7_hot_41 (by decide) (fun c11 => ?_) (fun c11 => ?_)
        · have hf := o_pos hf c11
          refine lv_aload_n hx hb dX7_hot_47 rfl (lv_at hl 0 rfl) ?_
          refine m_get (v := .int (gI σ9 25)) X hI hc 25 (by decide) q2683 rfl dX7_hot_48 ?_
          refine lv_istore_n (lv' := [(3, .int (gI σ9 25)), (0, .ref (A 0)), (1, .int x1), (2, .int x2), (4, .int x4)]) hx hb dX7_hot_51 rfl hl (by decide) rfl (fun ls hl => ?_)
          refine lv_iload hx hb dX7_hot_52 (lv_at hl 4 rfl) ?_
          refine lv_istore_n (lv' := [(2, .int x4), (3, .int (gI σ9 25)), (0, .ref (A 0)), (1, .int x1), (4, .int x4)]) hx hb dX7_hot_54 rfl hl (by decide) rfl (fun ls hl => ?_)
          exact J55 x1 x4 (gI σ9 25) x4 σ9 hf H locs hI ls (lv_sub hl [2, 3, 0, 1, 4] rfl)
        · have hf := o_neg hf c11
          refine lv_goto (tgt := 55) hx hb dX7_hot_44 (by decide) ?_
          exact J55 x1 x2 x3 x4 σ9 hf H locs hI ls (lv_sub hl [0, 1, 2, 3, 4] rfl)
  have hl : lv_has ls 5 [(0, .ref (A 0)), (1, .int p0)] := hl
  unfold f7_hot at hf
  obtain ⟨H, eH⟩ : ∃ H, H = s.heap := ⟨_, rfl⟩
  obtain ⟨locs, eL⟩ : ∃ locs : List Loc, locs = [] := ⟨_, rfl⟩
  have hI : XI D cl (mw ci A d σ) A0 s.heap H locs := by rw [eH, eL]; exact hI
  rw [← eL]
  suffices h : W p l e r7_hot s m args below meth c H locs 0 0 Q (F0 m 0 ls []) by rw [eH] at h; exact h
  clear eH eL
  refine lv_aload_n hx hb dX7_hot_0 rfl (lv_at hl 0 rfl) ?_
  obtain ⟨r2, σ1, hσ1, hf⟩ := bnd_some hf
  refine m_calli X hI hc [] (m7_asks l D cl Z hz ci A d tm hc σ r2 σ1 hσ1) (cw7_asks hts ⟨Nat.le_of_ble_eq_true rfl, Nat.le_of_ble_eq_true rfl⟩) rfl hl.1 (Nat.le_of_ble_eq_true rfl) rfl dX7_hot_1 ⟨Nat.le_of_ble_eq_true rfl, Nat.le_of_ble_eq_true rfl⟩ (fun H locs hI => ?_)
  refine lv_if_eq (tgt := 14) hx hb dX7_hot_4 (by decide) (fun c3 => ?_) (fun c3 => ?_)
  · have hf := o_pos hf c3
    refine lv_bipush (v := -2) hx hb dX7_hot_14 (by decide) ?_
    exact hret hf hI dX7_hot_16
  · have hf := o_neg hf c3
    refine lv_iload_n hx hb dX7_hot_7 rfl (lv_at hl 1 rfl) ?_
    obtain ⟨r4, hr4, hf⟩ := bn1_some hf
    refine x_callSi (As := [.int p0]) X hI (m7_isDepth l p0 r4 hr4) (cw7_isDepth hts ⟨Nat.le_of_ble_eq_true rfl, Nat.le_of_ble_eq_true rfl⟩) rfl hl.1 (Nat.le_of_ble_eq_true rfl) rfl dX7_hot_8 ⟨Nat.le_of_ble_eq_true rfl, Nat.le_of_ble_eq_true rfl⟩ (fun H locs hI => ?_)
    refine lv_if_ne (tgt := 17) hx hb dX7_hot_11 (by decide) (fun c5 => ?_) (fun c5 => ?_)
    · have hf := o_neg hf c5
      refine lv_iconst (v := -1) hx hb dX7_hot_17 (by decide) ?_
      refine lv_istore_n (lv' := [(2, .int (-1)), (0, .ref (A 0)), (1, .int p0)]) hx hb dX7_hot_18 rfl hl (by decide) rfl (fun ls hl => ?_)
      refine lv_iconst (v := 0) hx hb dX7_hot_19 (by decide) ?_
      refine lv_istore_n (lv' := [(3, .int 0), (2, .int (-1)), (0, .ref (A 0)), (1, .int p0)]) hx hb dX7_hot_20 rfl hl (by decide) rfl (fun ls hl => ?_)
      refine lv_iconst (v := 0) hx hb dX7_hot_21 (by decide) ?_
      refine lv_istore (lv' := [(4, .int 0), (3, .int 0), (2, .int (-1)), (0, .ref (A 0)), (1, .int p0)]) hx hb dX7_hot_22 hl (by decide) rfl (fun ls hl => ?_)
      exact L24 FU p0 (-1) 0 0 σ1 hf H locs hI ls (lv_sub hl [3, 4, 2, 1, 0] rfl)
    · have hf := o_pos hf c5
      refine lv_bipush (v := -2) hx hb dX7_hot_14 (by decide) ?_
      exact hret hf hI dX7_hot_16
/-! least -/
def f7_least (p0 : Int32) (p1 : Int32) (σ : MS) : oI Int32 :=
  bnd (f7_asksIn p0 σ) fun r2 σ1 =>
  if r2 = 0 then (some ((-2), σ1)) else (bn1 (f7_in p1.toInt64 0 4) fun r4 =>
  if r4 = 0 then (some ((-2), σ1)) else (if (gI σ1 25) = 0 then (some ((-1), σ1)) else (if p1 = 0 then (some (gI σ1 27, σ1)) else (if p1 = 1 then (some (gI σ1 28, σ1)) else (if p1 = 2 then (some (gI σ1 29, σ1)) else (if p1 = 3 then (bnd (f7_mergeOf (gI σ1 27) (gI σ1 28) (gI σ1 29) σ1) fun r12 σ11 =>
  some (r12, σ11)) else (some (gI σ1 26, σ1))))))))
abbrev r7_least : Room := { frames := 8, cells := 0, slots := 0, locals := 185 }
theorem m7_least (l : Launch) (D : va_G) (cl : vC2) (Z : (Nat → Prop) → State → Heap → Prop) (hz : ZK Z) (ci : Nat) (A : Nat → Nat) (d : Nat → ClassId) (tm : List (ClassId × FieldType)) (hc : cl.1[ci]? = some (RX7, TX7, 42)) (p0 : Int32) (p1 : Int32) (σ : MS) (r : Int32) (σ' : MS) (hf : f7_least p0 p1 σ = some (r, σ')) : MMi l yX7_least (ws_ yX7_least cX7_least 3 (some .int)) r7_least D cl Z ci A d tm σ [.int p0, .int p1] r σ' := by
  refine m_openi hz (by decide) (by exact Nat.le_of_ble_eq_true rfl) (fun p e s m args below meth c ls A0 Q X hI hl hret => ?_)
  have X : XC p s m args meth c cX7_least 3 RX7 D cl (mty d tm) A0 Z := X
  have hx := X.1
  have hb := X.2.1
  have hown := X.2.2.2.1
  have hts := X.2.2.2.2.1
  have hl : lv_has ls 3 [(0, .ref (A 0)), (1, .int p0), (2, .int p1)] := hl
  unfold f7_least at hf
  obtain ⟨H, eH⟩ : ∃ H, H = s.heap := ⟨_, rfl⟩
  obtain ⟨locs, eL⟩ : ∃ locs : List Loc, locs = [] := ⟨_, rfl⟩
  have hI : XI D cl (mw ci A d σ) A0 s.heap H locs := by rw [eH, eL]; exact hI
  rw [← eL]
  suffices h : W p l e r7_least s m args below meth c H locs 0 0 Q (F0 m 0 ls []) by rw [eH] at h; exact h
  clear eH eL
  refine lv_aload_n hx hb dX7_least_0 rfl (lv_at hl 0 rfl) ?_
  refine lv_iload_n hx hb dX7_least_1 rfl (lv_at hl 1 rfl) ?_
  obtain ⟨r2, σ1, hσ1, hf⟩ := bnd_some hf
  refine m_calli X hI hc [.int p0] (m7_asksIn l D cl Z hz ci A d tm hc p0 σ r2 σ1 hσ1) (cw7_asksIn hts ⟨Nat.le_of_ble_eq_true rfl, Nat.le_of_ble_eq_true rfl⟩) rfl hl.1 (Nat.le_of_ble_eq_true rfl) rfl dX7_least_2 ⟨Nat.le_of_ble_eq_true rfl, Nat.le_of_ble_eq_true rfl⟩ (fun H locs hI => ?_)
  refine lv_if_eq (tgt := 20) hx hb dX7_least_5 (by decide) (fun c3 => ?_) (fun c3 => ?_)
  · have hf := o_pos hf c3
    refine lv_bipush (v := -2) hx hb dX7_least_20 (by decide) ?_
    exact hret hf hI dX7_least_22
  · have hf := o_neg hf c3
    refine lv_iload_n hx hb dX7_least_8 rfl (lv_at hl 2 rfl) ?_
    refine lv_i2l hx hb dX7_least_9 rfl ?_
    refine lv_lconst (v := 0) hx hb dX7_least_10 (by decide) ?_
    refine lv_ldc2 (v := 4) hx hb hown (hts _ q2954) dX7_least_11 ?_
    obtain ⟨r4, hr4, hf⟩ := bn1_some hf
    refine x_callSi (As := [.long p1.toInt64, .long 0, .long 4]) X hI (m7_in l p1.toInt64 0 4 r4 hr4) (cw7_in hts ⟨Nat.le_of_ble_eq_true rfl, Nat.le_of_ble_eq_true rfl⟩) rfl hl.1 (Nat.le_of_ble_eq_true rfl) rfl dX7_least_14 ⟨Nat.le_of_ble_eq_true rfl, Nat.le_of_ble_eq_true rfl⟩ (fun H locs hI => ?_)
    refine lv_if_ne (tgt := 23) hx hb dX7_least_17 (by decide) (fun c5 => ?_) (fun c5 => ?_)
    · have hf := o_neg hf c5
      refine lv_aload_n hx hb dX7_least_23 rfl (lv_at hl 0 rfl) ?_
      refine m_get (v := .int (gI σ1 25)) X hI hc 25 (by decide) q2683 rfl dX7_least_24 ?_
      refine lv_if_ne (tgt := 32) hx hb dX7_least_27 (by decide) (fun c6 => ?_) (fun c6 => ?_)
      · have hf := o_neg hf c6
        refine lv_iload_n hx hb dX7_least_32 rfl (lv_at hl 2 rfl) ?_
        by_cases c7 : p1 = 0
        · refine x_swIn (tgt := 64) hx hb c7 dX7_least_33 (by decide) (by decide) rfl (by decide) ?_
          have hf := o_pos hf c7
          refine lv_aload_n hx hb dX7_least_64 rfl (lv_at hl 0 rfl) ?_
          refine m_get (v := .int (gI σ1 27)) X hI hc 27 (by decide) q2685 rfl dX7_least_65 ?_
          exact hret hf hI dX7_least_68
        have hf := o_neg hf c7
        by_cases c8 : p1 = 1
        · refine x_swIn (tgt := 69) hx hb c8 dX7_least_33 (by decide) (by decide) rfl (by decide) ?_
          have hf := o_pos hf c8
          refine lv_aload_n hx hb dX7_least_69 rfl (lv_at hl 0 rfl) ?_
          refine m_get (v := .int (gI σ1 28)) X hI hc 28 (by decide) q2686 rfl dX7_least_70 ?_
          exact hret hf hI dX7_least_73
        have hf := o_neg hf c8
        by_cases c9 : p1 = 2
        · refine x_swIn (tgt := 74) hx hb c9 dX7_least_33 (by decide) (by decide) rfl (by decide) ?_
          have hf := o_pos hf c9
          refine lv_aload_n hx hb dX7_least_74 rfl (lv_at hl 0 rfl) ?_
          refine m_get (v := .int (gI σ1 29)) X hI hc 29 (by decide) q2687 rfl dX7_least_75 ?_
          exact hret hf hI dX7_least_78
        have hf := o_neg hf c9
        by_cases c10 : p1 = 3
        · refine x_swIn (tgt := 79) hx hb c10 dX7_least_33 (by decide) (by decide) rfl (by decide) ?_
          have hf := o_pos hf c10
          refine lv_aload_n hx hb dX7_least_79 rfl (lv_at hl 0 rfl) ?_
          refine lv_aload_n hx hb dX7_least_80 rfl (lv_at hl 0 rfl) ?_
          refine m_get (v := .int (gI σ1 27)) X hI hc 27 (by decide) q2685 rfl dX7_least_81 ?_
          refine lv_aload_n hx hb dX7_least_84 rfl (lv_at hl 0 rfl) ?_
          refine m_get (v := .int (gI σ1 28)) X hI hc 28 (by decide) q2686 rfl dX7_least_85 ?_
          refine lv_aload_n hx hb dX7_least_88 rfl (lv_at hl 0 rfl) ?_
          refine m_get (v := .int (gI σ1 29)) X hI hc 29 (by decide) q2687 rfl dX7_least_89 ?_
          obtain ⟨r12, σ11, hσ11, hf⟩ := bnd_some hf
          refine m_calli X hI hc [.int (gI σ1 27), .int (gI σ1 28), .int (gI σ1 29)] (m7_mergeOf l D cl Z hz ci A d tm hc (gI σ1 27) (gI σ1 28) (gI σ1 29) σ1 r12 σ11 hσ11) (cw7_mergeOf hts ⟨Nat.le_of_ble_eq_true rfl, Nat.le_of_ble_eq_true rfl⟩) rfl hl.1 (Nat.le_of_ble_eq_true rfl) rfl dX7_least_92 ⟨Nat.le_of_ble_eq_true rfl, Nat.le_of_ble_eq_true rfl⟩ (fun H locs hI => ?_)
          exact hret hf hI dX7_least_95
        have hf := o_neg hf c10
        refine lv_tableOut (tgt := 96) hx hb dX7_least_33 (by have t0 := lv_neT c7 (show (0 : Int32).toInt = 0 from rfl); have t1 := lv_neT c8 (show (1 : Int32).toInt = 1 from rfl); have t2 := lv_neT c9 (show (2 : Int32).toInt = 2 from rfl); have t3 := lv_neT c10 (show (3 : Int32).toInt = 3 from rfl); omega) (by decide) ?_
        refine lv_aload_n hx hb dX7_least_96 rfl (lv_at hl 0 rfl) ?_
        refine m_get (v := .int (gI σ1 26)) X hI hc 26 (by decide) q2684 rfl dX7_least_97 ?_
        exact hret hf hI dX7_least_100
      · have hf := o_pos hf c6
        refine lv_iconst (v := -1) hx hb dX7_least_30 (by decide) ?_
        exact hret hf hI dX7_least_31
    · have hf := o_pos hf c5
      refine lv_bipush (v := -2) hx hb dX7_least_20 (by decide) ?_
      exact hret hf hI dX7_least_22
/-! culprit -/
def f7_culprit (p0 : Int32) (σ : MS) : oI Int32 :=
  bnd (f7_asksIn p0 σ) fun r2 σ1 =>
  if r2 = 0 then (some ((-2), σ1)) else (if (gI σ1 25) = 0 then (some ((-1), σ1)) else (bnd (f7_mergeOf (gI σ1 27) (gI σ1 28) (gI σ1 29) σ1) fun r6 σ5 =>
  bnd (f7_brokenBy r6 σ5) fun r8 σ7 =>
  some (r8, σ7)))
abbrev r7_culprit : Room := { frames := 8, cells := 0, slots := 0, locals := 185 }
theorem m7_culprit (l : Launch) (D : va_G) (cl : vC2) (Z : (Nat → Prop) → State → Heap → Prop) (hz : ZK Z) (ci : Nat) (A : Nat → Nat) (d : Nat → ClassId) (tm : List (ClassId × FieldType)) (hc : cl.1[ci]? = some (RX7, TX7, 42)) (p0 : Int32) (σ : MS) (r : Int32) (σ' : MS) (hf : f7_culprit p0 σ = some (r, σ')) : MMi l yX7_culprit (ws_ yX7_culprit cX7_culprit 2 (some .int)) r7_culprit D cl Z ci A d tm σ [.int p0] r σ' := by
  refine m_openi hz (by decide) (by exact Nat.le_of_ble_eq_true rfl) (fun p e s m args below meth c ls A0 Q X hI hl hret => ?_)
  have X : XC p s m args meth c cX7_culprit 2 RX7 D cl (mty d tm) A0 Z := X
  have hx := X.1
  have hb := X.2.1
  have hown := X.2.2.2.1
  have hts := X.2.2.2.2.1
  have hl : lv_has ls 2 [(0, .ref (A 0)), (1, .int p0)] := hl
  unfold f7_culprit at hf
  obtain ⟨H, eH⟩ : ∃ H, H = s.heap := ⟨_, rfl⟩
  obtain ⟨locs, eL⟩ : ∃ locs : List Loc, locs = [] := ⟨_, rfl⟩
  have hI : XI D cl (mw ci A d σ) A0 s.heap H locs := by rw [eH, eL]; exact hI
  rw [← eL]
  suffices h : W p l e r7_culprit s m args below meth c H locs 0 0 Q (F0 m 0 ls []) by rw [eH] at h; exact h
  clear eH eL
  refine lv_aload_n hx hb dX7_culprit_0 rfl (lv_at hl 0 rfl) ?_
  refine lv_iload_n hx hb dX7_culprit_1 rfl (lv_at hl 1 rfl) ?_
  obtain ⟨r2, σ1, hσ1, hf⟩ := bnd_some hf
  refine m_calli X hI hc [.int p0] (m7_asksIn l D cl Z hz ci A d tm hc p0 σ r2 σ1 hσ1) (cw7_asksIn hts ⟨Nat.le_of_ble_eq_true rfl, Nat.le_of_ble_eq_true rfl⟩) rfl hl.1 (Nat.le_of_ble_eq_true rfl) rfl dX7_culprit_2 ⟨Nat.le_of_ble_eq_true rfl, Nat.le_of_ble_eq_true rfl⟩ (fun H locs hI => ?_)
  refine lv_if_ne (tgt := 11) hx hb dX7_culprit_5 (by decide) (fun c3 => ?_) (fun c3 => ?_)
  · have hf := o_neg hf c3
    refine lv_aload_n hx hb dX7_culprit_11 rfl (lv_at hl 0 rfl) ?_
    refine m_get (v := .int (gI σ1 25)) X hI hc 25 (by decide) q2683 rfl dX7_culprit_12 ?_
    refine lv_if_ne (tgt := 22) hx hb dX7_culprit_15 (by decide) (fun c4 => ?_) (fun c4 => ?_)
    · have hf := o_neg hf c4
      refine lv_aload_n hx hb dX7_culprit_22 rfl (lv_at hl 0 rfl) ?_
      refine lv_aload_n hx hb dX7_culprit_23 rfl (lv_at hl 0 rfl) ?_
      refine lv_aload_n hx hb dX7_culprit_24 rfl (lv_at hl 0 rfl) ?_
      refine m_get (v := .int (gI σ1 27)) X hI hc 27 (by decide) q2685 rfl dX7_culprit_25 ?_
      refine lv_aload_n hx hb dX7_culprit_28 rfl (lv_at hl 0 rfl) ?_
      refine m_get (v := .int (gI σ1 28)) X hI hc 28 (by decide) q2686 rfl dX7_culprit_29 ?_
      refine lv_aload_n hx hb dX7_culprit_32 rfl (lv_at hl 0 rfl) ?_
      refine m_get (v := .int (gI σ1 29)) X hI hc 29 (by decide) q2687 rfl dX7_culprit_33 ?_
      obtain ⟨r6, σ5, hσ5, hf⟩ := bnd_some hf
      refine m_calli X hI hc [.int (gI σ1 27), .int (gI σ1 28), .int (gI σ1 29)] (m7_mergeOf l D cl Z hz ci A d tm hc (gI σ1 27) (gI σ1 28) (gI σ1 29) σ1 r6 σ5 hσ5) (cw7_mergeOf hts ⟨Nat.le_of_ble_eq_true rfl, Nat.le_of_ble_eq_true rfl⟩) rfl hl.1 (Nat.le_of_ble_eq_true rfl) rfl dX7_culprit_36 ⟨Nat.le_of_ble_eq_true rfl, Nat.le_of_ble_eq_true rfl⟩ (fun H locs hI => ?_)
      obtain ⟨r8, σ7, hσ7, hf⟩ := bnd_some hf
      refine m_calli X hI hc [.int r6] (m7_brokenBy l D cl Z hz ci A d tm hc r6 σ5 r8 σ7 hσ7) (cw7_brokenBy hts ⟨Nat.le_of_ble_eq_true rfl, Nat.le_of_ble_eq_true rfl⟩) rfl hl.1 (Nat.le_of_ble_eq_true rfl) rfl dX7_culprit_39 ⟨Nat.le_of_ble_eq_true rfl, Nat.le_of_ble_eq_true rfl⟩ (fun H locs hI => ?_)
      exact hret hf hI dX7_culprit_42
    · have hf := o_pos hf c4
      refine lv_iconst (v := -1) hx hb dX7_culprit_18 (by decide) ?_
      refine lv_goto (tgt := 42) hx hb dX7_culprit_19 (by decide) ?_
      exact hret hf hI dX7_culprit_42
  · have hf := o_pos hf c3
    refine lv_bipush (v := -2) hx hb dX7_culprit_8 (by decide) ?_
    exact hret hf hI dX7_culprit_10
/-! hits -/
def f7_hits (p0 : Int32) (p1 : Int32) (σ : MS) : oI Int32 :=
  bnd (f7_asksIn p1 σ) fun r2 σ1 =>
  if r2 = 0 then (some ((-2), σ1)) else (bnd (f7_isRule p0 σ1) fun r5 σ4 =>
  if r5 = 0 then (some ((-2), σ4)) else (grd (inB p0 5) <|
  some (gA σ4 24 p0.toNatClampNeg, σ4)))
abbrev r7_hits : Room := { frames := 8, cells := 0, slots := 0, locals := 185 }
theorem m7_hits (l : Launch) (D : va_G) (cl : vC2) (Z : (Nat → Prop) → State → Heap → Prop) (hz : ZK Z) (ci : Nat) (A : Nat → Nat) (d : Nat → ClassId) (tm : List (ClassId × FieldType)) (hc : cl.1[ci]? = some (RX7, TX7, 42)) (p0 : Int32) (p1 : Int32) (σ : MS) (r : Int32) (σ' : MS) (hf : f7_hits p0 p1 σ = some (r, σ')) : MMi l yX7_hits (ws_ yX7_hits cX7_hits 3 (some .int)) r7_hits D cl Z ci A d tm σ [.int p0, .int p1] r σ' := by
  refine m_openi hz (by decide) (by exact Nat.le_of_ble_eq_true rfl) (fun p e s m args below meth c ls A0 Q X hI hl hret => ?_)
  have X : XC p s m args meth c cX7_hits 3 RX7 D cl (mty d tm) A0 Z := X
  have hx := X.1
  have hb := X.2.1
  have hown := X.2.2.2.1
  have hts := X.2.2.2.2.1
  have hl : lv_has ls 3 [(0, .ref (A 0)), (1, .int p0), (2, .int p1)] := hl
  unfold f7_hits at hf
  obtain ⟨H, eH⟩ : ∃ H, H = s.heap := ⟨_, rfl⟩
  obtain ⟨locs, eL⟩ : ∃ locs : List Loc, locs = [] := ⟨_, rfl⟩
  have hI : XI D cl (mw ci A d σ) A0 s.heap H locs := by rw [eH, eL]; exact hI
  rw [← eL]
  suffices h : W p l e r7_hits s m args below meth c H locs 0 0 Q (F0 m 0 ls []) by rw [eH] at h; exact h
  clear eH eL
  refine lv_aload_n hx hb dX7_hits_0 rfl (lv_at hl 0 rfl) ?_
  refine lv_iload_n hx hb dX7_hits_1 rfl (lv_at hl 2 rfl) ?_
  obtain ⟨r2, σ1, hσ1, hf⟩ := bnd_some hf
  refine m_calli X hI hc [.int p1] (m7_asksIn l D cl Z hz ci A d tm hc p1 σ r2 σ1 hσ1) (cw7_asksIn hts ⟨Nat.le_of_ble_eq_true rfl, Nat.le_of_ble_eq_true rfl⟩) rfl hl.1 (Nat.le_of_ble_eq_true rfl) rfl dX7_hits_2 ⟨Nat.le_of_ble_eq_true rfl, Nat.le_of_ble_eq_true rfl⟩ (fun H locs hI => ?_)
  refine lv_if_eq (tgt := 25) hx hb dX7_hits_5 (by decide) (fun c3 => ?_) (fun c3 => ?_)
  · have hf := o_pos hf c3
    refine lv_bipush (v := -2) hx hb dX7_hits_25 (by decide) ?_
    exact hret hf hI dX7_hits_27
  · have hf := o_neg hf c3
    refine lv_aload_n hx hb dX7_hits_8 rfl (lv_at hl 0 rfl) ?_
    refine lv_iload_n hx hb dX7_hits_9 rfl (lv_at hl 1 rfl) ?_
    obtain ⟨r5, σ4, hσ4, hf⟩ := bnd_some hf
    refine m_calli X hI hc [.int p0] (m7_isRule l D cl Z hz ci A d tm hc p0 σ1 r5 σ4 hσ4) (cw7_isRule hts ⟨Nat.le_of_ble_eq_true rfl, Nat.le_of_ble_eq_true rfl⟩) rfl hl.1 (Nat.le_of_ble_eq_true rfl) rfl dX7_hits_10 ⟨Nat.le_of_ble_eq_true rfl, Nat.le_of_ble_eq_true rfl⟩ (fun H locs hI => ?_)
    refine lv_if_eq (tgt := 25) hx hb dX7_hits_13 (by decide) (fun c6 => ?_) (fun c6 => ?_)
    · have hf := o_pos hf c6
      refine lv_bipush (v := -2) hx hb dX7_hits_25 (by decide) ?_
      exact hret hf hI dX7_hits_27
    · have hf := o_neg hf c6
      refine lv_aload_n hx hb dX7_hits_16 rfl (lv_at hl 0 rfl) ?_
      refine m_get (v := .ref (A 24)) X hI hc 24 (by decide) q2682 rfl dX7_hits_17 ?_
      refine lv_iload_n hx hb dX7_hits_20 rfl (lv_at hl 1 rfl) ?_
      obtain ⟨g7, hf⟩ := grd_some hf
      refine m_iald X hI 24 13 5 rfl rfl g7 dX7_hits_21 ?_
      refine lv_goto (tgt := 27) hx hb dX7_hits_22 (by decide) ?_
      exact hret hf hI dX7_hits_27
/-! worst -/
def f7_worst_b49 (K15 : Int32 → Int32 → MS → oI Int32) (x2 : Int32) (x3 : Int32) (σ : MS) : oI Int32 :=
  K15 x2 (x3 + 1) σ
def f7_worst_b44 (K15 : Int32 → Int32 → MS → oI Int32) (x2 : Int32) (x3 : Int32) (z0 : Int32) (z1 : Int32) (σ : MS) : oI Int32 :=
  if z0 ≤ z1 then (f7_worst_b49 K15 x2 x3 σ) else (f7_worst_b49 K15 x3 x3 σ)
def f7_worst_b15 (K15 : Int32 → Int32 → MS → oI Int32) (x2 : Int32) (x3 : Int32) (σ : MS) : oI Int32 :=
  bnd (f7_rules σ) fun r5 σ4 =>
  if r5 ≤ x3 then (some (x2, σ4)) else (grd (inB x3 5) <|
  if x2 = (-1) then (f7_worst_b44 K15 x2 x3 (gA σ4 24 x3.toNatClampNeg) 0 σ4) else (grd (inB x2 5) <|
  f7_worst_b44 K15 x2 x3 (gA σ4 24 x3.toNatClampNeg) (gA σ4 24 x2.toNatClampNeg) σ4))
def f7_worst_l15 : Nat → Int32 → Int32 → MS → oI Int32
  | 0 => fun _ _ _ => none
  | n + 1 => fun x2 x3 σ => f7_worst_b15 (f7_worst_l15 n) x2 x3 σ
def f7_worst (p0 : Int32) (σ : MS) : oI Int32 :=
  bnd (f7_asksIn p0 σ) fun r2 σ1 =>
  if r2 = 0 then (some ((-2), σ1)) else (f7_worst_l15 FU (-1) 0 σ1)
abbrev r7_worst : Room := { frames := 8, cells := 0, slots := 0, locals := 185 }
theorem m7_worst (l : Launch) (D : va_G) (cl : vC2) (Z : (Nat → Prop) → State → Heap → Prop) (hz : ZK Z) (ci : Nat) (A : Nat → Nat) (d : Nat → ClassId) (tm : List (ClassId × FieldType)) (hc : cl.1[ci]? = some (RX7, TX7, 42)) (p0 : Int32) (σ : MS) (r : Int32) (σ' : MS) (hf : f7_worst p0 σ = some (r, σ')) : MMi l yX7_worst (ws_ yX7_worst cX7_worst 4 (some .int)) r7_worst D cl Z ci A d tm σ [.int p0] r σ' := by
  refine m_openi hz (by decide) (by exact Nat.le_of_ble_eq_true rfl) (fun p e s m args below meth c ls A0 Q X hI hl hret => ?_)
  have X : XC p s m args meth c cX7_worst 4 RX7 D cl (mty d tm) A0 Z := X
  have hx := X.1
  have hb := X.2.1
  have hown := X.2.2.2.1
  have hts := X.2.2.2.2.1
  have L15 : ∀ (n : Nat) (x2 : Int32) (x3 : Int32) (σ : MS), f7_worst_l15 n x2 x3 σ = some (r, σ') → ∀ (H : Heap) (locs : List Loc), XI D cl (mw ci A d σ) A0 s.heap H locs → ∀ (ls : Array Slot), lv_has ls 4 [(0, .ref (A 0)), (2, .int x2), (3, .int x3)] → W p l e r7_worst s m args below meth c H locs 0 0 Q (F0 m 15 ls []) := by
    intro n15
    induction n15 with
    | zero => intro x2 x3 σ hf; cases hf
    | succ n15 ih15 =>
      have J49 : ∀ (x2 : Int32) (x3 : Int32) (σ : MS), f7_worst_b49 (f7_worst_l15 n15) x2 x3 σ = some (r, σ') → ∀ (H : Heap) (locs : List Loc), XI D cl (mw ci A d σ) A0 s.heap H locs → ∀ (ls : Array Slot), lv_has ls 4 [(0, .ref (A 0)), (2, .int x2), (3, .int x3)] → W p l e r7_worst s m args below meth c H locs 0 0 Q (F0 m 49 ls []) := by
        intro x2 x3 σ hf H locs hI ls hl
        unfold f7_worst_b49 at hf
        refine lv_iinc (v := x3 + 1) (lv' := [(3, .int (x3 + 1)), (0, .ref (A 0)), (2, .int x2)]) hx hb dX7_worst_49 hl (k := 2) rfl rfl (by decide) rfl (fun ls hl => ?_)
        refine lv_goto (tgt := 15) hx hb dX7_worst_52 (by decide) ?_
        exact ih15 x2 (x3 + 1) σ hf H locs hI ls (lv_sub hl [1, 2, 0] rfl)
      have J44 : ∀ (x2 : Int32) (x3 : Int32) (z0 : Int32) (z1 : Int32) (σ : MS), f7_worst_b44 (f7_worst_l15 n15) x2 x3 z0 z1 σ = some (r, σ') → ∀ (H : Heap) (locs : List Loc), XI D cl (mw ci A d σ) A0 s.heap H locs → ∀ (ls : Array Slot), lv_has ls 4 [(0, .ref (A 0)), (2, .int x2), (3, .int x3)] → W p l e r7_worst s m args below meth c H locs 0 0 Q (F0 m 44 ls [.int z1, .int z0]) := by
        intro x2 x3 z0 z1 σ hf H locs hI ls hl
        unfold f7_worst_b44 at hf
        refine lv_icmp_le (tgt := 49) hx hb dX7_worst_44 (by decide) (fun c10 => ?_) (fun c10 => ?_)
        · have hf := o_pos hf c10
          exact J49 x2 x3 σ hf H locs hI ls (lv_sub hl [0, 1, 2] rfl)
        · have hf := o_neg hf c10
          refine lv_iload_n hx hb dX7_worst_47 rfl (lv_at hl 2 rfl) ?_
          refine lv_istore_n (lv' := [(2, .int x3), (0, .ref (A 0)), (3, .int x3)]) hx hb dX7_worst_48 rfl hl (by decide) rfl (fun ls hl => ?_)
          exact J49 x3 x3 σ hf H locs hI ls (lv_sub hl [1, 0, 2] rfl)
      intro x2 x3 σ hf H locs hI ls hl
      have hf : f7_worst_b15 (f7_worst_l15 n15) x2 x3 σ = some (r, σ') := hf
      unfold f7_worst_b15 at hf
      refine lv_iload_n hx hb dX7_worst_15 rfl (lv_at hl 2 rfl) ?_
      refine lv_aload_n hx hb dX7_worst_16 rfl (lv_at hl 0 rfl) ?_
      obtain ⟨r5, σ4, hσ4, hf⟩ := bnd_some hf
      refine m_calli X hI hc [] (m7_rules l D cl Z hz ci A d tm hc σ r5 σ4 hσ4) (cw7_rules hts ⟨Nat.le_of_ble_eq_true rfl, Nat.le_of_ble_eq_true rfl⟩) rfl hl.1 (Nat.le_of_ble_eq_true rfl) rfl dX7_worst_17 ⟨Nat.le_of_ble_eq_true rfl, Nat.le_of_ble_eq_true rfl⟩ (fun H locs hI => ?_)
      refine lv_icmp_ge (tgt := 55) hx hb dX7_worst_20 (by decide) (fun c6 => ?_) (fun c6 => ?_)
      · have hf := o_pos hf c6
        refine lv_iload_n hx hb dX7_worst_55 rfl (lv_at hl 1 rfl) ?_
        exact hret hf hI dX7_worst_56
      · have hf := o_neg hf c6
        refine lv_aload_n hx hb dX7_worst_23 rfl (lv_at hl 0 rfl) ?_
        refine m_get (v := .ref (A 24)) X hI hc 24 (by decide) q2682 rfl dX7_worst_24 ?_
        refine lv_iload_n hx hb dX7_worst_27 rfl (lv_at hl 2 rfl) ?_
        obtain ⟨g7, hf⟩ := grd_some hf
        refine m_iald X hI 24 13 5 rfl rfl g7 dX7_worst_28 ?_
        refine lv_iload_n hx hb dX7_worst_29 rfl (lv_at hl 1 rfl) ?_
        refine lv_iconst (v := -1) hx hb dX7_worst_30 (by decide) ?_
        refine lv_icmp_ne (tgt := 38) hx hb dX7_worst_31 (by decide) (fun c8 => ?_) (fun c8 => ?_)
        · have hf := o_neg hf c8
          refine lv_aload_n hx hb dX7_worst_38 rfl (lv_at hl 0 rfl) ?_
          refine m_get (v := .ref (A 24)) X hI hc 24 (by decide) q2682 rfl dX7_worst_39 ?_
          refine lv_iload_n hx hb dX7_worst_42 rfl (lv_at hl 1 rfl) ?_
          obtain ⟨g9, hf⟩ := grd_some hf
          refine m_iald X hI 24 13 5 rfl rfl g9 dX7_worst_43 ?_
          exact J44 x2 x3 (gA σ4 24 x3.toNatClampNeg) (gA σ4 24 x2.toNatClampNeg) σ4 hf H locs hI ls (lv_sub hl [0, 1, 2] rfl)
        · have hf := o_pos hf c8
          refine lv_iconst (v := 0) hx hb dX7_worst_34 (by decide) ?_
          refine lv_goto (tgt := 44) hx hb dX7_worst_35 (by decide) ?_
          exact J44 x2 x3 (gA σ4 24 x3.toNatClampNeg) 0 σ4 hf H locs hI ls (lv_sub hl [0, 1, 2] rfl)
  have hl : lv_has ls 4 [(0, .ref (A 0)), (1, .int p0)] := hl
  unfold f7_worst at hf
  obtain ⟨H, eH⟩ : ∃ H, H = s.heap := ⟨_, rfl⟩
  obtain ⟨locs, eL⟩ : ∃ locs : List Loc, locs = [] := ⟨_, rfl⟩
  have hI : XI D cl (mw ci A d σ) A0 s.heap H locs := by rw [eH, eL]; exact hI
  rw [← eL]
  suffices h : W p l e r7_worst s m args below meth c H locs 0 0 Q (F0 m 0 ls []) by rw [eH] at h; exact h
  clear eH eL
  refine lv_aload_n hx hb dX7_worst_0 rfl (lv_at hl 0 rfl) ?_
  refine lv_iload_n hx hb dX7_worst_1 rfl (lv_at hl 1 rfl) ?_
  obtain ⟨r2, σ1, hσ1, hf⟩ := bnd_some hf
  refine m_calli X hI hc [.int p0] (m7_asksIn l D cl Z hz ci A d tm hc p0 σ r2 σ1 hσ1) (cw7_asksIn hts ⟨Nat.le_of_ble_eq_true rfl, Nat.le_of_ble_eq_true rfl⟩) rfl hl.1 (Nat.le_of_ble_eq_true rfl) rfl dX7_worst_2 ⟨Nat.le_of_ble_eq_true rfl, Nat.le_of_ble_eq_true rfl⟩ (fun H locs hI => ?_)
  refine lv_if_ne (tgt := 11) hx hb dX7_worst_5 (by decide) (fun c3 => ?_) (fun c3 => ?_)
  · have hf := o_neg hf c3
    refine lv_iconst (v := -1) hx hb dX7_worst_11 (by decide) ?_
    refine lv_istore_n (lv' := [(2, .int (-1)), (0, .ref (A 0)), (1, .int p0)]) hx hb dX7_worst_12 rfl hl (by decide) rfl (fun ls hl => ?_)
    refine lv_iconst (v := 0) hx hb dX7_worst_13 (by decide) ?_
    refine lv_istore_n (lv' := [(3, .int 0), (2, .int (-1)), (0, .ref (A 0)), (1, .int p0)]) hx hb dX7_worst_14 rfl hl (by decide) rfl (fun ls hl => ?_)
    exact L15 FU (-1) 0 σ1 hf H locs hI ls (lv_sub hl [2, 1, 0] rfl)
  · have hf := o_pos hf c3
    refine lv_bipush (v := -2) hx hb dX7_worst_8 (by decide) ?_
    exact hret hf hI dX7_worst_10
/-! known -/
def f7_known_b49 (z0 : Int32) (σ : MS) : oI Int32 :=
  if z0 = 0 then (some (0, σ)) else (some (1, σ))
def f7_known_b48 (σ : MS) : oI Int32 :=
  f7_known_b49 0 σ
def f7_known (p0 : Int32) (σ : MS) : oI Int32 :=
  bnd (f7_isRule p0 σ) fun r2 σ1 =>
  if r2 = 0 then (some ((-2), σ1)) else (bnd (f7_ruleOf p0 0 σ1) fun r5 σ4 =>
  bn1 (f7_in r5.toInt64 0 1) fun r6 =>
  if r6 = 0 then (f7_known_b48 σ4) else (bnd (f7_ruleOf p0 1 σ4) fun r9 σ8 =>
  grd (inB ((8 : Int32) + r9) 76) <|
  if (gA σ8 1 ((8 : Int32) + r9).toNatClampNeg) = 2 then (f7_known_b48 σ8) else (f7_known_b49 1 σ8)))
abbrev r7_known : Room := { frames := 2, cells := 0, slots := 0, locals := 46 }
theorem m7_known (l : Launch) (D : va_G) (cl : vC2) (Z : (Nat → Prop) → State → Heap → Prop) (hz : ZK Z) (ci : Nat) (A : Nat → Nat) (d : Nat → ClassId) (tm : List (ClassId × FieldType)) (hc : cl.1[ci]? = some (RX7, TX7, 42)) (p0 : Int32) (σ : MS) (r : Int32) (σ' : MS) (hf : f7_known p0 σ = some (r, σ')) : MMi l yX7_known (ws_ yX7_known cX7_known 3 (some .int)) r7_known D cl Z ci A d tm σ [.int p0] r σ' := by
  refine m_openi hz (by decide) (by exact Nat.le_of_ble_eq_true rfl) (fun p e s m args below meth c ls A0 Q X hI hl hret => ?_)
  have X : XC p s m args meth c cX7_known 3 RX7 D cl (mty d tm) A0 Z := X
  have hx := X.1
  have hb := X.2.1
  have hown := X.2.2.2.1
  have hts := X.2.2.2.2.1
  have J49 : ∀ (z0 : Int32) (σ : MS), f7_known_b49 z0 σ = some (r, σ') → ∀ (H : Heap) (locs : List Loc), XI D cl (mw ci A d σ) A0 s.heap H locs → ∀ (ls : Array Slot), lv_has ls 3 [] → W p l e r7_known s m args below meth c H locs 0 0 Q (F0 m 49 ls [.int z0]) := by
    intro z0 σ hf H locs hI ls hl
    unfold f7_known_b49 at hf
    refine lv_istore_n (lv' := [(2, .int z0)]) hx hb dX7_known_49 rfl hl (by decide) rfl (fun ls hl => ?_)
    refine lv_iload_n hx hb dX7_known_50 rfl (lv_at hl 0 rfl) ?_
    refine lv_if_eq (tgt := 58) hx hb dX7_known_51 (by decide) (fun c12 => ?_) (fun c12 => ?_)
    · have hf := o_pos hf c12
      refine lv_iconst (v := 0) hx hb dX7_known_58 (by decide) ?_
      exact hret hf hI dX7_known_59
    · have hf := o_neg hf c12
      refine lv_iconst (v := 1) hx hb dX7_known_54 (by decide) ?_
      refine lv_goto (tgt := 59) hx hb dX7_known_55 (by decide) ?_
      exact hret hf hI dX7_known_59
  have J48 : ∀ (σ : MS), f7_known_b48  σ = some (r, σ') → ∀ (H : Heap) (locs : List Loc), XI D cl (mw ci A d σ) A0 s.heap H locs → ∀ (ls : Array Slot), lv_has ls 3 [] → W p l e r7_known s m args below meth c H locs 0 0 Q (F0 m 48 ls []) := by
    intro  σ hf H locs hI ls hl
    unfold f7_known_b48 at hf
    refine lv_iconst (v := 0) hx hb dX7_known_48 (by decide) ?_
    exact J49 0 σ hf H locs hI ls (lv_sub hl [] rfl)
  have hl : lv_has ls 3 [(0, .ref (A 0)), (1, .int p0)] := hl
  unfold f7_known at hf
  obtain ⟨H, eH⟩ : ∃ H, H = s.heap := ⟨_, rfl⟩
  obtain ⟨locs, eL⟩ : ∃ locs : List Loc, locs = [] := ⟨_, rfl⟩
  have hI : XI D cl (mw ci A d σ) A0 s.heap H locs := by rw [eH, eL]; exact hI
  rw [← eL]
  suffices h : W p l e r7_known s m args below meth c H locs 0 0 Q (F0 m 0 ls []) by rw [eH] at h; exact h
  clear eH eL
  refine lv_aload_n hx hb dX7_known_0 rfl (lv_at hl 0 rfl) ?_
  refine lv_iload_n hx hb dX7_known_1 rfl (lv_at hl 1 rfl) ?_
  obtain ⟨r2, σ1, hσ1, hf⟩ := bnd_some hf
  refine m_calli X hI hc [.int p0] (m7_isRule l D cl Z hz ci A d tm hc p0 σ r2 σ1 hσ1) (cw7_isRule hts ⟨Nat.le_of_ble_eq_true rfl, Nat.le_of_ble_eq_true rfl⟩) rfl hl.1 (Nat.le_of_ble_eq_true rfl) rfl dX7_known_2 ⟨Nat.le_of_ble_eq_true rfl, Nat.le_of_ble_eq_true rfl⟩ (fun H locs hI => ?_)
  refine lv_if_ne (tgt := 11) hx hb dX7_known_5 (by decide) (fun c3 => ?_) (fun c3 => ?_)
  · have hf := o_neg hf c3
    refine lv_aload_n hx hb dX7_known_11 rfl (lv_at hl 0 rfl) ?_
    refine lv_iload_n hx hb dX7_known_12 rfl (lv_at hl 1 rfl) ?_
    refine lv_iconst (v := 0) hx hb dX7_known_13 (by decide) ?_
    obtain ⟨r5, σ4, hσ4, hf⟩ := bnd_some hf
    refine m_calli X hI hc [.int p0, .int 0] (m7_ruleOf l D cl Z hz ci A d tm hc p0 0 σ1 r5 σ4 hσ4) (cw7_ruleOf hts ⟨Nat.le_of_ble_eq_true rfl, Nat.le_of_ble_eq_true rfl⟩) rfl hl.1 (Nat.le_of_ble_eq_true rfl) rfl dX7_known_14 ⟨Nat.le_of_ble_eq_true rfl, Nat.le_of_ble_eq_true rfl⟩ (fun H locs hI => ?_)
    refine lv_i2l hx hb dX7_known_17 rfl ?_
    refine lv_lconst (v := 0) hx hb dX7_known_18 (by decide) ?_
    refine lv_lconst (v := 1) hx hb dX7_known_19 (by decide) ?_
    obtain ⟨r6, hr6, hf⟩ := bn1_some hf
    refine x_callSi (As := [.long r5.toInt64, .long 0, .long 1]) X hI (m7_in l r5.toInt64 0 1 r6 hr6) (cw7_in hts ⟨Nat.le_of_ble_eq_true rfl, Nat.le_of_ble_eq_true rfl⟩) rfl hl.1 (Nat.le_of_ble_eq_true rfl) rfl dX7_known_20 ⟨Nat.le_of_ble_eq_true rfl, Nat.le_of_ble_eq_true rfl⟩ (fun H locs hI => ?_)
    refine lv_if_eq (tgt := 48) hx hb dX7_known_23 (by decide) (fun c7 => ?_) (fun c7 => ?_)
    · have hf := o_pos hf c7
      exact J48 σ4 hf H locs hI ls (lv_sub hl [] rfl)
    · have hf := o_neg hf c7
      refine lv_aload_n hx hb dX7_known_26 rfl (lv_at hl 0 rfl) ?_
      refine m_get (v := .ref (A 1)) X hI hc 1 (by decide) q2659 rfl dX7_known_27 ?_
      refine lv_bipush (v := 8) hx hb dX7_known_30 (by decide) ?_
      refine lv_aload_n hx hb dX7_known_32 rfl (lv_at hl 0 rfl) ?_
      refine lv_iload_n hx hb dX7_known_33 rfl (lv_at hl 1 rfl) ?_
      refine lv_iconst (v := 1) hx hb dX7_known_34 (by decide) ?_
      obtain ⟨r9, σ8, hσ8, hf⟩ := bnd_some hf
      refine m_calli X hI hc [.int p0, .int 1] (m7_ruleOf l D cl Z hz ci A d tm hc p0 1 σ4 r9 σ8 hσ8) (cw7_ruleOf hts ⟨Nat.le_of_ble_eq_true rfl, Nat.le_of_ble_eq_true rfl⟩) rfl hl.1 (Nat.le_of_ble_eq_true rfl) rfl dX7_known_35 ⟨Nat.le_of_ble_eq_true rfl, Nat.le_of_ble_eq_true rfl⟩ (fun H locs hI => ?_)
      refine lv_iadd hx hb dX7_known_38 ?_
      obtain ⟨g10, hf⟩ := grd_some hf
      refine m_iald X hI 1 1 76 rfl rfl g10 dX7_known_39 ?_
      refine lv_iconst (v := 2) hx hb dX7_known_40 (by decide) ?_
      refine lv_icmp_eq (tgt := 48) hx hb dX7_known_41 (by decide) (fun c11 => ?_) (fun c11 => ?_)
      · have hf := o_pos hf c11
        exact J48 σ8 hf H locs hI ls (lv_sub hl [] rfl)
      · have hf := o_neg hf c11
        refine lv_iconst (v := 1) hx hb dX7_known_44 (by decide) ?_
        refine lv_goto (tgt := 49) hx hb dX7_known_45 (by decide) ?_
        exact J49 1 σ8 hf H locs hI ls (lv_sub hl [] rfl)
  · have hf := o_pos hf c3
    refine lv_bipush (v := -2) hx hb dX7_known_8 (by decide) ?_
    exact hret hf hI dX7_known_10
/-! allRules -/
def f7_allRules (σ : MS) : oI Int32 :=
  bnd (f7_rules σ) fun r2 σ1 =>
  some (((1 : Int32) <<< (r2 &&& 31)) - 1, σ1)
abbrev r7_allRules : Room := { frames := 1, cells := 0, slots := 0, locals := 20 }
theorem cw7_allRules {R : Room} {s : State} {args : Array Value} (ht : ∀ w ∈ lw_all, w.before args s = true) (hR : r7_allRules.frames + 1 ≤ R.frames ∧ 8 + (1 + 11) + r7_allRules.locals ≤ R.locals) : CallW R s args RX7 RX7 402 yX7_allRules cX7_allRules 1 (some .int) (ws_ yX7_allRules cX7_allRules 1 (some .int)) r7_allRules 0 0 0 :=
  cwV 0 ht (lw_V q3276 q3278 qs148 q178 q3279) rfl rfl rfl (by decide +kernel) hR
theorem m7_allRules (l : Launch) (D : va_G) (cl : vC2) (Z : (Nat → Prop) → State → Heap → Prop) (hz : ZK Z) (ci : Nat) (A : Nat → Nat) (d : Nat → ClassId) (tm : List (ClassId × FieldType)) (hc : cl.1[ci]? = some (RX7, TX7, 42)) (σ : MS) (r : Int32) (σ' : MS) (hf : f7_allRules σ = some (r, σ')) : MMi l yX7_allRules (ws_ yX7_allRules cX7_allRules 1 (some .int)) r7_allRules D cl Z ci A d tm σ [] r σ' := by
  refine m_openi hz (by decide) (by exact Nat.le_of_ble_eq_true rfl) (fun p e s m args below meth c ls A0 Q X hI hl hret => ?_)
  have X : XC p s m args meth c cX7_allRules 1 RX7 D cl (mty d tm) A0 Z := X
  have hx := X.1
  have hb := X.2.1
  have hown := X.2.2.2.1
  have hts := X.2.2.2.2.1
  have hl : lv_has ls 1 [(0, .ref (A 0))] := hl
  unfold f7_allRules at hf
  obtain ⟨H, eH⟩ : ∃ H, H = s.heap := ⟨_, rfl⟩
  obtain ⟨locs, eL⟩ : ∃ locs : List Loc, locs = [] := ⟨_, rfl⟩
  have hI : XI D cl (mw ci A d σ) A0 s.heap H locs := by rw [eH, eL]; exact hI
  rw [← eL]
  suffices h : W p l e r7_allRules s m args below meth c H locs 0 0 Q (F0 m 0 ls []) by rw [eH] at h; exact h
  clear eH eL
  refine lv_iconst (v := 1) hx hb dX7_allRules_0 (by decide) ?_
  refine lv_aload_n hx hb dX7_allRules_1 rfl (lv_at hl 0 rfl) ?_
  obtain ⟨r2, σ1, hσ1, hf⟩ := bnd_some hf
  refine m_calli X hI hc [] (m7_rules l D cl Z hz ci A d tm hc σ r2 σ1 hσ1) (cw7_rules hts ⟨Nat.le_of_ble_eq_true rfl, Nat.le_of_ble_eq_true rfl⟩) rfl hl.1 (Nat.le_of_ble_eq_true rfl) rfl dX7_allRules_2 ⟨Nat.le_of_ble_eq_true rfl, Nat.le_of_ble_eq_true rfl⟩ (fun H locs hI => ?_)
  refine lv_ishl hx hb dX7_allRules_5 ?_
  refine lv_iconst (v := 1) hx hb dX7_allRules_6 (by decide) ?_
  refine lv_isub hx hb dX7_allRules_7 ?_
  exact hret hf hI dX7_allRules_8
/-! isSafeBy -/
def f7_isSafeBy (p0 : Int32) (p1 : Int32) (p2 : Int32) (σ : MS) : oI Int32 :=
  nxt (sI σ 18 p0) fun σ1 =>
  nxt (sI σ1 17 p1) fun σ2 =>
  bn1 (f7_layStates σ2) fun σ3 =>
  bnd (f7_breaksIn p2 σ3) fun r5 σ4 =>
  if r5 = 0 then (some (1, σ4)) else (some (0, σ4))
abbrev r7_isSafeBy : Room := { frames := 7, cells := 0, slots := 0, locals := 164 }
theorem cw7_isSafeBy {R : Room} {s : State} {args : Array Value} (ht : ∀ w ∈ lw_all, w.before args s = true) (hR : r7_isSafeBy.frames + 1 ≤ R.frames ∧ 8 + (4 + 11) + r7_isSafeBy.locals ≤ R.locals) : CallW R s args RX7 RX7 405 yX7_isSafeBy cX7_isSafeBy 4 (some .boolean) (ws_ yX7_isSafeBy cX7_isSafeBy 4 (some .boolean)) r7_isSafeBy 0 0 3 :=
  cwV 3 ht (lw_V q3280 q3282 qs149 q178 q3283) rfl rfl rfl (by decide +kernel) hR
theorem m7_isSafeBy (l : Launch) (D : va_G) (cl : vC2) (Z : (Nat → Prop) → State → Heap → Prop) (hz : ZK Z) (ci : Nat) (A : Nat → Nat) (d : Nat → ClassId) (tm : List (ClassId × FieldType)) (hc : cl.1[ci]? = some (RX7, TX7, 42)) (p0 : Int32) (p1 : Int32) (p2 : Int32) (σ : MS) (r : Int32) (σ' : MS) (hf : f7_isSafeBy p0 p1 p2 σ = some (r, σ')) : MMi l yX7_isSafeBy (ws_ yX7_isSafeBy cX7_isSafeBy 4 (some .boolean)) r7_isSafeBy D cl Z ci A d tm σ [.int p0, .int p1, .int p2] r σ' := by
  refine m_openz hz (by decide) (by exact Nat.le_of_ble_eq_true rfl) (fun p e s m args below meth c ls A0 Q X hI hl hret => ?_)
  have X : XC p s m args meth c cX7_isSafeBy 4 RX7 D cl (mty d tm) A0 Z := X
  have hx := X.1
  have hb := X.2.1
  have hown := X.2.2.2.1
  have hts := X.2.2.2.2.1
  have hl : lv_has ls 4 [(0, .ref (A 0)), (1, .int p0), (2, .int p1), (3, .int p2)] := hl
  unfold f7_isSafeBy at hf
  obtain ⟨H, eH⟩ : ∃ H, H = s.heap := ⟨_, rfl⟩
  obtain ⟨locs, eL⟩ : ∃ locs : List Loc, locs = [] := ⟨_, rfl⟩
  have hI : XI D cl (mw ci A d σ) A0 s.heap H locs := by rw [eH, eL]; exact hI
  rw [← eL]
  suffices h : W p l e r7_isSafeBy s m args below meth c H locs 0 0 Q (F0 m 0 ls []) by rw [eH] at h; exact h
  clear eH eL
  refine lv_aload_n hx hb dX7_isSafeBy_0 rfl (lv_at hl 0 rfl) ?_
  refine lv_iload_n hx hb dX7_isSafeBy_1 rfl (lv_at hl 1 rfl) ?_
  refine m_puti X hI hc 18 (by decide) q2676 rfl rfl rfl dX7_isSafeBy_2 (fun H locs hI => ?_)
  obtain ⟨σ1, eσ1, hf⟩ := nxt_some hf
  rw [← eσ1] at hI
  clear eσ1
  refine lv_aload_n hx hb dX7_isSafeBy_5 rfl (lv_at hl 0 rfl) ?_
  refine lv_iload_n hx hb dX7_isSafeBy_6 rfl (lv_at hl 2 rfl) ?_
  refine m_puti X hI hc 17 (by decide) q2675 rfl rfl rfl dX7_isSafeBy_7 (fun H locs hI => ?_)
  obtain ⟨σ2, eσ2, hf⟩ := nxt_some hf
  rw [← eσ2] at hI
  clear eσ2
  refine lv_aload_n hx hb dX7_isSafeBy_10 rfl (lv_at hl 0 rfl) ?_
  obtain ⟨σ3, hσ3, hf⟩ := bn1_some hf
  refine m_callv X hI hc [] (m7_layStates l D cl Z hz ci A d tm hc σ2 σ3 hσ3) (cw7_layStates hts ⟨Nat.le_of_ble_eq_true rfl, Nat.le_of_ble_eq_true rfl⟩) rfl hl.1 (Nat.le_of_ble_eq_true rfl) rfl dX7_isSafeBy_11 ⟨Nat.le_of_ble_eq_true rfl, Nat.le_of_ble_eq_true rfl⟩ (fun H locs hI => ?_)
  refine lv_aload_n hx hb dX7_isSafeBy_14 rfl (lv_at hl 0 rfl) ?_
  refine lv_iload_n hx hb dX7_isSafeBy_15 rfl (lv_at hl 3 rfl) ?_
  obtain ⟨r5, σ4, hσ4, hf⟩ := bnd_some hf
  refine m_calli X hI hc [.int p2] (m7_breaksIn l D cl Z hz ci A d tm hc p2 σ3 r5 σ4 hσ4) (cw7_breaksIn hts ⟨Nat.le_of_ble_eq_true rfl, Nat.le_of_ble_eq_true rfl⟩) rfl hl.1 (Nat.le_of_ble_eq_true rfl) rfl dX7_isSafeBy_16 ⟨Nat.le_of_ble_eq_true rfl, Nat.le_of_ble_eq_true rfl⟩ (fun H locs hI => ?_)
  refine lv_if_ne (tgt := 26) hx hb dX7_isSafeBy_19 (by decide) (fun c6 => ?_) (fun c6 => ?_)
  · have hf := o_neg hf c6
    refine lv_iconst (v := 0) hx hb dX7_isSafeBy_26 (by decide) ?_
    exact hret hf rfl hI dX7_isSafeBy_27
  · have hf := o_pos hf c6
    refine lv_iconst (v := 1) hx hb dX7_isSafeBy_22 (by decide) ?_
    refine lv_goto (tgt := 27) hx hb dX7_isSafeBy_23 (by decide) ?_
    exact hret hf rfl hI dX7_isSafeBy_27
/-! alone -/
def f7_alone (p0 : Int32) (p1 : Int32) (σ : MS) : oI Int32 :=
  bnd (f7_asks σ) fun r2 σ1 =>
  if r2 = 0 then (some ((-2), σ1)) else (bnd (f7_isRule p0 σ1) fun r5 σ4 =>
  if r5 = 0 then (some ((-2), σ4)) else (bn1 (f7_isDepth p1) fun r7 =>
  if r7 = 0 then (some ((-2), σ4)) else (bnd (f7_allRules σ4) fun r10 σ9 =>
  bnd (f7_isSafeBy (r10 &&& (((1 : Int32) <<< (p0 &&& 31)) ^^^ (-1))) (gI σ9 17) p1 σ9) fun r12 σ11 =>
  if r12 = 0 then (some (0, σ11)) else (some (1, σ11)))))
abbrev r7_alone : Room := { frames := 8, cells := 0, slots := 0, locals := 187 }
theorem m7_alone (l : Launch) (D : va_G) (cl : vC2) (Z : (Nat → Prop) → State → Heap → Prop) (hz : ZK Z) (ci : Nat) (A : Nat → Nat) (d : Nat → ClassId) (tm : List (ClassId × FieldType)) (hc : cl.1[ci]? = some (RX7, TX7, 42)) (p0 : Int32) (p1 : Int32) (σ : MS) (r : Int32) (σ' : MS) (hf : f7_alone p0 p1 σ = some (r, σ')) : MMi l yX7_alone (ws_ yX7_alone cX7_alone 3 (some .int)) r7_alone D cl Z ci A d tm σ [.int p0, .int p1] r σ' := by
  refine m_openi hz (by decide) (by exact Nat.le_of_ble_eq_true rfl) (fun p e s m args below meth c ls A0 Q X hI hl hret => ?_)
  have X : XC p s m args meth c cX7_alone 3 RX7 D cl (mty d tm) A0 Z := X
  have hx := X.1
  have hb := X.2.1
  have hown := X.2.2.2.1
  have hts := X.2.2.2.2.1
  have hl : lv_has ls 3 [(0, .ref (A 0)), (1, .int p0), (2, .int p1)] := hl
  unfold f7_alone at hf
  obtain ⟨H, eH⟩ : ∃ H, H = s.heap := ⟨_, rfl⟩
  obtain ⟨locs, eL⟩ : ∃ locs : List Loc, locs = [] := ⟨_, rfl⟩
  have hI : XI D cl (mw ci A d σ) A0 s.heap H locs := by rw [eH, eL]; exact hI
  rw [← eL]
  suffices h : W p l e r7_alone s m args below meth c H locs 0 0 Q (F0 m 0 ls []) by rw [eH] at h; exact h
  clear eH eL
  refine lv_aload_n hx hb dX7_alone_0 rfl (lv_at hl 0 rfl) ?_
  obtain ⟨r2, σ1, hσ1, hf⟩ := bnd_some hf
  refine m_calli X hI hc [] (m7_asks l D cl Z hz ci A d tm hc σ r2 σ1 hσ1) (cw7_asks hts ⟨Nat.le_of_ble_eq_true rfl, Nat.le_of_ble_eq_true rfl⟩) rfl hl.1 (Nat.le_of_ble_eq_true rfl) rfl dX7_alone_1 ⟨Nat.le_of_ble_eq_true rfl, Nat.le_of_ble_eq_true rfl⟩ (fun H locs hI => ?_)
  refine lv_if_eq (tgt := 22) hx hb dX7_alone_4 (by decide) (fun c3 => ?_) (fun c3 => ?_)
  · have hf := o_pos hf c3
    refine lv_bipush (v := -2) hx hb dX7_alone_22 (by decide) ?_
    exact hret hf hI dX7_alone_24
  · have hf := o_neg hf c3
    refine lv_aload_n hx hb dX7_alone_7 rfl (lv_at hl 0 rfl) ?_
    refine lv_iload_n hx hb dX7_alone_8 rfl (lv_at hl 1 rfl) ?_
    obtain ⟨r5, σ4, hσ4, hf⟩ := bnd_some hf
    refine m_calli X hI hc [.int p0] (m7_isRule l D cl Z hz ci A d tm hc p0 σ1 r5 σ4 hσ4) (cw7_isRule hts ⟨Nat.le_of_ble_eq_true rfl, Nat.le_of_ble_eq_true rfl⟩) rfl hl.1 (Nat.le_of_ble_eq_true rfl) rfl dX7_alone_9 ⟨Nat.le_of_ble_eq_true rfl, Nat.le_of_ble_eq_true rfl⟩ (fun H locs hI => ?_)
    refine lv_if_eq (tgt := 22) hx hb dX7_alone_12 (by decide) (fun c6 => ?_) (fun c6 => ?_)
    · have hf := o_pos hf c6
      refine lv_bipush (v := -2) hx hb dX7_alone_22 (by decide) ?_
      exact hret hf hI dX7_alone_24
    · have hf := o_neg hf c6
      refine lv_iload_n hx hb dX7_alone_15 rfl (lv_at hl 2 rfl) ?_
      obtain ⟨r7, hr7, hf⟩ := bn1_some hf
      refine x_callSi (As := [.int p1]) X hI (m7_isDepth l p1 r7 hr7) (cw7_isDepth hts ⟨Nat.le_of_ble_eq_true rfl, Nat.le_of_ble_eq_true rfl⟩) rfl hl.1 (Nat.le_of_ble_eq_true rfl) rfl dX7_alone_16 ⟨Nat.le_of_ble_eq_true rfl, Nat.le_of_ble_eq_true rfl⟩ (fun H locs hI => ?_)
      refine lv_if_ne (tgt := 25) hx hb dX7_alone_19 (by decide) (fun c8 => ?_) (fun c8 => ?_)
      · have hf := o_neg hf c8
        refine lv_aload_n hx hb dX7_alone_25 rfl (lv_at hl 0 rfl) ?_
        refine lv_aload_n hx hb dX7_alone_26 rfl (lv_at hl 0 rfl) ?_
        obtain ⟨r10, σ9, hσ9, hf⟩ := bnd_some hf
        refine m_calli X hI hc [] (m7_allRules l D cl Z hz ci A d tm hc σ4 r10 σ9 hσ9) (cw7_allRules hts ⟨Nat.le_of_ble_eq_true rfl, Nat.le_of_ble_eq_true rfl⟩) rfl hl.1 (Nat.le_of_ble_eq_true rfl) rfl dX7_alone_27 ⟨Nat.le_of_ble_eq_true rfl, Nat.le_of_ble_eq_true rfl⟩ (fun H locs hI => ?_)
        refine lv_iconst (v := 1) hx hb dX7_alone_30 (by decide) ?_
        refine lv_iload_n hx hb dX7_alone_31 rfl (lv_at hl 1 rfl) ?_
        refine lv_ishl hx hb dX7_alone_32 ?_
        refine lv_iconst (v := -1) hx hb dX7_alone_33 (by decide) ?_
        refine lv_ixor hx hb dX7_alone_34 ?_
        refine lv_iand hx hb dX7_alone_35 ?_
        refine lv_aload_n hx hb dX7_alone_36 rfl (lv_at hl 0 rfl) ?_
        refine m_get (v := .int (gI σ9 17)) X hI hc 17 (by decide) q2675 rfl dX7_alone_37 ?_
        refine lv_iload_n hx hb dX7_alone_40 rfl (lv_at hl 2 rfl) ?_
        obtain ⟨r12, σ11, hσ11, hf⟩ := bnd_some hf
        refine m_calli X hI hc [.int (r10 &&& (((1 : Int32) <<< (p0 &&& 31)) ^^^ (-1))), .int (gI σ9 17), .int p1] (m7_isSafeBy l D cl Z hz ci A d tm hc (r10 &&& (((1 : Int32) <<< (p0 &&& 31)) ^^^ (-1))) (gI σ9 17) p1 σ9 r12 σ11 hσ11) (cw7_isSafeBy hts ⟨Nat.le_of_ble_eq_true rfl, Nat.le_of_ble_eq_true rfl⟩) rfl hl.1 (Nat.le_of_ble_eq_true rfl) rfl dX7_alone_41 ⟨Nat.le_of_ble_eq_true rfl, Nat.le_of_ble_eq_true rfl⟩ (fun H locs hI => ?_)
        refine lv_if_eq (tgt := 51) hx hb dX7_alone_44 (by decide) (fun c13 => ?_) (fun c13 => ?_)
        · have hf := o_pos hf c13
          refine lv_iconst (v := 0) hx hb dX7_alone_51 (by decide) ?_
          exact hret hf hI dX7_alone_52
        · have hf := o_neg hf c13
          refine lv_iconst (v := 1) hx hb dX7_alone_47 (by decide) ?_
          refine lv_goto (tgt := 52) hx hb dX7_alone_48 (by decide) ?_
          exact hret hf hI dX7_alone_52
      · have hf := o_pos hf c8
        refine lv_bipush (v := -2) hx hb dX7_alone_22 (by decide) ?_
        exact hret hf hI dX7_alone_24
/-! fine -/
def f7_fine_b59 (K21 : Int32 → Int32 → Int32 → MS → oI Int32) (x1 : Int32) (x3 : Int32) (z0 : Int32) (z1 : Int32) (σ : MS) : oI Int32 :=
  K21 x1 (z0 ||| z1) (x3 + 1) σ
def f7_fine_b21 (K21 : Int32 → Int32 → Int32 → MS → oI Int32) (x1 : Int32) (x2 : Int32) (x3 : Int32) (σ : MS) : oI Int32 :=
  bnd (f7_rules σ) fun r7 σ6 =>
  if r7 ≤ x3 then (some (x2, σ6)) else (bnd (f7_allRules σ6) fun r10 σ9 =>
  bnd (f7_isSafeBy (r10 &&& (((1 : Int32) <<< (x3 &&& 31)) ^^^ (-1))) (gI σ9 17) x1 σ9) fun r12 σ11 =>
  if r12 = 0 then (f7_fine_b59 K21 x1 x3 x2 0 σ11) else (f7_fine_b59 K21 x1 x3 x2 ((1 : Int32) <<< (x3 &&& 31)) σ11))
def f7_fine_l21 : Nat → Int32 → Int32 → Int32 → MS → oI Int32
  | 0 => fun _ _ _ _ => none
  | n + 1 => fun x1 x2 x3 σ => f7_fine_b21 (f7_fine_l21 n) x1 x2 x3 σ
def f7_fine (p0 : Int32) (σ : MS) : oI Int32 :=
  bnd (f7_asks σ) fun r2 σ1 =>
  if r2 = 0 then (some ((-2), σ1)) else (bn1 (f7_isDepth p0) fun r4 =>
  if r4 = 0 then (some ((-2), σ1)) else (f7_fine_l21 FU p0 0 0 σ1))
abbrev r7_fine : Room := { frames := 8, cells := 0, slots := 0, locals := 187 }
theorem m7_fine (l : Launch) (D : va_G) (cl : vC2) (Z : (Nat → Prop) → State → Heap → Prop) (hz : ZK Z) (ci : Nat) (A : Nat → Nat) (d : Nat → ClassId) (tm : List (ClassId × FieldType)) (hc : cl.1[ci]? = some (RX7, TX7, 42)) (p0 : Int32) (σ : MS) (r : Int32) (σ' : MS) (hf : f7_fine p0 σ = some (r, σ')) : MMi l yX7_fine (ws_ yX7_fine cX7_fine 4 (some .int)) r7_fine D cl Z ci A d tm σ [.int p0] r σ' := by
  refine m_openi hz (by decide) (by exact Nat.le_of_ble_eq_true rfl) (fun p e s m args below meth c ls A0 Q X hI hl hret => ?_)
  have X : XC p s m args meth c cX7_fine 4 RX7 D cl (mty d tm) A0 Z := X
  have hx := X.1
  have hb := X.2.1
  have hown := X.2.2.2.1
  have hts := X.2.2.2.2.1
  have L21 : ∀ (n : Nat) (x1 : Int32) (x2 : Int32) (x3 : Int32) (σ : MS), f7_fine_l21 n x1 x2 x3 σ = some (r, σ') → ∀ (H : Heap) (locs : List Loc), XI D cl (mw ci A d σ) A0 s.heap H locs → ∀ (ls : Array Slot), lv_has ls 4 [(0, .ref (A 0)), (1, .int x1), (2, .int x2), (3, .int x3)] → W p l e r7_fine s m args below meth c H locs 0 0 Q (F0 m 21 ls []) := by
    intro n21
    induction n21 with
    | zero => intro x1 x2 x3 σ hf; cases hf
    | succ n21 ih21 =>
      have J59 : ∀ (x1 : Int32) (x3 : Int32) (z0 : Int32) (z1 : Int32) (σ : MS), f7_fine_b59 (f7_fine_l21 n21) x1 x3 z0 z1 σ = some (r, σ') → ∀ (H : Heap) (locs : List Loc), XI D cl (mw ci A d σ) A0 s.heap H locs → ∀ (ls : Array Slot), lv_has ls 4 [(0, .ref (A 0)), (1, .int x1), (3, .int x3)] → W p l e r7_fine s m args below meth c H locs 0 0 Q (F0 m 59 ls [.int z1, .int z0]) := by
        intro x1 x3 z0 z1 σ hf H locs hI ls hl
        unfold f7_fine_b59 at hf
        refine lv_ior hx hb dX7_fine_59 ?_
        refine lv_istore_n (lv' := [(2, .int (z0 ||| z1)), (0, .ref (A 0)), (1, .int x1), (3, .int x3)]) hx hb dX7_fine_60 rfl hl (by decide) rfl (fun ls hl => ?_)
        refine lv_iinc (v := x3 + 1) (lv' := [(3, .int (x3 + 1)), (2, .int (z0 ||| z1)), (0, .ref (A 0)), (1, .int x1)]) hx hb dX7_fine_61 hl (k := 3) rfl rfl (by decide) rfl (fun ls hl => ?_)
        refine lv_goto (tgt := 21) hx hb dX7_fine_64 (by decide) ?_
        exact ih21 x1 (z0 ||| z1) (x3 + 1) σ hf H locs hI ls (lv_sub hl [2, 3, 1, 0] rfl)
      intro x1 x2 x3 σ hf H locs hI ls hl
      have hf : f7_fine_b21 (f7_fine_l21 n21) x1 x2 x3 σ = some (r, σ') := hf
      unfold f7_fine_b21 at hf
      refine lv_iload_n hx hb dX7_fine_21 rfl (lv_at hl 3 rfl) ?_
      refine lv_aload_n hx hb dX7_fine_22 rfl (lv_at hl 0 rfl) ?_
      obtain ⟨r7, σ6, hσ6, hf⟩ := bnd_some hf
      refine m_calli X hI hc [] (m7_rules l D cl Z hz ci A d tm hc σ r7 σ6 hσ6) (cw7_rules hts ⟨Nat.le_of_ble_eq_true rfl, Nat.le_of_ble_eq_true rfl⟩) rfl hl.1 (Nat.le_of_ble_eq_true rfl) rfl dX7_fine_23 ⟨Nat.le_of_ble_eq_true rfl, Nat.le_of_ble_eq_true rfl⟩ (fun H locs hI => ?_)
      refine lv_icmp_ge (tgt := 67) hx hb dX7_fine_26 (by decide) (fun c8 => ?_) (fun c8 => ?_)
      · have hf := o_pos hf c8
        refine lv_iload_n hx hb dX7_fine_67 rfl (lv_at hl 2 rfl) ?_
        exact hret hf hI dX7_fine_68
      · have hf := o_neg hf c8
        refine lv_iload_n hx hb dX7_fine_29 rfl (lv_at hl 2 rfl) ?_
        refine lv_aload_n hx hb dX7_fine_30 rfl (lv_at hl 0 rfl) ?_
        refine lv_aload_n hx hb dX7_fine_31 rfl (lv_at hl 0 rfl) ?_
        obtain ⟨r10, σ9, hσ9, hf⟩ := bnd_some hf
        refine m_calli X hI hc [] (m7_allRules l D cl Z hz ci A d tm hc σ6 r10 σ9 hσ9) (cw7_allRules hts ⟨Nat.le_of_ble_eq_true rfl, Nat.le_of_ble_eq_true rfl⟩) rfl hl.1 (Nat.le_of_ble_eq_true rfl) rfl dX7_fine_32 ⟨Nat.le_of_ble_eq_true rfl, Nat.le_of_ble_eq_true rfl⟩ (fun H locs hI => ?_)
        refine lv_iconst (v := 1) hx hb dX7_fine_35 (by decide) ?_
        refine lv_iload_n hx hb dX7_fine_36 rfl (lv_at hl 3 rfl) ?_
        refine lv_ishl hx hb dX7_fine_37 ?_
        refine lv_iconst (v := -1) hx hb dX7_fine_38 (by decide) ?_
        refine lv_ixor hx hb dX7_fine_39 ?_
        refine lv_iand hx hb dX7_fine_40 ?_
        refine lv_aload_n hx hb dX7_fine_41 rfl (lv_at hl 0 rfl) ?_
        refine m_get (v := .int (gI σ9 17)) X hI hc 17 (by decide) q2675 rfl dX7_fine_42 ?_
        refine lv_iload_n hx hb dX7_fine_45 rfl (lv_at hl 1 rfl) ?_
        obtain ⟨r12, σ11, hσ11, hf⟩ := bnd_some hf
        refine m_calli X hI hc [.int (r10 &&& (((1 : Int32) <<< (x3 &&& 31)) ^^^ (-1))), .int (gI σ9 17), .int x1] (m7_isSafeBy l D cl Z hz ci A d tm hc (r10 &&& (((1 : Int32) <<< (x3 &&& 31)) ^^^ (-1))) (gI σ9 17) x1 σ9 r12 σ11 hσ11) (cw7_isSafeBy hts ⟨Nat.le_of_ble_eq_true rfl, Nat.le_of_ble_eq_true rfl⟩) rfl hl.1 (Nat.le_of_ble_eq_true rfl) rfl dX7_fine_46 ⟨Nat.le_of_ble_eq_true rfl, Nat.le_of_ble_eq_true rfl⟩ (fun H locs hI => ?_)
        refine lv_if_eq (tgt := 58) hx hb dX7_fine_49 (by decide) (fun c13 => ?_) (fun c13 => ?_)
        · have hf := o_pos hf c13
          refine lv_iconst (v := 0) hx hb dX7_fine_58 (by decide) ?_
          exact J59 x1 x3 x2 0 σ11 hf H locs hI ls (lv_sub hl [0, 1, 3] rfl)
        · have hf := o_neg hf c13
          refine lv_iconst (v := 1) hx hb dX7_fine_52 (by decide) ?_
          refine lv_iload_n hx hb dX7_fine_53 rfl (lv_at hl 3 rfl) ?_
          refine lv_ishl hx hb dX7_fine_54 ?_
          refine lv_goto (tgt := 59) hx hb dX7_fine_55 (by decide) ?_
          exact J59 x1 x3 x2 ((1 : Int32) <<< (x3 &&& 31)) σ11 hf H locs hI ls (lv_sub hl [0, 1, 3] rfl)
  have hl : lv_has ls 4 [(0, .ref (A 0)), (1, .int p0)] := hl
  unfold f7_fine at hf
  obtain ⟨H, eH⟩ : ∃ H, H = s.heap := ⟨_, rfl⟩
  obtain ⟨locs, eL⟩ : ∃ locs : List Loc, locs = [] := ⟨_, rfl⟩
  have hI : XI D cl (mw ci A d σ) A0 s.heap H locs := by rw [eH, eL]; exact hI
  rw [← eL]
  suffices h : W p l e r7_fine s m args below meth c H locs 0 0 Q (F0 m 0 ls []) by rw [eH] at h; exact h
  clear eH eL
  refine lv_aload_n hx hb dX7_fine_0 rfl (lv_at hl 0 rfl) ?_
  obtain ⟨r2, σ1, hσ1, hf⟩ := bnd_some hf
  refine m_calli X hI hc [] (m7_asks l D cl Z hz ci A d tm hc σ r2 σ1 hσ1) (cw7_asks hts ⟨Nat.le_of_ble_eq_true rfl, Nat.le_of_ble_eq_true rfl⟩) rfl hl.1 (Nat.le_of_ble_eq_true rfl) rfl dX7_fine_1 ⟨Nat.le_of_ble_eq_true rfl, Nat.le_of_ble_eq_true rfl⟩ (fun H locs hI => ?_)
  refine lv_if_eq (tgt := 14) hx hb dX7_fine_4 (by decide) (fun c3 => ?_) (fun c3 => ?_)
  · have hf := o_pos hf c3
    refine lv_bipush (v := -2) hx hb dX7_fine_14 (by decide) ?_
    exact hret hf hI dX7_fine_16
  · have hf := o_neg hf c3
    refine lv_iload_n hx hb dX7_fine_7 rfl (lv_at hl 1 rfl) ?_
    obtain ⟨r4, hr4, hf⟩ := bn1_some hf
    refine x_callSi (As := [.int p0]) X hI (m7_isDepth l p0 r4 hr4) (cw7_isDepth hts ⟨Nat.le_of_ble_eq_true rfl, Nat.le_of_ble_eq_true rfl⟩) rfl hl.1 (Nat.le_of_ble_eq_true rfl) rfl dX7_fine_8 ⟨Nat.le_of_ble_eq_true rfl, Nat.le_of_ble_eq_true rfl⟩ (fun H locs hI => ?_)
    refine lv_if_ne (tgt := 17) hx hb dX7_fine_11 (by decide) (fun c5 => ?_) (fun c5 => ?_)
    · have hf := o_neg hf c5
      refine lv_iconst (v := 0) hx hb dX7_fine_17 (by decide) ?_
      refine lv_istore_n (lv' := [(2, .int 0), (0, .ref (A 0)), (1, .int p0)]) hx hb dX7_fine_18 rfl hl (by decide) rfl (fun ls hl => ?_)
      refine lv_iconst (v := 0) hx hb dX7_fine_19 (by decide) ?_
      refine lv_istore_n (lv' := [(3, .int 0), (2, .int 0), (0, .ref (A 0)), (1, .int p0)]) hx hb dX7_fine_20 rfl hl (by decide) rfl (fun ls hl => ?_)
      exact L21 FU p0 0 0 σ1 hf H locs hI ls (lv_sub hl [2, 3, 1, 0] rfl)
    · have hf := o_pos hf c5
      refine lv_bipush (v := -2) hx hb dX7_fine_14 (by decide) ?_
      exact hret hf hI dX7_fine_16
/-! allOps -/
def f7_allOps (σ : MS) : oI Int32 :=
  bnd (f7_ops σ) fun r2 σ1 =>
  some (((1 : Int32) <<< (r2 &&& 31)) - 1, σ1)
abbrev r7_allOps : Room := { frames := 1, cells := 0, slots := 0, locals := 20 }
theorem cw7_allOps {R : Room} {s : State} {args : Array Value} (ht : ∀ w ∈ lw_all, w.before args s = true) (hR : r7_allOps.frames + 1 ≤ R.frames ∧ 8 + (1 + 11) + r7_allOps.locals ≤ R.locals) : CallW R s args RX7 RX7 412 yX7_allOps cX7_allOps 1 (some .int) (ws_ yX7_allOps cX7_allOps 1 (some .int)) r7_allOps 0 0 0 :=
  cwV 0 ht (lw_V q3300 q3302 qs152 q178 q3303) rfl rfl rfl (by decide +kernel) hR
theorem m7_allOps (l : Launch) (D : va_G) (cl : vC2) (Z : (Nat → Prop) → State → Heap → Prop) (hz : ZK Z) (ci : Nat) (A : Nat → Nat) (d : Nat → ClassId) (tm : List (ClassId × FieldType)) (hc : cl.1[ci]? = some (RX7, TX7, 42)) (σ : MS) (r : Int32) (σ' : MS) (hf : f7_allOps σ = some (r, σ')) : MMi l yX7_allOps (ws_ yX7_allOps cX7_allOps 1 (some .int)) r7_allOps D cl Z ci A d tm σ [] r σ' := by
  refine m_openi hz (by decide) (by exact Nat.le_of_ble_eq_true rfl) (fun p e s m args below meth c ls A0 Q X hI hl hret => ?_)
  have X : XC p s m args meth c cX7_allOps 1 RX7 D cl (mty d tm) A0 Z := X
  have hx := X.1
  have hb := X.2.1
  have hown := X.2.2.2.1
  have hts := X.2.2.2.2.1
  have hl : lv_has ls 1 [(0, .ref (A 0))] := hl
  unfold f7_allOps at hf
  obtain ⟨H, eH⟩ : ∃ H, H = s.heap := ⟨_, rfl⟩
  obtain ⟨locs, eL⟩ : ∃ locs : List Loc, locs = [] := ⟨_, rfl⟩
  have hI : XI D cl (mw ci A d σ) A0 s.heap H locs := by rw [eH, eL]; exact hI
  rw [← eL]
  suffices h : W p l e r7_allOps s m args below meth c H locs 0 0 Q (F0 m 0 ls []) by rw [eH] at h; exact h
  clear eH eL
  refine lv_iconst (v := 1) hx hb dX7_allOps_0 (by decide) ?_
  refine lv_aload_n hx hb dX7_allOps_1 rfl (lv_at hl 0 rfl) ?_
  obtain ⟨r2, σ1, hσ1, hf⟩ := bnd_some hf
  refine m_calli X hI hc [] (m7_ops l D cl Z hz ci A d tm hc σ r2 σ1 hσ1) (cw7_ops hts ⟨Nat.le_of_ble_eq_true rfl, Nat.le_of_ble_eq_true rfl⟩) rfl hl.1 (Nat.le_of_ble_eq_true rfl) rfl dX7_allOps_2 ⟨Nat.le_of_ble_eq_true rfl, Nat.le_of_ble_eq_true rfl⟩ (fun H locs hI => ?_)
  refine lv_ishl hx hb dX7_allOps_5 ?_
  refine lv_iconst (v := 1) hx hb dX7_allOps_6 (by decide) ?_
  refine lv_isub hx hb dX7_allOps_7 ?_
  exact hret hf hI dX7_allOps_8
/-! bits -/
def f7_bits_b4 (K4 : Int32 → Int32 → Int32 → Option Int32) (x0 : Int32) (x1 : Int32) (x2 : Int32) : Option Int32 :=
  if 16 ≤ x2 then (some x1) else (nxt (x1 + ((x0 >>> (x2 &&& 31)) &&& 1)) fun v2 =>
  K4 x0 v2 (x2 + 1))
def f7_bits_l4 : Nat → Int32 → Int32 → Int32 → Option Int32
  | 0 => fun _ _ _ => none
  | n + 1 => fun x0 x1 x2 => f7_bits_b4 (f7_bits_l4 n) x0 x1 x2
def f7_bits (p0 : Int32) : Option Int32 :=
  f7_bits_l4 FU p0 0 0
abbrev r7_bits : Room := { frames := 0, cells := 0, slots := 0, locals := 0 }
theorem cw7_bits {R : Room} {s : State} {args : Array Value} (ht : ∀ w ∈ lw_all, w.before args s = true) (hR : r7_bits.frames + 1 ≤ R.frames ∧ 8 + (3 + 11) + r7_bits.locals ≤ R.locals) : CallB R s args RX7 418 yX7_bits cX7_bits 3 (some .int) (ws_ yX7_bits cX7_bits 3 (some .int)) r7_bits 0 0 1 ∧ (Cond.static yX7_bits).before args s = true :=
  va_cwS 1 ht (lw_S q3304 q3305 q178 q3306) rfl rfl rfl (by decide +kernel) hR
theorem m7_bits (l : Launch) (p0 : Int32) (r : Int32) (hf : f7_bits p0 = some r) : XPi l yX7_bits (ws_ yX7_bits cX7_bits 3 (some .int)) r7_bits [.int p0] r := by
  refine s_openi (by decide) (by exact Nat.le_of_ble_eq_true rfl) (fun p e s m args below meth c ls A0 Q D cl tys X hI hl hret => ?_)
  have X : XC p s m args meth c cX7_bits 3 RX7 D cl tys A0 ZT := X
  have hx := X.1
  have hb := X.2.1
  have hown := X.2.2.2.1
  have hts := X.2.2.2.2.1
  have L4 : ∀ (n : Nat) (x0 : Int32) (x1 : Int32) (x2 : Int32), f7_bits_l4 n x0 x1 x2 = some r → ∀ (H : Heap) (locs : List Loc), XI D cl [] A0 s.heap H locs → ∀ (ls : Array Slot), lv_has ls 3 [(0, .int x0), (1, .int x1), (2, .int x2)] → W p l e r7_bits s m args below meth c H locs 0 0 Q (F0 m 4 ls []) := by
    intro n4
    induction n4 with
    | zero => intro x0 x1 x2 hf; cases hf
    | succ n4 ih4 =>
      intro x0 x1 x2 hf H locs hI ls hl
      have hf : f7_bits_b4 (f7_bits_l4 n4) x0 x1 x2 = some r := hf
      unfold f7_bits_b4 at hf
      refine lv_iload_n hx hb dX7_bits_4 rfl (lv_at hl 2 rfl) ?_
      refine lv_bipush (v := 16) hx hb dX7_bits_5 (by decide) ?_
      refine lv_icmp_ge (tgt := 24) hx hb dX7_bits_7 (by decide) (fun c1 => ?_) (fun c1 => ?_)
      · have hf := o_pos hf c1
        refine lv_iload_n hx hb dX7_bits_24 rfl (lv_at hl 1 rfl) ?_
        exact hret hf hI dX7_bits_25
      · have hf := o_neg hf c1
        refine lv_iload_n hx hb dX7_bits_10 rfl (lv_at hl 1 rfl) ?_
        refine lv_iload_n hx hb dX7_bits_11 rfl (lv_at hl 0 rfl) ?_
        refine lv_iload_n hx hb dX7_bits_12 rfl (lv_at hl 2 rfl) ?_
        refine lv_ishr hx hb dX7_bits_13 ?_
        refine lv_iconst (v := 1) hx hb dX7_bits_14 (by decide) ?_
        refine lv_iand hx hb dX7_bits_15 ?_
        refine lv_iadd hx hb dX7_bits_16 ?_
        obtain ⟨v2, ev2, hf⟩ := nxt_some hf
        rw [← ev2]
        clear ev2
        refine lv_istore_n (lv' := [(1, .int v2), (0, .int x0), (2, .int x2)]) hx hb dX7_bits_17 rfl hl (by decide) rfl (fun ls hl => ?_)
        refine lv_iinc (v := x2 + 1) (lv' := [(2, .int (x2 + 1)), (1, .int v2), (0, .int x0)]) hx hb dX7_bits_18 hl (k := 2) rfl rfl (by decide) rfl (fun ls hl => ?_)
        refine lv_goto (tgt := 4) hx hb dX7_bits_21 (by decide) ?_
        exact ih4 x0 v2 (x2 + 1) hf H locs hI ls (lv_sub hl [2, 1, 0] rfl)
  have hl : lv_has ls 3 [(0, .int p0)] := hl
  unfold f7_bits at hf
  obtain ⟨H, eH⟩ : ∃ H, H = s.heap := ⟨_, rfl⟩
  obtain ⟨locs, eL⟩ : ∃ locs : List Loc, locs = [] := ⟨_, rfl⟩
  have hI : XI D cl [] A0 s.heap H locs := by rw [eH, eL]; exact hI
  rw [← eL]
  suffices h : W p l e r7_bits s m args below meth c H locs 0 0 Q (F0 m 0 ls []) by rw [eH] at h; exact h
  clear eH eL
  refine lv_iconst (v := 0) hx hb dX7_bits_0 (by decide) ?_
  refine lv_istore_n (lv' := [(1, .int 0), (0, .int p0)]) hx hb dX7_bits_1 rfl hl (by decide) rfl (fun ls hl => ?_)
  refine lv_iconst (v := 0) hx hb dX7_bits_2 (by decide) ?_
  refine lv_istore_n (lv' := [(2, .int 0), (1, .int 0), (0, .int p0)]) hx hb dX7_bits_3 rfl hl (by decide) rfl (fun ls hl => ?_)
  exact L4 FU p0 0 0 hf H locs hI ls (lv_sub hl [2, 1, 0] rfl)
/-! findLocks -/
def f7_findLocks_b76 (K15 : Int32 → Int32 → MS → Option MS) (x1 : Int32) (x2 : Int32) (σ : MS) : Option MS :=
  K15 x1 (x2 + 1) σ
def f7_findLocks_b71 (K15 : Int32 → Int32 → MS → Option MS) (x1 : Int32) (x2 : Int32) (σ : MS) : Option MS :=
  nxt (sI σ 30 x2) fun σ16 =>
  f7_findLocks_b76 K15 x1 x2 σ16
def f7_findLocks_b15 (K15 : Int32 → Int32 → MS → Option MS) (x1 : Int32) (x2 : Int32) (σ : MS) : Option MS :=
  bnd (f7_allOps σ) fun r6 σ5 =>
  if r6 < x2 then (some σ5) else (bnd (f7_isSafeBy (gI σ5 18) x2 x1 σ5) fun r9 σ8 =>
  if r9 = 0 then (f7_findLocks_b76 K15 x1 x2 σ8) else (nxt (sI σ8 31 ((gI σ8 31) &&& x2)) fun σ11 =>
  if (gI σ11 30) = (-1) then (f7_findLocks_b71 K15 x1 x2 σ11) else (bn1 (f7_bits x2) fun r13 =>
  bn1 (f7_bits (gI σ11 30)) fun r14 =>
  if r14 ≤ r13 then (f7_findLocks_b76 K15 x1 x2 σ11) else (f7_findLocks_b71 K15 x1 x2 σ11))))
def f7_findLocks_l15 : Nat → Int32 → Int32 → MS → Option MS
  | 0 => fun _ _ _ => none
  | n + 1 => fun x1 x2 σ => f7_findLocks_b15 (f7_findLocks_l15 n) x1 x2 σ
def f7_findLocks (p0 : Int32) (σ : MS) : Option MS :=
  nxt (sI σ 30 (-1)) fun σ1 =>
  bnd (f7_allOps σ1) fun r3 σ2 =>
  nxt (sI σ2 31 r3) fun σ4 =>
  f7_findLocks_l15 FU p0 0 σ4
abbrev r7_findLocks : Room := { frames := 8, cells := 0, slots := 0, locals := 187 }
theorem cw7_findLocks {R : Room} {s : State} {args : Array Value} (ht : ∀ w ∈ lw_all, w.before args s = true) (hR : r7_findLocks.frames + 1 ≤ R.frames ∧ 8 + (3 + 11) + r7_findLocks.locals ≤ R.locals) : CallW R s args RX7 RX7 421 yX7_findLocks cX7_findLocks 3 none (ws_ yX7_findLocks cX7_findLocks 3 none) r7_findLocks 0 0 1 :=
  cwV 1 ht (lw_V q3296 q3298 qs151 q178 q3299) rfl rfl rfl (by decide +kernel) hR
theorem m7_findLocks (l : Launch) (D : va_G) (cl : vC2) (Z : (Nat → Prop) → State → Heap → Prop) (hz : ZK Z) (ci : Nat) (A : Nat → Nat) (d : Nat → ClassId) (tm : List (ClassId × FieldType)) (hc : cl.1[ci]? = some (RX7, TX7, 42)) (p0 : Int32) (σ : MS) (σ' : MS) (hf : f7_findLocks p0 σ = some σ') : MMv l yX7_findLocks (ws_ yX7_findLocks cX7_findLocks 3 none) r7_findLocks D cl Z ci A d tm σ [.int p0] σ' := by
  refine m_openv hz (by decide) (by exact Nat.le_of_ble_eq_true rfl) (fun p e s m args below meth c ls A0 Q X hI hl hret => ?_)
  have X : XC p s m args meth c cX7_findLocks 3 RX7 D cl (mty d tm) A0 Z := X
  have hx := X.1
  have hb := X.2.1
  have hown := X.2.2.2.1
  have hts := X.2.2.2.2.1
  have L15 : ∀ (n : Nat) (x1 : Int32) (x2 : Int32) (σ : MS), f7_findLocks_l15 n x1 x2 σ = some σ' → ∀ (H : Heap) (locs : List Loc), XI D cl (mw ci A d σ) A0 s.heap H locs → ∀ (ls : Array Slot), lv_has ls 3 [(0, .ref (A 0)), (1, .int x1), (2, .int x2)] → W p l e r7_findLocks s m args below meth c H locs 0 0 Q (F0 m 15 ls []) := by
    intro n15
    induction n15 with
    | zero => intro x1 x2 σ hf; cases hf
    | succ n15 ih15 =>
      have J76 : ∀ (x1 : Int32) (x2 : Int32) (σ : MS), f7_findLocks_b76 (f7_findLocks_l15 n15) x1 x2 σ = some σ' → ∀ (H : Heap) (locs : List Loc), XI D cl (mw ci A d σ) A0 s.heap H locs → ∀ (ls : Array Slot), lv_has ls 3 [(0, .ref (A 0)), (1, .int x1), (2, .int x2)] → W p l e r7_findLocks s m args below meth c H locs 0 0 Q (F0 m 76 ls []) := by
        intro x1 x2 σ hf H locs hI ls hl
        unfold f7_findLocks_b76 at hf
        refine lv_iinc (v := x2 + 1) (lv' := [(2, .int (x2 + 1)), (0, .ref (A 0)), (1, .int x1)]) hx hb dX7_findLocks_76 hl (k := 2) rfl rfl (by decide) rfl (fun ls hl => ?_)
        refine lv_goto (tgt := 15) hx hb dX7_findLocks_79 (by decide) ?_
        exact ih15 x1 (x2 + 1) σ hf H locs hI ls (lv_sub hl [1, 2, 0] rfl)
      have J71 : ∀ (x1 : Int32) (x2 : Int32) (σ : MS), f7_findLocks_b71 (f7_findLocks_l15 n15) x1 x2 σ = some σ' → ∀ (H : Heap) (locs : List Loc), XI D cl (mw ci A d σ) A0 s.heap H locs → ∀ (ls : Array Slot), lv_has ls 3 [(0, .ref (A 0)), (1, .int x1), (2, .int x2)] → W p l e r7_findLocks s m args below meth c H locs 0 0 Q (F0 m 71 ls []) := by
        intro x1 x2 σ hf H locs hI ls hl
        unfold f7_findLocks_b71 at hf
        refine lv_aload_n hx hb dX7_findLocks_71 rfl (lv_at hl 0 rfl) ?_
        refine lv_iload_n hx hb dX7_findLocks_72 rfl (lv_at hl 2 rfl) ?_
        refine m_puti X hI hc 30 (by decide) q2688 rfl rfl rfl dX7_findLocks_73 (fun H locs hI => ?_)
        obtain ⟨σ16, eσ16, hf⟩ := nxt_some hf
        rw [← eσ16] at hI
        clear eσ16
        exact J76 x1 x2 σ16 hf H locs hI ls (lv_sub hl [0, 1, 2] rfl)
      intro x1 x2 σ hf H locs hI ls hl
      have hf : f7_findLocks_b15 (f7_findLocks_l15 n15) x1 x2 σ = some σ' := hf
      unfold f7_findLocks_b15 at hf
      refine lv_iload_n hx hb dX7_findLocks_15 rfl (lv_at hl 2 rfl) ?_
      refine lv_aload_n hx hb dX7_findLocks_16 rfl (lv_at hl 0 rfl) ?_
      obtain ⟨r6, σ5, hσ5, hf⟩ := bnd_some hf
      refine m_calli X hI hc [] (m7_allOps l D cl Z hz ci A d tm hc σ r6 σ5 hσ5) (cw7_allOps hts ⟨Nat.le_of_ble_eq_true rfl, Nat.le_of_ble_eq_true rfl⟩) rfl hl.1 (Nat.le_of_ble_eq_true rfl) rfl dX7_findLocks_17 ⟨Nat.le_of_ble_eq_true rfl, Nat.le_of_ble_eq_true rfl⟩ (fun H locs hI => ?_)
      refine lv_icmp_gt (tgt := 82) hx hb dX7_findLocks_20 (by decide) (fun c7 => ?_) (fun c7 => ?_)
      · have hf := o_pos hf c7
        exact hret hf hI dX7_findLocks_82
      · have hf := o_neg hf c7
        refine lv_aload_n hx hb dX7_findLocks_23 rfl (lv_at hl 0 rfl) ?_
        refine lv_aload_n hx hb dX7_findLocks_24 rfl (lv_at hl 0 rfl) ?_
        refine m_get (v := .int (gI σ5 18)) X hI hc 18 (by decide) q2676 rfl dX7_findLocks_25 ?_
        refine lv_iload_n hx hb dX7_findLocks_28 rfl (lv_at hl 2 rfl) ?_
        refine lv_iload_n hx hb dX7_findLocks_29 rfl (lv_at hl 1 rfl) ?_
        obtain ⟨r9, σ8, hσ8, hf⟩ := bnd_some hf
        refine m_calli X hI hc [.int (gI σ5 18), .int x2, .int x1] (m7_isSafeBy l D cl Z hz ci A d tm hc (gI σ5 18) x2 x1 σ5 r9 σ8 hσ8) (cw7_isSafeBy hts ⟨Nat.le_of_ble_eq_true rfl, Nat.le_of_ble_eq_true rfl⟩) rfl hl.1 (Nat.le_of_ble_eq_true rfl) rfl dX7_findLocks_30 ⟨Nat.le_of_ble_eq_true rfl, Nat.le_of_ble_eq_true rfl⟩ (fun H locs hI => ?_)
        refine lv_if_ne (tgt := 39) hx hb dX7_findLocks_33 (by decide) (fun c10 => ?_) (fun c10 => ?_)
        · have hf := o_neg hf c10
          refine lv_aload_n hx hb dX7_findLocks_39 rfl (lv_at hl 0 rfl) ?_
          refine lv_dup hx hb dX7_findLocks_40 rfl ?_
          refine m_get (v := .int (gI σ8 31)) X hI hc 31 (by decide) q2689 rfl dX7_findLocks_41 ?_
          refine lv_iload_n hx hb dX7_findLocks_44 rfl (lv_at hl 2 rfl) ?_
          refine lv_iand hx hb dX7_findLocks_45 ?_
          refine m_puti X hI hc 31 (by decide) q2689 rfl rfl rfl dX7_findLocks_46 (fun H locs hI => ?_)
          obtain ⟨σ11, eσ11, hf⟩ := nxt_some hf
          rw [← eσ11] at hI
          clear eσ11
          refine lv_aload_n hx hb dX7_findLocks_49 rfl (lv_at hl 0 rfl) ?_
          refine m_get (v := .int (gI σ11 30)) X hI hc 30 (by decide) q2688 rfl dX7_findLocks_50 ?_
          refine lv_iconst (v := -1) hx hb dX7_findLocks_53 (by decide) ?_
          refine lv_icmp_eq (tgt := 71) hx hb dX7_findLocks_54 (by decide) (fun c12 => ?_) (fun c12 => ?_)
          · have hf := o_pos hf c12
            exact J71 x1 x2 σ11 hf H locs hI ls (lv_sub hl [0, 1, 2] rfl)
          · have hf := o_neg hf c12
            refine lv_iload_n hx hb dX7_findLocks_57 rfl (lv_at hl 2 rfl) ?_
            obtain ⟨r13, hr13, hf⟩ := bn1_some hf
            refine x_callSi (As := [.int x2]) X hI (m7_bits l x2 r13 hr13) (cw7_bits hts ⟨Nat.le_of_ble_eq_true rfl, Nat.le_of_ble_eq_true rfl⟩) rfl hl.1 (Nat.le_of_ble_eq_true rfl) rfl dX7_findLocks_58 ⟨Nat.le_of_ble_eq_true rfl, Nat.le_of_ble_eq_true rfl⟩ (fun H locs hI => ?_)
            refine lv_aload_n hx hb dX7_findLocks_61 rfl (lv_at hl 0 rfl) ?_
            refine m_get (v := .int (gI σ11 30)) X hI hc 30 (by decide) q2688 rfl dX7_findLocks_62 ?_
            obtain ⟨r14, hr14, hf⟩ := bn1_some hf
            refine x_callSi (As := [.int (gI σ11 30)]) X hI (m7_bits l (gI σ11 30) r14 hr14) (cw7_bits hts ⟨Nat.le_of_ble_eq_true rfl, Nat.le_of_ble_eq_true rfl⟩) rfl hl.1 (Nat.le_of_ble_eq_true rfl) rfl dX7_findLocks_65 ⟨Nat.le_of_ble_eq_true rfl, Nat.le_of_ble_eq_true rfl⟩ (fun H locs hI => ?_)
            refine lv_icmp_ge (tgt := 76) hx hb dX7_findLocks_68 (by decide) (fun c15 => ?_) (fun c15 => ?_)
            · have hf := o_pos hf c15
              exact J76 x1 x2 σ11 hf H locs hI ls (lv_sub hl [0, 1, 2] rfl)
            · have hf := o_neg hf c15
              exact J71 x1 x2 σ11 hf H locs hI ls (lv_sub hl [0, 1, 2] rfl)
        · have hf := o_pos hf c10
          refine lv_goto (tgt := 76) hx hb dX7_findLocks_36 (by decide) ?_
          exact J76 x1 x2 σ8 hf H locs hI ls (lv_sub hl [0, 1, 2] rfl)
  have hl : lv_has ls 3 [(0, .ref (A 0)), (1, .int p0)] := hl
  unfold f7_findLocks at hf
  obtain ⟨H, eH⟩ : ∃ H, H = s.heap := ⟨_, rfl⟩
  obtain ⟨locs, eL⟩ : ∃ locs : List Loc, locs = [] := ⟨_, rfl⟩
  have hI : XI D cl (mw ci A d σ) A0 s.heap H locs := by rw [eH, eL]; exact hI
  rw [← eL]
  suffices h : W p l e r7_findLocks s m args below meth c H locs 0 0 Q (F0 m 0 ls []) by rw [eH] at h; exact h
  clear eH eL
  refine lv_aload_n hx hb dX7_findLocks_0 rfl (lv_at hl 0 rfl) ?_
  refine lv_iconst (v := -1) hx hb dX7_findLocks_1 (by decide) ?_
  refine m_puti X hI hc 30 (by decide) q2688 rfl rfl rfl dX7_findLocks_2 (fun H locs hI => ?_)
  obtain ⟨σ1, eσ1, hf⟩ := nxt_some hf
  rw [← eσ1] at hI
  clear eσ1
  refine lv_aload_n hx hb dX7_findLocks_5 rfl (lv_at hl 0 rfl) ?_
  refine lv_aload_n hx hb dX7_findLocks_6 rfl (lv_at hl 0 rfl) ?_
  obtain ⟨r3, σ2, hσ2, hf⟩ := bnd_some hf
  refine m_calli X hI hc [] (m7_allOps l D cl Z hz ci A d tm hc σ1 r3 σ2 hσ2) (cw7_allOps hts ⟨Nat.le_of_ble_eq_true rfl, Nat.le_of_ble_eq_true rfl⟩) rfl hl.1 (Nat.le_of_ble_eq_true rfl) rfl dX7_findLocks_7 ⟨Nat.le_of_ble_eq_true rfl, Nat.le_of_ble_eq_true rfl⟩ (fun H locs hI => ?_)
  refine m_puti X hI hc 31 (by decide) q2689 rfl rfl rfl dX7_findLocks_10 (fun H locs hI => ?_)
  obtain ⟨σ4, eσ4, hf⟩ := nxt_some hf
  rw [← eσ4] at hI
  clear eσ4
  refine lv_iconst (v := 0) hx hb dX7_findLocks_13 (by decide) ?_
  refine lv_istore_n (lv' := [(2, .int 0), (0, .ref (A 0)), (1, .int p0)]) hx hb dX7_findLocks_14 rfl hl (by decide) rfl (fun ls hl => ?_)
  exact L15 FU p0 0 σ4 hf H locs hI ls (lv_sub hl [1, 2, 0] rfl)
/-! asksLocks -/
def f7_asksLocks (p0 : Int32) (σ : MS) : oI Int32 :=
  bnd (f7_asks σ) fun r2 σ1 =>
  if r2 = 0 then (some (0, σ1)) else (bn1 (f7_isDepth p0) fun r4 =>
  if r4 = 0 then (some (0, σ1)) else (bn1 (f7_findLocks p0 σ1) fun σ6 =>
  some (1, σ6)))
abbrev r7_asksLocks : Room := { frames := 9, cells := 0, slots := 0, locals := 209 }
theorem cw7_asksLocks {R : Room} {s : State} {args : Array Value} (ht : ∀ w ∈ lw_all, w.before args s = true) (hR : r7_asksLocks.frames + 1 ≤ R.frames ∧ 8 + (2 + 11) + r7_asksLocks.locals ≤ R.locals) : CallW R s args RX7 RX7 424 yX7_asksLocks cX7_asksLocks 2 (some .boolean) (ws_ yX7_asksLocks cX7_asksLocks 2 (some .boolean)) r7_asksLocks 0 0 1 :=
  cwV 1 ht (lw_V q3292 q3294 qs150 q178 q3295) rfl rfl rfl (by decide +kernel) hR
theorem m7_asksLocks (l : Launch) (D : va_G) (cl : vC2) (Z : (Nat → Prop) → State → Heap → Prop) (hz : ZK Z) (ci : Nat) (A : Nat → Nat) (d : Nat → ClassId) (tm : List (ClassId × FieldType)) (hc : cl.1[ci]? = some (RX7, TX7, 42)) (p0 : Int32) (σ : MS) (r : Int32) (σ' : MS) (hf : f7_asksLocks p0 σ = some (r, σ')) : MMi l yX7_asksLocks (ws_ yX7_asksLocks cX7_asksLocks 2 (some .boolean)) r7_asksLocks D cl Z ci A d tm σ [.int p0] r σ' := by
  refine m_openz hz (by decide) (by exact Nat.le_of_ble_eq_true rfl) (fun p e s m args below meth c ls A0 Q X hI hl hret => ?_)
  have X : XC p s m args meth c cX7_asksLocks 2 RX7 D cl (mty d tm) A0 Z := X
  have hx := X.1
  have hb := X.2.1
  have hown := X.2.2.2.1
  have hts := X.2.2.2.2.1
  have hl : lv_has ls 2 [(0, .ref (A 0)), (1, .int p0)] := hl
  unfold f7_asksLocks at hf
  obtain ⟨H, eH⟩ : ∃ H, H = s.heap := ⟨_, rfl⟩
  obtain ⟨locs, eL⟩ : ∃ locs : List Loc, locs = [] := ⟨_, rfl⟩
  have hI : XI D cl (mw ci A d σ) A0 s.heap H locs := by rw [eH, eL]; exact hI
  rw [← eL]
  suffices h : W p l e r7_asksLocks s m args below meth c H locs 0 0 Q (F0 m 0 ls []) by rw [eH] at h; exact h
  clear eH eL
  refine lv_aload_n hx hb dX7_asksLocks_0 rfl (lv_at hl 0 rfl) ?_
  obtain ⟨r2, σ1, hσ1, hf⟩ := bnd_some hf
  refine m_calli X hI hc [] (m7_asks l D cl Z hz ci A d tm hc σ r2 σ1 hσ1) (cw7_asks hts ⟨Nat.le_of_ble_eq_true rfl, Nat.le_of_ble_eq_true rfl⟩) rfl hl.1 (Nat.le_of_ble_eq_true rfl) rfl dX7_asksLocks_1 ⟨Nat.le_of_ble_eq_true rfl, Nat.le_of_ble_eq_true rfl⟩ (fun H locs hI => ?_)
  refine lv_if_eq (tgt := 14) hx hb dX7_asksLocks_4 (by decide) (fun c3 => ?_) (fun c3 => ?_)
  · have hf := o_pos hf c3
    refine lv_iconst (v := 0) hx hb dX7_asksLocks_14 (by decide) ?_
    exact hret hf rfl hI dX7_asksLocks_15
  · have hf := o_neg hf c3
    refine lv_iload_n hx hb dX7_asksLocks_7 rfl (lv_at hl 1 rfl) ?_
    obtain ⟨r4, hr4, hf⟩ := bn1_some hf
    refine x_callSi (As := [.int p0]) X hI (m7_isDepth l p0 r4 hr4) (cw7_isDepth hts ⟨Nat.le_of_ble_eq_true rfl, Nat.le_of_ble_eq_true rfl⟩) rfl hl.1 (Nat.le_of_ble_eq_true rfl) rfl dX7_asksLocks_8 ⟨Nat.le_of_ble_eq_true rfl, Nat.le_of_ble_eq_true rfl⟩ (fun H locs hI => ?_)
    refine lv_if_ne (tgt := 16) hx hb dX7_asksLocks_11 (by decide) (fun c5 => ?_) (fun c5 => ?_)
    · have hf := o_neg hf c5
      refine lv_aload_n hx hb dX7_asksLocks_16 rfl (lv_at hl 0 rfl) ?_
      refine lv_iload_n hx hb dX7_asksLocks_17 rfl (lv_at hl 1 rfl) ?_
      obtain ⟨σ6, hσ6, hf⟩ := bn1_some hf
      refine m_callv X hI hc [.int p0] (m7_findLocks l D cl Z hz ci A d tm hc p0 σ1 σ6 hσ6) (cw7_findLocks hts ⟨Nat.le_of_ble_eq_true rfl, Nat.le_of_ble_eq_true rfl⟩) rfl hl.1 (Nat.le_of_ble_eq_true rfl) rfl dX7_asksLocks_18 ⟨Nat.le_of_ble_eq_true rfl, Nat.le_of_ble_eq_true rfl⟩ (fun H locs hI => ?_)
      refine lv_iconst (v := 1) hx hb dX7_asksLocks_21 (by decide) ?_
      exact hret hf rfl hI dX7_asksLocks_22
    · have hf := o_pos hf c5
      refine lv_iconst (v := 0) hx hb dX7_asksLocks_14 (by decide) ?_
      exact hret hf rfl hI dX7_asksLocks_15
/-! fewest -/
def f7_fewest (p0 : Int32) (σ : MS) : oI Int32 :=
  bnd (f7_asksLocks p0 σ) fun r2 σ1 =>
  if r2 = 0 then (some ((-2), σ1)) else (if (gI σ1 30) = (-1) then (some ((-1), σ1)) else (bn1 (f7_bits (gI σ1 30)) fun r5 =>
  some (r5, σ1)))
abbrev r7_fewest : Room := { frames := 10, cells := 0, slots := 0, locals := 230 }
theorem m7_fewest (l : Launch) (D : va_G) (cl : vC2) (Z : (Nat → Prop) → State → Heap → Prop) (hz : ZK Z) (ci : Nat) (A : Nat → Nat) (d : Nat → ClassId) (tm : List (ClassId × FieldType)) (hc : cl.1[ci]? = some (RX7, TX7, 42)) (p0 : Int32) (σ : MS) (r : Int32) (σ' : MS) (hf : f7_fewest p0 σ = some (r, σ')) : MMi l yX7_fewest (ws_ yX7_fewest cX7_fewest 2 (some .int)) r7_fewest D cl Z ci A d tm σ [.int p0] r σ' := by
  refine m_openi hz (by decide) (by exact Nat.le_of_ble_eq_true rfl) (fun p e s m args below meth c ls A0 Q X hI hl hret => ?_)
  have X : XC p s m args meth c cX7_fewest 2 RX7 D cl (mty d tm) A0 Z := X
  have hx := X.1
  have hb := X.2.1
  have hown := X.2.2.2.1
  have hts := X.2.2.2.2.1
  have hl : lv_has ls 2 [(0, .ref (A 0)), (1, .int p0)] := hl
  unfold f7_fewest at hf
  obtain ⟨H, eH⟩ : ∃ H, H = s.heap := ⟨_, rfl⟩
  obtain ⟨locs, eL⟩ : ∃ locs : List Loc, locs = [] := ⟨_, rfl⟩
  have hI : XI D cl (mw ci A d σ) A0 s.heap H locs := by rw [eH, eL]; exact hI
  rw [← eL]
  suffices h : W p l e r7_fewest s m args below meth c H locs 0 0 Q (F0 m 0 ls []) by rw [eH] at h; exact h
  clear eH eL
  refine lv_aload_n hx hb dX7_fewest_0 rfl (lv_at hl 0 rfl) ?_
  refine lv_iload_n hx hb dX7_fewest_1 rfl (lv_at hl 1 rfl) ?_
  obtain ⟨r2, σ1, hσ1, hf⟩ := bnd_some hf
  refine m_calli X hI hc [.int p0] (m7_asksLocks l D cl Z hz ci A d tm hc p0 σ r2 σ1 hσ1) (cw7_asksLocks hts ⟨Nat.le_of_ble_eq_true rfl, Nat.le_of_ble_eq_true rfl⟩) rfl hl.1 (Nat.le_of_ble_eq_true rfl) rfl dX7_fewest_2 ⟨Nat.le_of_ble_eq_true rfl, Nat.le_of_ble_eq_true rfl⟩ (fun H locs hI => ?_)
  refine lv_if_ne (tgt := 11) hx hb dX7_fewest_5 (by decide) (fun c3 => ?_) (fun c3 => ?_)
  · have hf := o_neg hf c3
    refine lv_aload_n hx hb dX7_fewest_11 rfl (lv_at hl 0 rfl) ?_
    refine m_get (v := .int (gI σ1 30)) X hI hc 30 (by decide) q2688 rfl dX7_fewest_12 ?_
    refine lv_iconst (v := -1) hx hb dX7_fewest_15 (by decide) ?_
    refine lv_icmp_ne (tgt := 23) hx hb dX7_fewest_16 (by decide) (fun c4 => ?_) (fun c4 => ?_)
    · have hf := o_neg hf c4
      refine lv_aload_n hx hb dX7_fewest_23 rfl (lv_at hl 0 rfl) ?_
      refine m_get (v := .int (gI σ1 30)) X hI hc 30 (by decide) q2688 rfl dX7_fewest_24 ?_
      obtain ⟨r5, hr5, hf⟩ := bn1_some hf
      refine x_callSi (As := [.int (gI σ1 30)]) X hI (m7_bits l (gI σ1 30) r5 hr5) (cw7_bits hts ⟨Nat.le_of_ble_eq_true rfl, Nat.le_of_ble_eq_true rfl⟩) rfl hl.1 (Nat.le_of_ble_eq_true rfl) rfl dX7_fewest_27 ⟨Nat.le_of_ble_eq_true rfl, Nat.le_of_ble_eq_true rfl⟩ (fun H locs hI => ?_)
      exact hret hf hI dX7_fewest_30
    · have hf := o_pos hf c4
      refine lv_iconst (v := -1) hx hb dX7_fewest_19 (by decide) ?_
      refine lv_goto (tgt := 30) hx hb dX7_fewest_20 (by decide) ?_
      exact hret hf hI dX7_fewest_30
  · have hf := o_pos hf c3
    refine lv_bipush (v := -2) hx hb dX7_fewest_8 (by decide) ?_
    exact hret hf hI dX7_fewest_10
/-! locks -/
def f7_locks (p0 : Int32) (σ : MS) : oI Int32 :=
  bnd (f7_asksLocks p0 σ) fun r2 σ1 =>
  if r2 = 0 then (some ((-2), σ1)) else (some (gI σ1 30, σ1))
abbrev r7_locks : Room := { frames := 10, cells := 0, slots := 0, locals := 230 }
theorem m7_locks (l : Launch) (D : va_G) (cl : vC2) (Z : (Nat → Prop) → State → Heap → Prop) (hz : ZK Z) (ci : Nat) (A : Nat → Nat) (d : Nat → ClassId) (tm : List (ClassId × FieldType)) (hc : cl.1[ci]? = some (RX7, TX7, 42)) (p0 : Int32) (σ : MS) (r : Int32) (σ' : MS) (hf : f7_locks p0 σ = some (r, σ')) : MMi l yX7_locks (ws_ yX7_locks cX7_locks 2 (some .int)) r7_locks D cl Z ci A d tm σ [.int p0] r σ' := by
  refine m_openi hz (by decide) (by exact Nat.le_of_ble_eq_true rfl) (fun p e s m args below meth c ls A0 Q X hI hl hret => ?_)
  have X : XC p s m args meth c cX7_locks 2 RX7 D cl (mty d tm) A0 Z := X
  have hx := X.1
  have hb := X.2.1
  have hown := X.2.2.2.1
  have hts := X.2.2.2.2.1
  have hl : lv_has ls 2 [(0, .ref (A 0)), (1, .int p0)] := hl
  unfold f7_locks at hf
  obtain ⟨H, eH⟩ : ∃ H, H = s.heap := ⟨_, rfl⟩
  obtain ⟨locs, eL⟩ : ∃ locs : List Loc, locs = [] := ⟨_, rfl⟩
  have hI : XI D cl (mw ci A d σ) A0 s.heap H locs := by rw [eH, eL]; exact hI
  rw [← eL]
  suffices h : W p l e r7_locks s m args below meth c H locs 0 0 Q (F0 m 0 ls []) by rw [eH] at h; exact h
  clear eH eL
  refine lv_aload_n hx hb dX7_locks_0 rfl (lv_at hl 0 rfl) ?_
  refine lv_iload_n hx hb dX7_locks_1 rfl (lv_at hl 1 rfl) ?_
  obtain ⟨r2, σ1, hσ1, hf⟩ := bnd_some hf
  refine m_calli X hI hc [.int p0] (m7_asksLocks l D cl Z hz ci A d tm hc p0 σ r2 σ1 hσ1) (cw7_asksLocks hts ⟨Nat.le_of_ble_eq_true rfl, Nat.le_of_ble_eq_true rfl⟩) rfl hl.1 (Nat.le_of_ble_eq_true rfl) rfl dX7_locks_2 ⟨Nat.le_of_ble_eq_true rfl, Nat.le_of_ble_eq_true rfl⟩ (fun H locs hI => ?_)
  refine lv_if_eq (tgt := 15) hx hb dX7_locks_5 (by decide) (fun c3 => ?_) (fun c3 => ?_)
  · have hf := o_pos hf c3
    refine lv_bipush (v := -2) hx hb dX7_locks_15 (by decide) ?_
    exact hret hf hI dX7_locks_17
  · have hf := o_neg hf c3
    refine lv_aload_n hx hb dX7_locks_8 rfl (lv_at hl 0 rfl) ?_
    refine m_get (v := .int (gI σ1 30)) X hI hc 30 (by decide) q2688 rfl dX7_locks_9 ?_
    refine lv_goto (tgt := 17) hx hb dX7_locks_12 (by decide) ?_
    exact hret hf hI dX7_locks_17
/-! needed -/
def f7_needed (p0 : Int32) (σ : MS) : oI Int32 :=
  bnd (f7_asksLocks p0 σ) fun r2 σ1 =>
  if r2 = 0 then (some ((-2), σ1)) else (some (gI σ1 31, σ1))
abbrev r7_needed : Room := { frames := 10, cells := 0, slots := 0, locals := 230 }
theorem m7_needed (l : Launch) (D : va_G) (cl : vC2) (Z : (Nat → Prop) → State → Heap → Prop) (hz : ZK Z) (ci : Nat) (A : Nat → Nat) (d : Nat → ClassId) (tm : List (ClassId × FieldType)) (hc : cl.1[ci]? = some (RX7, TX7, 42)) (p0 : Int32) (σ : MS) (r : Int32) (σ' : MS) (hf : f7_needed p0 σ = some (r, σ')) : MMi l yX7_needed (ws_ yX7_needed cX7_needed 2 (some .int)) r7_needed D cl Z ci A d tm σ [.int p0] r σ' := by
  refine m_openi hz (by decide) (by exact Nat.le_of_ble_eq_true rfl) (fun p e s m args below meth c ls A0 Q X hI hl hret => ?_)
  have X : XC p s m args meth c cX7_needed 2 RX7 D cl (mty d tm) A0 Z := X
  have hx := X.1
  have hb := X.2.1
  have hown := X.2.2.2.1
  have hts := X.2.2.2.2.1
  have hl : lv_has ls 2 [(0, .ref (A 0)), (1, .int p0)] := hl
  unfold f7_needed at hf
  obtain ⟨H, eH⟩ : ∃ H, H = s.heap := ⟨_, rfl⟩
  obtain ⟨locs, eL⟩ : ∃ locs : List Loc, locs = [] := ⟨_, rfl⟩
  have hI : XI D cl (mw ci A d σ) A0 s.heap H locs := by rw [eH, eL]; exact hI
  rw [← eL]
  suffices h : W p l e r7_needed s m args below meth c H locs 0 0 Q (F0 m 0 ls []) by rw [eH] at h; exact h
  clear eH eL
  refine lv_aload_n hx hb dX7_needed_0 rfl (lv_at hl 0 rfl) ?_
  refine lv_iload_n hx hb dX7_needed_1 rfl (lv_at hl 1 rfl) ?_
  obtain ⟨r2, σ1, hσ1, hf⟩ := bnd_some hf
  refine m_calli X hI hc [.int p0] (m7_asksLocks l D cl Z hz ci A d tm hc p0 σ r2 σ1 hσ1) (cw7_asksLocks hts ⟨Nat.le_of_ble_eq_true rfl, Nat.le_of_ble_eq_true rfl⟩) rfl hl.1 (Nat.le_of_ble_eq_true rfl) rfl dX7_needed_2 ⟨Nat.le_of_ble_eq_true rfl, Nat.le_of_ble_eq_true rfl⟩ (fun H locs hI => ?_)
  refine lv_if_eq (tgt := 15) hx hb dX7_needed_5 (by decide) (fun c3 => ?_) (fun c3 => ?_)
  · have hf := o_pos hf c3
    refine lv_bipush (v := -2) hx hb dX7_needed_15 (by decide) ?_
    exact hret hf hI dX7_needed_17
  · have hf := o_neg hf c3
    refine lv_aload_n hx hb dX7_needed_8 rfl (lv_at hl 0 rfl) ?_
    refine m_get (v := .int (gI σ1 31)) X hI hc 31 (by decide) q2689 rfl dX7_needed_9 ?_
    refine lv_goto (tgt := 17) hx hb dX7_needed_12 (by decide) ?_
    exact hret hf hI dX7_needed_17
/-! breaksBy -/
def f7_breaksBy (p0 : Int32) (σ : MS) : oI Int32 :=
  nxt (sI σ 18 p0) fun σ1 =>
  bn1 (f7_layStates σ1) fun σ2 =>
  bnd (f7_breaksIn 1 σ2) fun r4 σ3 =>
  some (r4, σ3)
abbrev r7_breaksBy : Room := { frames := 7, cells := 0, slots := 0, locals := 164 }
theorem cw7_breaksBy {R : Room} {s : State} {args : Array Value} (ht : ∀ w ∈ lw_all, w.before args s = true) (hR : r7_breaksBy.frames + 1 ≤ R.frames ∧ 8 + (2 + 11) + r7_breaksBy.locals ≤ R.locals) : CallW R s args RX7 RX7 427 yX7_breaksBy cX7_breaksBy 2 (some .int) (ws_ yX7_breaksBy cX7_breaksBy 2 (some .int)) r7_breaksBy 0 0 1 :=
  cwV 1 ht (lw_V q3319 q3321 qs153 q178 q3322) rfl rfl rfl (by decide +kernel) hR
theorem m7_breaksBy (l : Launch) (D : va_G) (cl : vC2) (Z : (Nat → Prop) → State → Heap → Prop) (hz : ZK Z) (ci : Nat) (A : Nat → Nat) (d : Nat → ClassId) (tm : List (ClassId × FieldType)) (hc : cl.1[ci]? = some (RX7, TX7, 42)) (p0 : Int32) (σ : MS) (r : Int32) (σ' : MS) (hf : f7_breaksBy p0 σ = some (r, σ')) : MMi l yX7_breaksBy (ws_ yX7_breaksBy cX7_breaksBy 2 (some .int)) r7_breaksBy D cl Z ci A d tm σ [.int p0] r σ' := by
  refine m_openi hz (by decide) (by exact Nat.le_of_ble_eq_true rfl) (fun p e s m args below meth c ls A0 Q X hI hl hret => ?_)
  have X : XC p s m args meth c cX7_breaksBy 2 RX7 D cl (mty d tm) A0 Z := X
  have hx := X.1
  have hb := X.2.1
  have hown := X.2.2.2.1
  have hts := X.2.2.2.2.1
  have hl : lv_has ls 2 [(0, .ref (A 0)), (1, .int p0)] := hl
  unfold f7_breaksBy at hf
  obtain ⟨H, eH⟩ : ∃ H, H = s.heap := ⟨_, rfl⟩
  obtain ⟨locs, eL⟩ : ∃ locs : List Loc, locs = [] := ⟨_, rfl⟩
  have hI : XI D cl (mw ci A d σ) A0 s.heap H locs := by rw [eH, eL]; exact hI
  rw [← eL]
  suffices h : W p l e r7_breaksBy s m args below meth c H locs 0 0 Q (F0 m 0 ls []) by rw [eH] at h; exact h
  clear eH eL
  refine lv_aload_n hx hb dX7_breaksBy_0 rfl (lv_at hl 0 rfl) ?_
  refine lv_iload_n hx hb dX7_breaksBy_1 rfl (lv_at hl 1 rfl) ?_
  refine m_puti X hI hc 18 (by decide) q2676 rfl rfl rfl dX7_breaksBy_2 (fun H locs hI => ?_)
  obtain ⟨σ1, eσ1, hf⟩ := nxt_some hf
  rw [← eσ1] at hI
  clear eσ1
  refine lv_aload_n hx hb dX7_breaksBy_5 rfl (lv_at hl 0 rfl) ?_
  obtain ⟨σ2, hσ2, hf⟩ := bn1_some hf
  refine m_callv X hI hc [] (m7_layStates l D cl Z hz ci A d tm hc σ1 σ2 hσ2) (cw7_layStates hts ⟨Nat.le_of_ble_eq_true rfl, Nat.le_of_ble_eq_true rfl⟩) rfl hl.1 (Nat.le_of_ble_eq_true rfl) rfl dX7_breaksBy_6 ⟨Nat.le_of_ble_eq_true rfl, Nat.le_of_ble_eq_true rfl⟩ (fun H locs hI => ?_)
  refine lv_aload_n hx hb dX7_breaksBy_9 rfl (lv_at hl 0 rfl) ?_
  refine lv_iconst (v := 1) hx hb dX7_breaksBy_10 (by decide) ?_
  obtain ⟨r4, σ3, hσ3, hf⟩ := bnd_some hf
  refine m_calli X hI hc [.int 1] (m7_breaksIn l D cl Z hz ci A d tm hc 1 σ2 r4 σ3 hσ3) (cw7_breaksIn hts ⟨Nat.le_of_ble_eq_true rfl, Nat.le_of_ble_eq_true rfl⟩) rfl hl.1 (Nat.le_of_ble_eq_true rfl) rfl dX7_breaksBy_11 ⟨Nat.le_of_ble_eq_true rfl, Nat.le_of_ble_eq_true rfl⟩ (fun H locs hI => ?_)
  exact hret hf hI dX7_breaksBy_14
/-! blame -/
def f7_blame_b62 (K26 : Int32 → Int32 → Int32 → Int32 → MS → oI Int32) (x1 : Int32) (x2 : Int32) (x3 : Int32) (x4 : Int32) (σ : MS) : oI Int32 :=
  K26 x1 x2 x3 (x4 + 1) σ
def f7_blame_b26 (K26 : Int32 → Int32 → Int32 → Int32 → MS → oI Int32) (x1 : Int32) (x2 : Int32) (x3 : Int32) (x4 : Int32) (σ : MS) : oI Int32 :=
  bnd (f7_rules σ) fun r7 σ6 =>
  if r7 ≤ x4 then (some (x3, σ6)) else (bnd (f7_breaksBy (x1 ||| ((1 : Int32) <<< (x4 &&& 31))) σ6) fun r10 σ9 =>
  if r10 < x2 then (f7_blame_b62 K26 x1 r10 x4 x4 σ9) else (f7_blame_b62 K26 x1 x2 x3 x4 σ9))
def f7_blame_l26 : Nat → Int32 → Int32 → Int32 → Int32 → MS → oI Int32
  | 0 => fun _ _ _ _ _ => none
  | n + 1 => fun x1 x2 x3 x4 σ => f7_blame_b26 (f7_blame_l26 n) x1 x2 x3 x4 σ
def f7_blame (σ : MS) : oI Int32 :=
  bnd (f7_asks σ) fun r2 σ1 =>
  if r2 = 0 then (some ((-2), σ1)) else (bnd (f7_breaksIn 1 σ1) fun r5 σ4 =>
  f7_blame_l26 FU (gI σ1 18) r5 (-1) 0 σ4)
abbrev r7_blame : Room := { frames := 8, cells := 0, slots := 0, locals := 185 }
theorem m7_blame (l : Launch) (D : va_G) (cl : vC2) (Z : (Nat → Prop) → State → Heap → Prop) (hz : ZK Z) (ci : Nat) (A : Nat → Nat) (d : Nat → ClassId) (tm : List (ClassId × FieldType)) (hc : cl.1[ci]? = some (RX7, TX7, 42)) (σ : MS) (r : Int32) (σ' : MS) (hf : f7_blame σ = some (r, σ')) : MMi l yX7_blame (ws_ yX7_blame cX7_blame 6 (some .int)) r7_blame D cl Z ci A d tm σ [] r σ' := by
  refine m_openi hz (by decide) (by exact Nat.le_of_ble_eq_true rfl) (fun p e s m args below meth c ls A0 Q X hI hl hret => ?_)
  have X : XC p s m args meth c cX7_blame 6 RX7 D cl (mty d tm) A0 Z := X
  have hx := X.1
  have hb := X.2.1
  have hown := X.2.2.2.1
  have hts := X.2.2.2.2.1
  have L26 : ∀ (n : Nat) (x1 : Int32) (x2 : Int32) (x3 : Int32) (x4 : Int32) (σ : MS), f7_blame_l26 n x1 x2 x3 x4 σ = some (r, σ') → ∀ (H : Heap) (locs : List Loc), XI D cl (mw ci A d σ) A0 s.heap H locs → ∀ (ls : Array Slot), lv_has ls 6 [(0, .ref (A 0)), (1, .int x1), (2, .int x2), (3, .int x3), (4, .int x4)] → W p l e r7_blame s m args below meth c H locs 0 0 Q (F0 m 26 ls []) := by
    intro n26
    induction n26 with
    | zero => intro x1 x2 x3 x4 σ hf; cases hf
    | succ n26 ih26 =>
      have J62 : ∀ (x1 : Int32) (x2 : Int32) (x3 : Int32) (x4 : Int32) (σ : MS), f7_blame_b62 (f7_blame_l26 n26) x1 x2 x3 x4 σ = some (r, σ') → ∀ (H : Heap) (locs : List Loc), XI D cl (mw ci A d σ) A0 s.heap H locs → ∀ (ls : Array Slot), lv_has ls 6 [(0, .ref (A 0)), (1, .int x1), (2, .int x2), (3, .int x3), (4, .int x4)] → W p l e r7_blame s m args below meth c H locs 0 0 Q (F0 m 62 ls []) := by
        intro x1 x2 x3 x4 σ hf H locs hI ls hl
        unfold f7_blame_b62 at hf
        refine lv_iinc (v := x4 + 1) (lv' := [(4, .int (x4 + 1)), (0, .ref (A 0)), (1, .int x1), (2, .int x2), (3, .int x3)]) hx hb dX7_blame_62 hl (k := 4) rfl rfl (by decide) rfl (fun ls hl => ?_)
        refine lv_goto (tgt := 26) hx hb dX7_blame_65 (by decide) ?_
        exact ih26 x1 x2 x3 (x4 + 1) σ hf H locs hI ls (lv_sub hl [1, 2, 3, 4, 0] rfl)
      intro x1 x2 x3 x4 σ hf H locs hI ls hl
      have hf : f7_blame_b26 (f7_blame_l26 n26) x1 x2 x3 x4 σ = some (r, σ') := hf
      unfold f7_blame_b26 at hf
      refine lv_iload hx hb dX7_blame_26 (lv_at hl 4 rfl) ?_
      refine lv_aload_n hx hb dX7_blame_28 rfl (lv_at hl 0 rfl) ?_
      obtain ⟨r7, σ6, hσ6, hf⟩ := bnd_some hf
      refine m_calli X hI hc [] (m7_rules l D cl Z hz ci A d tm hc σ r7 σ6 hσ6) (cw7_rules hts ⟨Nat.le_of_ble_eq_true rfl, Nat.le_of_ble_eq_true rfl⟩) rfl hl.1 (Nat.le_of_ble_eq_true rfl) rfl dX7_blame_29 ⟨Nat.le_of_ble_eq_true rfl, Nat.le_of_ble_eq_true rfl⟩ (fun H locs hI => ?_)
      refine lv_icmp_ge (tgt := 68) hx hb dX7_blame_32 (by decide) (fun c8 => ?_) (fun c8 => ?_)
      · have hf := o_pos hf c8
        refine lv_iload_n hx hb dX7_blame_68 rfl (lv_at hl 3 rfl) ?_
        exact hret hf hI dX7_blame_69
      · have hf := o_neg hf c8
        refine lv_aload_n hx hb dX7_blame_35 rfl (lv_at hl 0 rfl) ?_
        refine lv_iload_n hx hb dX7_blame_36 rfl (lv_at hl 1 rfl) ?_
        refine lv_iconst (v := 1) hx hb dX7_blame_37 (by decide) ?_
        refine lv_iload hx hb dX7_blame_38 (lv_at hl 4 rfl) ?_
        refine lv_ishl hx hb dX7_blame_40 ?_
        refine lv_ior hx hb dX7_blame_41 ?_
        obtain ⟨r10, σ9, hσ9, hf⟩ := bnd_some hf
        refine m_calli X hI hc [.int (x1 ||| ((1 : Int32) <<< (x4 &&& 31)))] (m7_breaksBy l D cl Z hz ci A d tm hc (x1 ||| ((1 : Int32) <<< (x4 &&& 31))) σ6 r10 σ9 hσ9) (cw7_breaksBy hts ⟨Nat.le_of_ble_eq_true rfl, Nat.le_of_ble_eq_true rfl⟩) rfl hl.1 (Nat.le_of_ble_eq_true rfl) rfl dX7_blame_42 ⟨Nat.le_of_ble_eq_true rfl, Nat.le_of_ble_eq_true rfl⟩ (fun H locs hI => ?_)
        refine lv_istore (lv' := [(5, .int r10), (0, .ref (A 0)), (1, .int x1), (2, .int x2), (3, .int x3), (4, .int x4)]) hx hb dX7_blame_45 hl (by decide) rfl (fun ls hl => ?_)
        refine lv_iload hx hb dX7_blame_47 (lv_at hl 0 rfl) ?_
        refine lv_iload_n hx hb dX7_blame_49 rfl (lv_at hl 3 rfl) ?_
        refine lv_icmp_lt (tgt := 56) hx hb dX7_blame_50 (by decide) (fun c11 => ?_) (fun c11 => ?_)
        · have hf := o_pos hf c11
          refine lv_iload hx hb dX7_blame_56 (lv_at hl 0 rfl) ?_
          refine lv_istore_n (lv' := [(2, .int r10), (5, .int r10), (0, .ref (A 0)), (1, .int x1), (3, .int x3), (4, .int x4)]) hx hb dX7_blame_58 rfl hl (by decide) rfl (fun ls hl => ?_)
          refine lv_iload hx hb dX7_blame_59 (lv_at hl 5 rfl) ?_
          refine lv_istore_n (lv' := [(3, .int x4), (2, .int r10), (5, .int r10), (0, .ref (A 0)), (1, .int x1), (4, .int x4)]) hx hb dX7_blame_61 rfl hl (by decide) rfl (fun ls hl => ?_)
          exact J62 x1 r10 x4 x4 σ9 hf H locs hI ls (lv_sub hl [3, 4, 1, 0, 5] rfl)
        · have hf := o_neg hf c11
          refine lv_goto (tgt := 62) hx hb dX7_blame_53 (by decide) ?_
          exact J62 x1 x2 x3 x4 σ9 hf H locs hI ls (lv_sub hl [1, 2, 3, 4, 5] rfl)
  have hl : lv_has ls 6 [(0, .ref (A 0))] := hl
  unfold f7_blame at hf
  obtain ⟨H, eH⟩ : ∃ H, H = s.heap := ⟨_, rfl⟩
  obtain ⟨locs, eL⟩ : ∃ locs : List Loc, locs = [] := ⟨_, rfl⟩
  have hI : XI D cl (mw ci A d σ) A0 s.heap H locs := by rw [eH, eL]; exact hI
  rw [← eL]
  suffices h : W p l e r7_blame s m args below meth c H locs 0 0 Q (F0 m 0 ls []) by rw [eH] at h; exact h
  clear eH eL
  refine lv_aload_n hx hb dX7_blame_0 rfl (lv_at hl 0 rfl) ?_
  obtain ⟨r2, σ1, hσ1, hf⟩ := bnd_some hf
  refine m_calli X hI hc [] (m7_asks l D cl Z hz ci A d tm hc σ r2 σ1 hσ1) (cw7_asks hts ⟨Nat.le_of_ble_eq_true rfl, Nat.le_of_ble_eq_true rfl⟩) rfl hl.1 (Nat.le_of_ble_eq_true rfl) rfl dX7_blame_1 ⟨Nat.le_of_ble_eq_true rfl, Nat.le_of_ble_eq_true rfl⟩ (fun H locs hI => ?_)
  refine lv_if_ne (tgt := 10) hx hb dX7_blame_4 (by decide) (fun c3 => ?_) (fun c3 => ?_)
  · have hf := o_neg hf c3
    refine lv_aload_n hx hb dX7_blame_10 rfl (lv_at hl 0 rfl) ?_
    refine m_get (v := .int (gI σ1 18)) X hI hc 18 (by decide) q2676 rfl dX7_blame_11 ?_
    refine lv_istore_n (lv' := [(1, .int (gI σ1 18)), (0, .ref (A 0))]) hx hb dX7_blame_14 rfl hl (by decide) rfl (fun ls hl => ?_)
    refine lv_aload_n hx hb dX7_blame_15 rfl (lv_at hl 1 rfl) ?_
    refine lv_iconst (v := 1) hx hb dX7_blame_16 (by decide) ?_
    obtain ⟨r5, σ4, hσ4, hf⟩ := bnd_some hf
    refine m_calli X hI hc [.int 1] (m7_breaksIn l D cl Z hz ci A d tm hc 1 σ1 r5 σ4 hσ4) (cw7_breaksIn hts ⟨Nat.le_of_ble_eq_true rfl, Nat.le_of_ble_eq_true rfl⟩) rfl hl.1 (Nat.le_of_ble_eq_true rfl) rfl dX7_blame_17 ⟨Nat.le_of_ble_eq_true rfl, Nat.le_of_ble_eq_true rfl⟩ (fun H locs hI => ?_)
    refine lv_istore_n (lv' := [(2, .int r5), (1, .int (gI σ1 18)), (0, .ref (A 0))]) hx hb dX7_blame_20 rfl hl (by decide) rfl (fun ls hl => ?_)
    refine lv_iconst (v := -1) hx hb dX7_blame_21 (by decide) ?_
    refine lv_istore_n (lv' := [(3, .int (-1)), (2, .int r5), (1, .int (gI σ1 18)), (0, .ref (A 0))]) hx hb dX7_blame_22 rfl hl (by decide) rfl (fun ls hl => ?_)
    refine lv_iconst (v := 0) hx hb dX7_blame_23 (by decide) ?_
    refine lv_istore (lv' := [(4, .int 0), (3, .int (-1)), (2, .int r5), (1, .int (gI σ1 18)), (0, .ref (A 0))]) hx hb dX7_blame_24 hl (by decide) rfl (fun ls hl => ?_)
    exact L26 FU (gI σ1 18) r5 (-1) 0 σ4 hf H locs hI ls (lv_sub hl [4, 3, 2, 1, 0] rfl)
  · have hf := o_pos hf c3
    refine lv_bipush (v := -2) hx hb dX7_blame_7 (by decide) ?_
    exact hret hf hI dX7_blame_9
/-! cure -/
def f7_cure_b80 (K20 : Int32 → Int32 → Int32 → MS → oI Int32) (K39 : Int32 → Int32 → Int32 → Int32 → Int32 → MS → oI Int32) (x1 : Int32) (x2 : Int32) (x3 : Int32) (x4 : Int32) (x5 : Int32) (σ : MS) : oI Int32 :=
  K39 x1 x2 x3 x4 (x5 + 1) σ
def f7_cure_b39 (K20 : Int32 → Int32 → Int32 → MS → oI Int32) (K39 : Int32 → Int32 → Int32 → Int32 → Int32 → MS → oI Int32) (x1 : Int32) (x2 : Int32) (x3 : Int32) (x4 : Int32) (x5 : Int32) (σ : MS) : oI Int32 :=
  if 4 ≤ x5 then (grd (inB x3 3) <|
  nxt (sA σ 15 x3.toNatClampNeg x4) fun σ13 =>
  K20 x1 x2 (x3 + 1) σ13) else (grd (inB x3 3) <|
  nxt (sA σ 15 x3.toNatClampNeg x5) fun σ15 =>
  bnd (f7_breaksIn 1 σ15) fun r17 σ16 =>
  if r17 < x1 then (f7_cure_b80 K20 K39 r17 (((10 : Int32) * x3) + x5) x3 x4 x5 σ16) else (f7_cure_b80 K20 K39 x1 x2 x3 x4 x5 σ16))
def f7_cure_l39 (K20 : Int32 → Int32 → Int32 → MS → oI Int32) : Nat → Int32 → Int32 → Int32 → Int32 → Int32 → MS → oI Int32
  | 0 => fun _ _ _ _ _ _ => none
  | n + 1 => fun x1 x2 x3 x4 x5 σ => f7_cure_b39 K20 (f7_cure_l39 K20 n) x1 x2 x3 x4 x5 σ
def f7_cure_b20 (K20 : Int32 → Int32 → Int32 → MS → oI Int32) (x1 : Int32) (x2 : Int32) (x3 : Int32) (σ : MS) : oI Int32 :=
  bnd (f7_cells σ) fun r7 σ6 =>
  if r7 ≤ x3 then (some (x2, σ6)) else (grd (inB x3 3) <|
  nxt (gA σ6 15 x3.toNatClampNeg) fun v10 =>
  f7_cure_l39 K20 FU x1 x2 x3 v10 0 σ6)
def f7_cure_l20 : Nat → Int32 → Int32 → Int32 → MS → oI Int32
  | 0 => fun _ _ _ _ => none
  | n + 1 => fun x1 x2 x3 σ => f7_cure_b20 (f7_cure_l20 n) x1 x2 x3 σ
def f7_cure (σ : MS) : oI Int32 :=
  bnd (f7_asks σ) fun r2 σ1 =>
  if r2 = 0 then (some ((-2), σ1)) else (bnd (f7_breaksIn 1 σ1) fun r5 σ4 =>
  f7_cure_l20 FU r5 (-1) 0 σ4)
abbrev r7_cure : Room := { frames := 7, cells := 0, slots := 0, locals := 164 }
theorem m7_cure (l : Launch) (D : va_G) (cl : vC2) (Z : (Nat → Prop) → State → Heap → Prop) (hz : ZK Z) (ci : Nat) (A : Nat → Nat) (d : Nat → ClassId) (tm : List (ClassId × FieldType)) (hc : cl.1[ci]? = some (RX7, TX7, 42)) (σ : MS) (r : Int32) (σ' : MS) (hf : f7_cure σ = some (r, σ')) : MMi l yX7_cure (ws_ yX7_cure cX7_cure 7 (some .int)) r7_cure D cl Z ci A d tm σ [] r σ' := by
  refine m_openi hz (by decide) (by exact Nat.le_of_ble_eq_true rfl) (fun p e s m args below meth c ls A0 Q X hI hl hret => ?_)
  have X : XC p s m args meth c cX7_cure 7 RX7 D cl (mty d tm) A0 Z := X
  have hx := X.1
  have hb := X.2.1
  have hown := X.2.2.2.1
  have hts := X.2.2.2.2.1
  have L20 : ∀ (n : Nat) (x1 : Int32) (x2 : Int32) (x3 : Int32) (σ : MS), f7_cure_l20 n x1 x2 x3 σ = some (r, σ') → ∀ (H : Heap) (locs : List Loc), XI D cl (mw ci A d σ) A0 s.heap H locs → ∀ (ls : Array Slot), lv_has ls 7 [(0, .ref (A 0)), (1, .int x1), (2, .int x2), (3, .int x3)] → W p l e r7_cure s m args below meth c H locs 0 0 Q (F0 m 20 ls []) := by
    intro n20
    induction n20 with
    | zero => intro x1 x2 x3 σ hf; cases hf
    | succ n20 ih20 =>
      have L39 : ∀ (n : Nat) (x1 : Int32) (x2 : Int32) (x3 : Int32) (x4 : Int32) (x5 : Int32) (σ : MS), f7_cure_l39 (f7_cure_l20 n20) n x1 x2 x3 x4 x5 σ = some (r, σ') → ∀ (H : Heap) (locs : List Loc), XI D cl (mw ci A d σ) A0 s.heap H locs → ∀ (ls : Array Slot), lv_has ls 7 [(0, .ref (A 0)), (1, .int x1), (2, .int x2), (3, .int x3), (4, .int x4), (5, .int x5)] → W p l e r7_cure s m args below meth c H locs 0 0 Q (F0 m 39 ls []) := by
        intro n39
        induction n39 with
        | zero => intro x1 x2 x3 x4 x5 σ hf; cases hf
        | succ n39 ih39 =>
          have J80 : ∀ (x1 : Int32) (x2 : Int32) (x3 : Int32) (x4 : Int32) (x5 : Int32) (σ : MS), f7_cure_b80 (f7_cure_l20 n20) (f7_cure_l39 (f7_cure_l20 n20) n39) x1 x2 x3 x4 x5 σ = some (r, σ') → ∀ (H : Heap) (locs : List Loc), XI D cl (mw ci A d σ) A0 s.heap H locs → ∀ (ls : Array Slot), lv_has ls 7 [(0, .ref (A 0)), (1, .int x1), (2, .int x2), (3, .int x3), (4, .int x4), (5, .int x5)] → W p l e r7_cure s m args below meth c H locs 0 0 Q (F0 m 80 ls []) := by
            intro x1 x2 x3 x4 x5 σ hf H locs hI ls hl
            unfold f7_cure_b80 at hf
            refine lv_iinc (v := x5 + 1) (lv' := [(5, .int (x5 + 1)), (0, .ref (A 0)), (1, .int x1), (2, .int x2), (3, .int x3), (4, .int x4)]) hx hb dX7_cure_80 hl (k := 5) rfl rfl (by decide) rfl (fun ls hl => ?_)
            refine lv_goto (tgt := 39) hx hb dX7_cure_83 (by decide) ?_
            exact ih39 x1 x2 x3 x4 (x5 + 1) σ hf H locs hI ls (lv_sub hl [1, 2, 3, 4, 5, 0] rfl)
          intro x1 x2 x3 x4 x5 σ hf H locs hI ls hl
          have hf : f7_cure_b39 (f7_cure_l20 n20) (f7_cure_l39 (f7_cure_l20 n20) n39) x1 x2 x3 x4 x5 σ = some (r, σ') := hf
          unfold f7_cure_b39 at hf
          refine lv_iload hx hb dX7_cure_39 (lv_at hl 5 rfl) ?_
          refine lv_iconst (v := 4) hx hb dX7_cure_41 (by decide) ?_
          refine lv_icmp_ge (tgt := 86) hx hb dX7_cure_42 (by decide) (fun c11 => ?_) (fun c11 => ?_)
          · have hf := o_pos hf c11
            refine lv_aload_n hx hb dX7_cure_86 rfl (lv_at hl 0 rfl) ?_
            refine m_get (v := .ref (A 15)) X hI hc 15 (by decide) q2673 rfl dX7_cure_87 ?_
            refine lv_iload_n hx hb dX7_cure_90 rfl (lv_at hl 3 rfl) ?_
            refine lv_iload hx hb dX7_cure_91 (lv_at hl 4 rfl) ?_
            obtain ⟨g12, hf⟩ := grd_some hf
            refine m_iast X hI 15 7 3 rfl rfl g12 rfl dX7_cure_93 (fun H locs hI => ?_)
            obtain ⟨σ13, eσ13, hf⟩ := nxt_some hf
            rw [← eσ13] at hI
            clear eσ13
            refine lv_iinc (v := x3 + 1) (lv' := [(3, .int (x3 + 1)), (0, .ref (A 0)), (1, .int x1), (2, .int x2), (4, .int x4), (5, .int x5)]) hx hb dX7_cure_94 hl (k := 3) rfl rfl (by decide) rfl (fun ls hl => ?_)
            refine lv_goto (tgt := 20) hx hb dX7_cure_97 (by decide) ?_
            exact ih20 x1 x2 (x3 + 1) σ13 hf H locs hI ls (lv_sub hl [1, 2, 3, 0] rfl)
          · have hf := o_neg hf c11
            refine lv_aload_n hx hb dX7_cure_45 rfl (lv_at hl 0 rfl) ?_
            refine m_get (v := .ref (A 15)) X hI hc 15 (by decide) q2673 rfl dX7_cure_46 ?_
            refine lv_iload_n hx hb dX7_cure_49 rfl (lv_at hl 3 rfl) ?_
            refine lv_iload hx hb dX7_cure_50 (lv_at hl 5 rfl) ?_
            obtain ⟨g14, hf⟩ := grd_some hf
            refine m_iast X hI 15 7 3 rfl rfl g14 rfl dX7_cure_52 (fun H locs hI => ?_)
            obtain ⟨σ15, eσ15, hf⟩ := nxt_some hf
            rw [← eσ15] at hI
            clear eσ15
            refine lv_aload_n hx hb dX7_cure_53 rfl (lv_at hl 0 rfl) ?_
            refine lv_iconst (v := 1) hx hb dX7_cure_54 (by decide) ?_
            obtain ⟨r17, σ16, hσ16, hf⟩ := bnd_some hf
            refine m_calli X hI hc [.int 1] (m7_breaksIn l D cl Z hz ci A d tm hc 1 σ15 r17 σ16 hσ16) (cw7_breaksIn hts ⟨Nat.le_of_ble_eq_true rfl, Nat.le_of_ble_eq_true rfl⟩) rfl hl.1 (Nat.le_of_ble_eq_true rfl) rfl dX7_cure_55 ⟨Nat.le_of_ble_eq_true rfl, Nat.le_of_ble_eq_true rfl⟩ (fun H locs hI => ?_)
            refine lv_istore (lv' := [(6, .int r17), (0, .ref (A 0)), (1, .int x1), (2, .int x2), (3, .int x3), (4, .int x4), (5, .int x5)]) hx hb dX7_cure_58 hl (by decide) rfl (fun ls hl => ?_)
            refine lv_iload hx hb dX7_cure_60 (lv_at hl 0 rfl) ?_
            refine lv_iload_n hx hb dX7_cure_62 rfl (lv_at hl 2 rfl) ?_
            refine lv_icmp_lt (tgt := 69) hx hb dX7_cure_63 (by decide) (fun c18 => ?_) (fun c18 => ?_)
            · have hf := o_pos hf c18
              refine lv_iload hx hb dX7_cure_69 (lv_at hl 0 rfl) ?_
              refine lv_istore_n (lv' := [(1, .int r17), (6, .int r17), (0, .ref (A 0)), (2, .int x2), (3, .int x3), (4, .int x4), (5, .int x5)]) hx hb dX7_cure_71 rfl hl (by decide) rfl (fun ls hl => ?_)
              refine lv_bipush (v := 10) hx hb dX7_cure_72 (by decide) ?_
              refine lv_iload_n hx hb dX7_cure_74 rfl (lv_at hl 4 rfl) ?_
              refine lv_imul hx hb dX7_cure_75 ?_
              refine lv_iload hx hb dX7_cure_76 (lv_at hl 6 rfl) ?_
              refine lv_iadd hx hb dX7_cure_78 ?_
              refine lv_istore_n (lv' := [(2, .int (((10 : Int32) * x3) + x5)), (1, .int r17), (6, .int r17), (0, .ref (A 0)), (3, .int x3), (4, .int x4), (5, .int x5)]) hx hb dX7_cure_79 rfl hl (by decide) rfl (fun ls hl => ?_)
              exact J80 r17 (((10 : Int32) * x3) + x5) x3 x4 x5 σ16 hf H locs hI ls (lv_sub hl [3, 1, 0, 4, 5, 6] rfl)
            · have hf := o_neg hf c18
              refine lv_goto (tgt := 80) hx hb dX7_cure_66 (by decide) ?_
              exact J80 x1 x2 x3 x4 x5 σ16 hf H locs hI ls (lv_sub hl [1, 2, 3, 4, 5, 6] rfl)
      intro x1 x2 x3 σ hf H locs hI ls hl
      have hf : f7_cure_b20 (f7_cure_l20 n20) x1 x2 x3 σ = some (r, σ') := hf
      unfold f7_cure_b20 at hf
      refine lv_iload_n hx hb dX7_cure_20 rfl (lv_at hl 3 rfl) ?_
      refine lv_aload_n hx hb dX7_cure_21 rfl (lv_at hl 0 rfl) ?_
      obtain ⟨r7, σ6, hσ6, hf⟩ := bnd_some hf
      refine m_calli X hI hc [] (m7_cells l D cl Z hz ci A d tm hc σ r7 σ6 hσ6) (cw7_cells hts ⟨Nat.le_of_ble_eq_true rfl, Nat.le_of_ble_eq_true rfl⟩) rfl hl.1 (Nat.le_of_ble_eq_true rfl) rfl dX7_cure_22 ⟨Nat.le_of_ble_eq_true rfl, Nat.le_of_ble_eq_true rfl⟩ (fun H locs hI => ?_)
      refine lv_icmp_ge (tgt := 100) hx hb dX7_cure_25 (by decide) (fun c8 => ?_) (fun c8 => ?_)
      · have hf := o_pos hf c8
        refine lv_iload_n hx hb dX7_cure_100 rfl (lv_at hl 2 rfl) ?_
        exact hret hf hI dX7_cure_101
      · have hf := o_neg hf c8
        refine lv_aload_n hx hb dX7_cure_28 rfl (lv_at hl 0 rfl) ?_
        refine m_get (v := .ref (A 15)) X hI hc 15 (by decide) q2673 rfl dX7_cure_29 ?_
        refine lv_iload_n hx hb dX7_cure_32 rfl (lv_at hl 3 rfl) ?_
        obtain ⟨g9, hf⟩ := grd_some hf
        refine m_iald X hI 15 7 3 rfl rfl g9 dX7_cure_33 ?_
        obtain ⟨v10, ev10, hf⟩ := nxt_some hf
        rw [← ev10]
        clear ev10
        refine lv_istore (lv' := [(4, .int v10), (0, .ref (A 0)), (1, .int x1), (2, .int x2), (3, .int x3)]) hx hb dX7_cure_34 hl (by decide) rfl (fun ls hl => ?_)
        refine lv_iconst (v := 0) hx hb dX7_cure_36 (by decide) ?_
        refine lv_istore (lv' := [(5, .int 0), (4, .int v10), (0, .ref (A 0)), (1, .int x1), (2, .int x2), (3, .int x3)]) hx hb dX7_cure_37 hl (by decide) rfl (fun ls hl => ?_)
        exact L39 FU x1 x2 x3 v10 0 σ6 hf H locs hI ls (lv_sub hl [2, 3, 4, 5, 1, 0] rfl)
  have hl : lv_has ls 7 [(0, .ref (A 0))] := hl
  unfold f7_cure at hf
  obtain ⟨H, eH⟩ : ∃ H, H = s.heap := ⟨_, rfl⟩
  obtain ⟨locs, eL⟩ : ∃ locs : List Loc, locs = [] := ⟨_, rfl⟩
  have hI : XI D cl (mw ci A d σ) A0 s.heap H locs := by rw [eH, eL]; exact hI
  rw [← eL]
  suffices h : W p l e r7_cure s m args below meth c H locs 0 0 Q (F0 m 0 ls []) by rw [eH] at h; exact h
  clear eH eL
  refine lv_aload_n hx hb dX7_cure_0 rfl (lv_at hl 0 rfl) ?_
  obtain ⟨r2, σ1, hσ1, hf⟩ := bnd_some hf
  refine m_calli X hI hc [] (m7_asks l D cl Z hz ci A d tm hc σ r2 σ1 hσ1) (cw7_asks hts ⟨Nat.le_of_ble_eq_true rfl, Nat.le_of_ble_eq_true rfl⟩) rfl hl.1 (Nat.le_of_ble_eq_true rfl) rfl dX7_cure_1 ⟨Nat.le_of_ble_eq_true rfl, Nat.le_of_ble_eq_true rfl⟩ (fun H locs hI => ?_)
  refine lv_if_ne (tgt := 10) hx hb dX7_cure_4 (by decide) (fun c3 => ?_) (fun c3 => ?_)
  · have hf := o_neg hf c3
    refine lv_aload_n hx hb dX7_cure_10 rfl (lv_at hl 0 rfl) ?_
    refine lv_iconst (v := 1) hx hb dX7_cure_11 (by decide) ?_
    obtain ⟨r5, σ4, hσ4, hf⟩ := bnd_some hf
    refine m_calli X hI hc [.int 1] (m7_breaksIn l D cl Z hz ci A d tm hc 1 σ1 r5 σ4 hσ4) (cw7_breaksIn hts ⟨Nat.le_of_ble_eq_true rfl, Nat.le_of_ble_eq_true rfl⟩) rfl hl.1 (Nat.le_of_ble_eq_true rfl) rfl dX7_cure_12 ⟨Nat.le_of_ble_eq_true rfl, Nat.le_of_ble_eq_true rfl⟩ (fun H locs hI => ?_)
    refine lv_istore_n (lv' := [(1, .int r5), (0, .ref (A 0))]) hx hb dX7_cure_15 rfl hl (by decide) rfl (fun ls hl => ?_)
    refine lv_iconst (v := -1) hx hb dX7_cure_16 (by decide) ?_
    refine lv_istore_n (lv' := [(2, .int (-1)), (1, .int r5), (0, .ref (A 0))]) hx hb dX7_cure_17 rfl hl (by decide) rfl (fun ls hl => ?_)
    refine lv_iconst (v := 0) hx hb dX7_cure_18 (by decide) ?_
    refine lv_istore_n (lv' := [(3, .int 0), (2, .int (-1)), (1, .int r5), (0, .ref (A 0))]) hx hb dX7_cure_19 rfl hl (by decide) rfl (fun ls hl => ?_)
    exact L20 FU r5 (-1) 0 σ4 hf H locs hI ls (lv_sub hl [3, 2, 1, 0] rfl)
  · have hf := o_pos hf c3
    refine lv_bipush (v := -2) hx hb dX7_cure_7 (by decide) ?_
    exact hret hf hI dX7_cure_9
/-! isSlot -/
def f7_isSlot (p0 : Int32) : Option Int32 :=
  bn1 (f7_in p0.toInt64 0 3) fun r1 =>
  grd (bZ r1) <|
  some r1
abbrev r7_isSlot : Room := { frames := 1, cells := 0, slots := 0, locals := 25 }
theorem cw7_isSlot {R : Room} {s : State} {args : Array Value} (ht : ∀ w ∈ lw_all, w.before args s = true) (hR : r7_isSlot.frames + 1 ≤ R.frames ∧ 8 + (1 + 11) + r7_isSlot.locals ≤ R.locals) : CallB R s args RX7 430 yX7_isSlot cX7_isSlot 1 (some .boolean) (ws_ yX7_isSlot cX7_isSlot 1 (some .boolean)) r7_isSlot 0 0 1 ∧ (Cond.static yX7_isSlot).before args s = true :=
  va_cwS 1 ht (lw_S q3339 q3340 q178 q3341) rfl rfl rfl (by decide +kernel) hR
theorem m7_isSlot (l : Launch) (p0 : Int32) (r : Int32) (hf : f7_isSlot p0 = some r) : XPi l yX7_isSlot (ws_ yX7_isSlot cX7_isSlot 1 (some .boolean)) r7_isSlot [.int p0] r := by
  refine s_openz (by decide) (by exact Nat.le_of_ble_eq_true rfl) (fun p e s m args below meth c ls A0 Q D cl tys X hI hl hret => ?_)
  have X : XC p s m args meth c cX7_isSlot 1 RX7 D cl tys A0 ZT := X
  have hx := X.1
  have hb := X.2.1
  have hown := X.2.2.2.1
  have hts := X.2.2.2.2.1
  have hl : lv_has ls 1 [(0, .int p0)] := hl
  unfold f7_isSlot at hf
  obtain ⟨H, eH⟩ : ∃ H, H = s.heap := ⟨_, rfl⟩
  obtain ⟨locs, eL⟩ : ∃ locs : List Loc, locs = [] := ⟨_, rfl⟩
  have hI : XI D cl [] A0 s.heap H locs := by rw [eH, eL]; exact hI
  rw [← eL]
  suffices h : W p l e r7_isSlot s m args below meth c H locs 0 0 Q (F0 m 0 ls []) by rw [eH] at h; exact h
  clear eH eL
  refine lv_iload_n hx hb dX7_isSlot_0 rfl (lv_at hl 0 rfl) ?_
  refine lv_i2l hx hb dX7_isSlot_1 rfl ?_
  refine lv_lconst (v := 0) hx hb dX7_isSlot_2 (by decide) ?_
  refine lv_ldc2 (v := 3) hx hb hown (hts _ q2974) dX7_isSlot_3 ?_
  obtain ⟨r1, hr1, hf⟩ := bn1_some hf
  refine x_callSi (As := [.long p0.toInt64, .long 0, .long 3]) X hI (m7_in l p0.toInt64 0 3 r1 hr1) (cw7_in hts ⟨Nat.le_of_ble_eq_true rfl, Nat.le_of_ble_eq_true rfl⟩) rfl hl.1 (Nat.le_of_ble_eq_true rfl) rfl dX7_isSlot_6 ⟨Nat.le_of_ble_eq_true rfl, Nat.le_of_ble_eq_true rfl⟩ (fun H locs hI => ?_)
  obtain ⟨g2, hf⟩ := grd_some hf
  exact hret hf g2 hI dX7_isSlot_9
/-! numberAt -/
def f7_numberAt (p0 : Int32) (p1 : Int32) (σ : MS) : oI Int64 :=
  grd (inB (((60 : Int32) * p0) + p1) 240) <|
  some (gB σ 40 (((60 : Int32) * p0) + p1).toNatClampNeg, σ)
abbrev r7_numberAt : Room := { frames := 0, cells := 0, slots := 0, locals := 0 }
theorem cw7_numberAt {R : Room} {s : State} {args : Array Value} (ht : ∀ w ∈ lw_all, w.before args s = true) (hR : r7_numberAt.frames + 1 ≤ R.frames ∧ 8 + (3 + 11) + r7_numberAt.locals ≤ R.locals) : CallW R s args RX7 RX7 433 yX7_numberAt cX7_numberAt 3 (some .long) (ws_ yX7_numberAt cX7_numberAt 3 (some .long)) r7_numberAt 0 0 2 :=
  cwV 2 ht (lw_V q3342 q3344 qs156 q178 q3345) rfl rfl rfl (by decide +kernel) hR
theorem m7_numberAt (l : Launch) (D : va_G) (cl : vC2) (Z : (Nat → Prop) → State → Heap → Prop) (hz : ZK Z) (ci : Nat) (A : Nat → Nat) (d : Nat → ClassId) (tm : List (ClassId × FieldType)) (hc : cl.1[ci]? = some (RX7, TX7, 42)) (p0 : Int32) (p1 : Int32) (σ : MS) (r : Int64) (σ' : MS) (hf : f7_numberAt p0 p1 σ = some (r, σ')) : MMl l yX7_numberAt (ws_ yX7_numberAt cX7_numberAt 3 (some .long)) r7_numberAt D cl Z ci A d tm σ [.int p0, .int p1] r σ' := by
  refine m_openl hz (by decide) (by exact Nat.le_of_ble_eq_true rfl) (fun p e s m args below meth c ls A0 Q X hI hl hret => ?_)
  have X : XC p s m args meth c cX7_numberAt 3 RX7 D cl (mty d tm) A0 Z := X
  have hx := X.1
  have hb := X.2.1
  have hown := X.2.2.2.1
  have hts := X.2.2.2.2.1
  have hl : lv_has ls 3 [(0, .ref (A 0)), (1, .int p0), (2, .int p1)] := hl
  unfold f7_numberAt at hf
  obtain ⟨H, eH⟩ : ∃ H, H = s.heap := ⟨_, rfl⟩
  obtain ⟨locs, eL⟩ : ∃ locs : List Loc, locs = [] := ⟨_, rfl⟩
  have hI : XI D cl (mw ci A d σ) A0 s.heap H locs := by rw [eH, eL]; exact hI
  rw [← eL]
  suffices h : W p l e r7_numberAt s m args below meth c H locs 0 0 Q (F0 m 0 ls []) by rw [eH] at h; exact h
  clear eH eL
  refine lv_aload_n hx hb dX7_numberAt_0 rfl (lv_at hl 0 rfl) ?_
  refine m_get (v := .ref (A 40)) X hI hc 40 (by decide) q2698 rfl dX7_numberAt_1 ?_
  refine lv_bipush (v := 60) hx hb dX7_numberAt_4 (by decide) ?_
  refine lv_iload_n hx hb dX7_numberAt_6 rfl (lv_at hl 1 rfl) ?_
  refine lv_imul hx hb dX7_numberAt_7 ?_
  refine lv_iload_n hx hb dX7_numberAt_8 rfl (lv_at hl 2 rfl) ?_
  refine lv_iadd hx hb dX7_numberAt_9 ?_
  obtain ⟨g1, hf⟩ := grd_some hf
  refine m_lald X hI 40 17 240 rfl rfl g1 dX7_numberAt_10 ?_
  exact hret hf hI dX7_numberAt_11
/-! askSeen -/
def f7_askSeen_b46 (K46 : Int32 → Int32 → MS → oI Int32) (x1 : Int32) (x2 : Int32) (σ : MS) : oI Int32 :=
  grd (inB x1 4) <|
  if (gA σ 38 x1.toNatClampNeg) ≤ x2 then (bnd (f7_asks σ) fun r13 σ12 =>
  some (0, σ12)) else (bnd (f7_numberAt x1 x2 σ) fun r15 σ14 =>
  bnd (f7_isState r15 σ14) fun r17 σ16 =>
  if r17 = 0 then (some ((-2), σ16)) else (K46 x1 (x2 + 1) σ16))
def f7_askSeen_l46 : Nat → Int32 → Int32 → MS → oI Int32
  | 0 => fun _ _ _ => none
  | n + 1 => fun x1 x2 σ => f7_askSeen_b46 (f7_askSeen_l46 n) x1 x2 σ
def f7_askSeen (p0 : Int32) (σ : MS) : oI Int32 :=
  bn1 (f7_isSlot p0) fun r1 =>
  if r1 = 0 then (some ((-2), σ)) else (bnd (f7_isBase σ) fun r4 σ3 =>
  if r4 = 0 then (some ((-2), σ3)) else (grd (inB p0 4) <|
  if (gA σ3 38 p0.toNatClampNeg) = (-1) then (some ((-6), σ3)) else (grd (inB p0 4) <|
  if ((gA σ3 38 p0.toNatClampNeg) - (gA σ3 38 p0.toNatClampNeg) / 3 * 3) = 0 then (f7_askSeen_l46 FU p0 0 σ3) else (some ((-2), σ3)))))
abbrev r7_askSeen : Room := { frames := 6, cells := 0, slots := 0, locals := 140 }
theorem cw7_askSeen {R : Room} {s : State} {args : Array Value} (ht : ∀ w ∈ lw_all, w.before args s = true) (hR : r7_askSeen.frames + 1 ≤ R.frames ∧ 8 + (3 + 11) + r7_askSeen.locals ≤ R.locals) : CallW R s args RX7 RX7 443 yX7_askSeen cX7_askSeen 3 (some .int) (ws_ yX7_askSeen cX7_askSeen 3 (some .int)) r7_askSeen 0 0 1 :=
  cwV 1 ht (lw_V q3335 q3337 qs155 q178 q3338) rfl rfl rfl (by decide +kernel) hR
theorem m7_askSeen (l : Launch) (D : va_G) (cl : vC2) (Z : (Nat → Prop) → State → Heap → Prop) (hz : ZK Z) (ci : Nat) (A : Nat → Nat) (d : Nat → ClassId) (tm : List (ClassId × FieldType)) (hc : cl.1[ci]? = some (RX7, TX7, 42)) (p0 : Int32) (σ : MS) (r : Int32) (σ' : MS) (hf : f7_askSeen p0 σ = some (r, σ')) : MMi l yX7_askSeen (ws_ yX7_askSeen cX7_askSeen 3 (some .int)) r7_askSeen D cl Z ci A d tm σ [.int p0] r σ' := by
  refine m_openi hz (by decide) (by exact Nat.le_of_ble_eq_true rfl) (fun p e s m args below meth c ls A0 Q X hI hl hret => ?_)
  have X : XC p s m args meth c cX7_askSeen 3 RX7 D cl (mty d tm) A0 Z := X
  have hx := X.1
  have hb := X.2.1
  have hown := X.2.2.2.1
  have hts := X.2.2.2.2.1
  have L46 : ∀ (n : Nat) (x1 : Int32) (x2 : Int32) (σ : MS), f7_askSeen_l46 n x1 x2 σ = some (r, σ') → ∀ (H : Heap) (locs : List Loc), XI D cl (mw ci A d σ) A0 s.heap H locs → ∀ (ls : Array Slot), lv_has ls 3 [(0, .ref (A 0)), (1, .int x1), (2, .int x2)] → W p l e r7_askSeen s m args below meth c H locs 0 0 Q (F0 m 46 ls []) := by
    intro n46
    induction n46 with
    | zero => intro x1 x2 σ hf; cases hf
    | succ n46 ih46 =>
      intro x1 x2 σ hf H locs hI ls hl
      have hf : f7_askSeen_b46 (f7_askSeen_l46 n46) x1 x2 σ = some (r, σ') := hf
      unfold f7_askSeen_b46 at hf
      refine lv_iload_n hx hb dX7_askSeen_46 rfl (lv_at hl 2 rfl) ?_
      refine lv_aload_n hx hb dX7_askSeen_47 rfl (lv_at hl 0 rfl) ?_
      refine m_get (v := .ref (A 38)) X hI hc 38 (by decide) q2696 rfl dX7_askSeen_48 ?_
      refine lv_iload_n hx hb dX7_askSeen_51 rfl (lv_at hl 1 rfl) ?_
      obtain ⟨g10, hf⟩ := grd_some hf
      refine m_iald X hI 38 15 4 rfl rfl g10 dX7_askSeen_52 ?_
      refine lv_icmp_ge (tgt := 78) hx hb dX7_askSeen_53 (by decide) (fun c11 => ?_) (fun c11 => ?_)
      · have hf := o_pos hf c11
        refine lv_aload_n hx hb dX7_askSeen_78 rfl (lv_at hl 0 rfl) ?_
        obtain ⟨r13, σ12, hσ12, hf⟩ := bnd_some hf
        refine m_calli X hI hc [] (m7_asks l D cl Z hz ci A d tm hc σ r13 σ12 hσ12) (cw7_asks hts ⟨Nat.le_of_ble_eq_true rfl, Nat.le_of_ble_eq_true rfl⟩) rfl hl.1 (Nat.le_of_ble_eq_true rfl) rfl dX7_askSeen_79 ⟨Nat.le_of_ble_eq_true rfl, Nat.le_of_ble_eq_true rfl⟩ (fun H locs hI => ?_)
        refine lv_pop hx hb dX7_askSeen_82 rfl ?_
        refine lv_iconst (v := 0) hx hb dX7_askSeen_83 (by decide) ?_
        exact hret hf hI dX7_askSeen_84
      · have hf := o_neg hf c11
        refine lv_aload_n hx hb dX7_askSeen_56 rfl (lv_at hl 0 rfl) ?_
        refine lv_aload_n hx hb dX7_askSeen_57 rfl (lv_at hl 0 rfl) ?_
        refine lv_iload_n hx hb dX7_askSeen_58 rfl (lv_at hl 1 rfl) ?_
        refine lv_iload_n hx hb dX7_askSeen_59 rfl (lv_at hl 2 rfl) ?_
        obtain ⟨r15, σ14, hσ14, hf⟩ := bnd_some hf
        refine m_calll X hI hc [.int x1, .int x2] (m7_numberAt l D cl Z hz ci A d tm hc x1 x2 σ r15 σ14 hσ14) (cw7_numberAt hts ⟨Nat.le_of_ble_eq_true rfl, Nat.le_of_ble_eq_true rfl⟩) rfl hl.1 (Nat.le_of_ble_eq_true rfl) rfl dX7_askSeen_60 ⟨Nat.le_of_ble_eq_true rfl, Nat.le_of_ble_eq_true rfl⟩ (fun H locs hI => ?_)
        obtain ⟨r17, σ16, hσ16, hf⟩ := bnd_some hf
        refine m_calli X hI hc [.long r15] (m7_isState l D cl Z hz ci A d tm hc r15 σ14 r17 σ16 hσ16) (cw7_isState hts ⟨Nat.le_of_ble_eq_true rfl, Nat.le_of_ble_eq_true rfl⟩) rfl hl.1 (Nat.le_of_ble_eq_true rfl) rfl dX7_askSeen_63 ⟨Nat.le_of_ble_eq_true rfl, Nat.le_of_ble_eq_true rfl⟩ (fun H locs hI => ?_)
        refine lv_if_ne (tgt := 72) hx hb dX7_askSeen_66 (by decide) (fun c18 => ?_) (fun c18 => ?_)
        · have hf := o_neg hf c18
          refine lv_iinc (v := x2 + 1) (lv' := [(2, .int (x2 + 1)), (0, .ref (A 0)), (1, .int x1)]) hx hb dX7_askSeen_72 hl (k := 2) rfl rfl (by decide) rfl (fun ls hl => ?_)
          refine lv_goto (tgt := 46) hx hb dX7_askSeen_75 (by decide) ?_
          exact ih46 x1 (x2 + 1) σ16 hf H locs hI ls (lv_sub hl [1, 2, 0] rfl)
        · have hf := o_pos hf c18
          refine lv_bipush (v := -2) hx hb dX7_askSeen_69 (by decide) ?_
          exact hret hf hI dX7_askSeen_71
  have hl : lv_has ls 3 [(0, .ref (A 0)), (1, .int p0)] := hl
  unfold f7_askSeen at hf
  obtain ⟨H, eH⟩ : ∃ H, H = s.heap := ⟨_, rfl⟩
  obtain ⟨locs, eL⟩ : ∃ locs : List Loc, locs = [] := ⟨_, rfl⟩
  have hI : XI D cl (mw ci A d σ) A0 s.heap H locs := by rw [eH, eL]; exact hI
  rw [← eL]
  suffices h : W p l e r7_askSeen s m args below meth c H locs 0 0 Q (F0 m 0 ls []) by rw [eH] at h; exact h
  clear eH eL
  refine lv_iload_n hx hb dX7_askSeen_0 rfl (lv_at hl 1 rfl) ?_
  obtain ⟨r1, hr1, hf⟩ := bn1_some hf
  refine x_callSi (As := [.int p0]) X hI (m7_isSlot l p0 r1 hr1) (cw7_isSlot hts ⟨Nat.le_of_ble_eq_true rfl, Nat.le_of_ble_eq_true rfl⟩) rfl hl.1 (Nat.le_of_ble_eq_true rfl) rfl dX7_askSeen_1 ⟨Nat.le_of_ble_eq_true rfl, Nat.le_of_ble_eq_true rfl⟩ (fun H locs hI => ?_)
  refine lv_if_eq (tgt := 14) hx hb dX7_askSeen_4 (by decide) (fun c2 => ?_) (fun c2 => ?_)
  · have hf := o_pos hf c2
    refine lv_bipush (v := -2) hx hb dX7_askSeen_14 (by decide) ?_
    exact hret hf hI dX7_askSeen_16
  · have hf := o_neg hf c2
    refine lv_aload_n hx hb dX7_askSeen_7 rfl (lv_at hl 0 rfl) ?_
    obtain ⟨r4, σ3, hσ3, hf⟩ := bnd_some hf
    refine m_calli X hI hc [] (m7_isBase l D cl Z hz ci A d tm hc σ r4 σ3 hσ3) (cw7_isBase hts ⟨Nat.le_of_ble_eq_true rfl, Nat.le_of_ble_eq_true rfl⟩) rfl hl.1 (Nat.le_of_ble_eq_true rfl) rfl dX7_askSeen_8 ⟨Nat.le_of_ble_eq_true rfl, Nat.le_of_ble_eq_true rfl⟩ (fun H locs hI => ?_)
    refine lv_if_ne (tgt := 17) hx hb dX7_askSeen_11 (by decide) (fun c5 => ?_) (fun c5 => ?_)
    · have hf := o_neg hf c5
      refine lv_aload_n hx hb dX7_askSeen_17 rfl (lv_at hl 0 rfl) ?_
      refine m_get (v := .ref (A 38)) X hI hc 38 (by decide) q2696 rfl dX7_askSeen_18 ?_
      refine lv_iload_n hx hb dX7_askSeen_21 rfl (lv_at hl 1 rfl) ?_
      obtain ⟨g6, hf⟩ := grd_some hf
      refine m_iald X hI 38 15 4 rfl rfl g6 dX7_askSeen_22 ?_
      refine lv_iconst (v := -1) hx hb dX7_askSeen_23 (by decide) ?_
      refine lv_icmp_ne (tgt := 30) hx hb dX7_askSeen_24 (by decide) (fun c7 => ?_) (fun c7 => ?_)
      · have hf := o_neg hf c7
        refine lv_aload_n hx hb dX7_askSeen_30 rfl (lv_at hl 0 rfl) ?_
        refine m_get (v := .ref (A 38)) X hI hc 38 (by decide) q2696 rfl dX7_askSeen_31 ?_
        refine lv_iload_n hx hb dX7_askSeen_34 rfl (lv_at hl 1 rfl) ?_
        obtain ⟨g8, hf⟩ := grd_some hf
        refine m_iald X hI 38 15 4 rfl rfl g8 dX7_askSeen_35 ?_
        refine lv_iconst (v := 3) hx hb dX7_askSeen_36 (by decide) ?_
        refine lv_irem hx hb dX7_askSeen_37 (by decide) ?_
        refine lv_if_eq (tgt := 44) hx hb dX7_askSeen_38 (by decide) (fun c9 => ?_) (fun c9 => ?_)
        · have hf := o_pos hf c9
          refine lv_iconst (v := 0) hx hb dX7_askSeen_44 (by decide) ?_
          refine lv_istore_n (lv' := [(2, .int 0), (0, .ref (A 0)), (1, .int p0)]) hx hb dX7_askSeen_45 rfl hl (by decide) rfl (fun ls hl => ?_)
          exact L46 FU p0 0 σ3 hf H locs hI ls (lv_sub hl [1, 2, 0] rfl)
        · have hf := o_neg hf c9
          refine lv_bipush (v := -2) hx hb dX7_askSeen_41 (by decide) ?_
          exact hret hf hI dX7_askSeen_43
      · have hf := o_pos hf c7
        refine lv_bipush (v := -6) hx hb dX7_askSeen_27 (by decide) ?_
        exact hret hf hI dX7_askSeen_29
    · have hf := o_pos hf c5
      refine lv_bipush (v := -2) hx hb dX7_askSeen_14 (by decide) ?_
      exact hret hf hI dX7_askSeen_16
/-! layFits -/
def f7_layFits_b123 (K12 : Int32 → Int32 → MS → Option MS) (x1 : Int32) (x2 : Int32) (σ : MS) : Option MS :=
  K12 x1 (x2 + 1) σ
def f7_layFits_b113 (K12 : Int32 → Int32 → MS → Option MS) (x1 : Int32) (x2 : Int32) (σ : MS) : Option MS :=
  nxt (sI σ 32 ((gI σ 32) + 1)) fun σ23 =>
  f7_layFits_b123 K12 x1 x2 σ23
def f7_layFits_b94 (K12 : Int32 → Int32 → MS → Option MS) (x1 : Int32) (x2 : Int32) (x3 : Int32) (σ : MS) : Option MS :=
  if x3 = 0 then (f7_layFits_b123 K12 x1 x2 σ) else (if (gI σ 32) = 0 then (nxt (sI σ 33 x2) fun σ22 =>
  f7_layFits_b113 K12 x1 x2 σ22) else (f7_layFits_b113 K12 x1 x2 σ))
def f7_layFits_b87 (K12 : Int32 → Int32 → MS → Option MS) (K30 : Int32 → Int32 → Int32 → Int32 → MS → Option MS) (x1 : Int32) (x2 : Int32) (x4 : Int32) (z0 : Int32) (σ : MS) : Option MS :=
  K30 x1 x2 z0 (x4 + 3) σ
def f7_layFits_b30 (K12 : Int32 → Int32 → MS → Option MS) (K30 : Int32 → Int32 → Int32 → Int32 → MS → Option MS) (x1 : Int32) (x2 : Int32) (x3 : Int32) (x4 : Int32) (σ : MS) : Option MS :=
  grd (inB x1 4) <|
  if (gA σ 38 x1.toNatClampNeg) ≤ x4 then (f7_layFits_b94 K12 x1 x2 x3 σ) else (if x3 = 0 then (f7_layFits_b94 K12 x1 x2 x3 σ) else (bnd (f7_numberAt x1 x4 σ) fun r12 σ11 =>
  bnd (f7_numberAt x1 (x4 + 1) σ11) fun r14 σ13 =>
  bnd (f7_mergeOf x2 r12.toInt32 r14.toInt32 σ13) fun r16 σ15 =>
  bnd (f7_numberAt x1 (x4 + 2) σ15) fun r18 σ17 =>
  if (lg_cmp r16.toInt64 r18) = 0 then (f7_layFits_b87 K12 K30 x1 x2 x4 1 σ17) else (f7_layFits_b87 K12 K30 x1 x2 x4 0 σ17)))
def f7_layFits_l30 (K12 : Int32 → Int32 → MS → Option MS) : Nat → Int32 → Int32 → Int32 → Int32 → MS → Option MS
  | 0 => fun _ _ _ _ _ => none
  | n + 1 => fun x1 x2 x3 x4 σ => f7_layFits_b30 K12 (f7_layFits_l30 K12 n) x1 x2 x3 x4 σ
def f7_layFits_b12 (K12 : Int32 → Int32 → MS → Option MS) (x1 : Int32) (x2 : Int32) (σ : MS) : Option MS :=
  bnd (f7_stateMany σ) fun r4 σ3 =>
  if r4 ≤ x2 then (some σ3) else (grd (inB x2 64) <|
  nxt (gA σ3 19 x2.toNatClampNeg) fun v7 =>
  f7_layFits_l30 K12 FU x1 x2 v7 0 σ3)
def f7_layFits_l12 : Nat → Int32 → Int32 → MS → Option MS
  | 0 => fun _ _ _ => none
  | n + 1 => fun x1 x2 σ => f7_layFits_b12 (f7_layFits_l12 n) x1 x2 σ
def f7_layFits (p0 : Int32) (σ : MS) : Option MS :=
  nxt (sI σ 32 0) fun σ1 =>
  nxt (sI σ1 33 (-1)) fun σ2 =>
  f7_layFits_l12 FU p0 0 σ2
abbrev r7_layFits : Room := { frames := 4, cells := 0, slots := 0, locals := 93 }
theorem cw7_layFits {R : Room} {s : State} {args : Array Value} (ht : ∀ w ∈ lw_all, w.before args s = true) (hR : r7_layFits.frames + 1 ≤ R.frames ∧ 8 + (5 + 11) + r7_layFits.locals ≤ R.locals) : CallW R s args RX7 RX7 446 yX7_layFits cX7_layFits 5 none (ws_ yX7_layFits cX7_layFits 5 none) r7_layFits 0 0 1 :=
  cwV 1 ht (lw_V q3346 q3348 qs157 q178 q3349) rfl rfl rfl (by decide +kernel) hR
theorem m7_layFits (l : Launch) (D : va_G) (cl : vC2) (Z : (Nat → Prop) → State → Heap → Prop) (hz : ZK Z) (ci : Nat) (A : Nat → Nat) (d : Nat → ClassId) (tm : List (ClassId × FieldType)) (hc : cl.1[ci]? = some (RX7, TX7, 42)) (p0 : Int32) (σ : MS) (σ' : MS) (hf : f7_layFits p0 σ = some σ') : MMv l yX7_layFits (ws_ yX7_layFits cX7_layFits 5 none) r7_layFits D cl Z ci A d tm σ [.int p0] σ' := by
  refine m_openv hz (by decide) (by exact Nat.le_of_ble_eq_true rfl) (fun p e s m args below meth c ls A0 Q X hI hl hret => ?_)
  have X : XC p s m args meth c cX7_layFits 5 RX7 D cl (mty d tm) A0 Z := X
  have hx := X.1
  have hb := X.2.1
  have hown := X.2.2.2.1
  have hts := X.2.2.2.2.1
  have L12 : ∀ (n : Nat) (x1 : Int32) (x2 : Int32) (σ : MS), f7_layFits_l12 n x1 x2 σ = some σ' → ∀ (H : Heap) (locs : List Loc), XI D cl (mw ci A d σ) A0 s.heap H locs → ∀ (ls : Array Slot), lv_has ls 5 [(0, .ref (A 0)), (1, .int x1), (2, .int x2)] → W p l e r7_layFits s m args below meth c H locs 0 0 Q (F0 m 12 ls []) := by
    intro n12
    induction n12 with
    | zero => intro x1 x2 σ hf; cases hf
    | succ n12 ih12 =>
      have J123 : ∀ (x1 : Int32) (x2 : Int32) (σ : MS), f7_layFits_b123 (f7_layFits_l12 n12) x1 x2 σ = some σ' → ∀ (H : Heap) (locs : List Loc), XI D cl (mw ci A d σ) A0 s.heap H locs → ∀ (ls : Array Slot), lv_has ls 5 [(0, .ref (A 0)), (1, .int x1), (2, .int x2)] → W p l e r7_layFits s m args below meth c H locs 0 0 Q (F0 m 123 ls []) := by
        intro x1 x2 σ hf H locs hI ls hl
        unfold f7_layFits_b123 at hf
        refine lv_iinc (v := x2 + 1) (lv' := [(2, .int (x2 + 1)), (0, .ref (A 0)), (1, .int x1)]) hx hb dX7_layFits_123 hl (k := 2) rfl rfl (by decide) rfl (fun ls hl => ?_)
        refine lv_goto (tgt := 12) hx hb dX7_layFits_126 (by decide) ?_
        exact ih12 x1 (x2 + 1) σ hf H locs hI ls (lv_sub hl [1, 2, 0] rfl)
      have J113 : ∀ (x1 : Int32) (x2 : Int32) (σ : MS), f7_layFits_b113 (f7_layFits_l12 n12) x1 x2 σ = some σ' → ∀ (H : Heap) (locs : List Loc), XI D cl (mw ci A d σ) A0 s.heap H locs → ∀ (ls : Array Slot), lv_has ls 5 [(0, .ref (A 0)), (1, .int x1), (2, .int x2)] → W p l e r7_layFits s m args below meth c H locs 0 0 Q (F0 m 113 ls []) := by
        intro x1 x2 σ hf H locs hI ls hl
        unfold f7_layFits_b113 at hf
        refine lv_aload_n hx hb dX7_layFits_113 rfl (lv_at hl 0 rfl) ?_
        refine lv_dup hx hb dX7_layFits_114 rfl ?_
        refine m_get (v := .int (gI σ 32)) X hI hc 32 (by decide) q2690 rfl dX7_layFits_115 ?_
        refine lv_iconst (v := 1) hx hb dX7_layFits_118 (by decide) ?_
        refine lv_iadd hx hb dX7_layFits_119 ?_
        refine m_puti X hI hc 32 (by decide) q2690 rfl rfl rfl dX7_layFits_120 (fun H locs hI => ?_)
        obtain ⟨σ23, eσ23, hf⟩ := nxt_some hf
        rw [← eσ23] at hI
        clear eσ23
        exact J123 x1 x2 σ23 hf H locs hI ls (lv_sub hl [0, 1, 2] rfl)
      have J94 : ∀ (x1 : Int32) (x2 : Int32) (x3 : Int32) (σ : MS), f7_layFits_b94 (f7_layFits_l12 n12) x1 x2 x3 σ = some σ' → ∀ (H : Heap) (locs : List Loc), XI D cl (mw ci A d σ) A0 s.heap H locs → ∀ (ls : Array Slot), lv_has ls 5 [(0, .ref (A 0)), (1, .int x1), (2, .int x2), (3, .int x3)] → W p l e r7_layFits s m args below meth c H locs 0 0 Q (F0 m 94 ls []) := by
        intro x1 x2 x3 σ hf H locs hI ls hl
        unfold f7_layFits_b94 at hf
        refine lv_iload_n hx hb dX7_layFits_94 rfl (lv_at hl 3 rfl) ?_
        refine lv_if_ne (tgt := 101) hx hb dX7_layFits_95 (by decide) (fun c20 => ?_) (fun c20 => ?_)
        · have hf := o_neg hf c20
          refine lv_aload_n hx hb dX7_layFits_101 rfl (lv_at hl 0 rfl) ?_
          refine m_get (v := .int (gI σ 32)) X hI hc 32 (by decide) q2690 rfl dX7_layFits_102 ?_
          refine lv_if_ne (tgt := 113) hx hb dX7_layFits_105 (by decide) (fun c21 => ?_) (fun c21 => ?_)
          · have hf := o_neg hf c21
            exact J113 x1 x2 σ hf H locs hI ls (lv_sub hl [0, 1, 2] rfl)
          · have hf := o_pos hf c21
            refine lv_aload_n hx hb dX7_layFits_108 rfl (lv_at hl 0 rfl) ?_
            refine lv_iload_n hx hb dX7_layFits_109 rfl (lv_at hl 2 rfl) ?_
            refine m_puti X hI hc 33 (by decide) q2691 rfl rfl rfl dX7_layFits_110 (fun H locs hI => ?_)
            obtain ⟨σ22, eσ22, hf⟩ := nxt_some hf
            rw [← eσ22] at hI
            clear eσ22
            exact J113 x1 x2 σ22 hf H locs hI ls (lv_sub hl [0, 1, 2] rfl)
        · have hf := o_pos hf c20
          refine lv_goto (tgt := 123) hx hb dX7_layFits_98 (by decide) ?_
          exact J123 x1 x2 σ hf H locs hI ls (lv_sub hl [0, 1, 2] rfl)
      have L30 : ∀ (n : Nat) (x1 : Int32) (x2 : Int32) (x3 : Int32) (x4 : Int32) (σ : MS), f7_layFits_l30 (f7_layFits_l12 n12) n x1 x2 x3 x4 σ = some σ' → ∀ (H : Heap) (locs : List Loc), XI D cl (mw ci A d σ) A0 s.heap H locs → ∀ (ls : Array Slot), lv_has ls 5 [(0, .ref (A 0)), (1, .int x1), (2, .int x2), (3, .int x3), (4, .int x4)] → W p l e r7_layFits s m args below meth c H locs 0 0 Q (F0 m 30 ls []) := by
        intro n30
        induction n30 with
        | zero => intro x1 x2 x3 x4 σ hf; cases hf
        | succ n30 ih30 =>
          have J87 : ∀ (x1 : Int32) (x2 : Int32) (x4 : Int32) (z0 : Int32) (σ : MS), f7_layFits_b87 (f7_layFits_l12 n12) (f7_layFits_l30 (f7_layFits_l12 n12) n30) x1 x2 x4 z0 σ = some σ' → ∀ (H : Heap) (locs : List Loc), XI D cl (mw ci A d σ) A0 s.heap H locs → ∀ (ls : Array Slot), lv_has ls 5 [(0, .ref (A 0)), (1, .int x1), (2, .int x2), (4, .int x4)] → W p l e r7_layFits s m args below meth c H locs 0 0 Q (F0 m 87 ls [.int z0]) := by
            intro x1 x2 x4 z0 σ hf H locs hI ls hl
            unfold f7_layFits_b87 at hf
            refine lv_istore_n (lv' := [(3, .int z0), (0, .ref (A 0)), (1, .int x1), (2, .int x2), (4, .int x4)]) hx hb dX7_layFits_87 rfl hl (by decide) rfl (fun ls hl => ?_)
            refine lv_iinc (v := x4 + 3) (lv' := [(4, .int (x4 + 3)), (3, .int z0), (0, .ref (A 0)), (1, .int x1), (2, .int x2)]) hx hb dX7_layFits_88 hl (k := 4) rfl rfl (by decide) rfl (fun ls hl => ?_)
            refine lv_goto (tgt := 30) hx hb dX7_layFits_91 (by decide) ?_
            exact ih30 x1 x2 z0 (x4 + 3) σ hf H locs hI ls (lv_sub hl [2, 3, 4, 1, 0] rfl)
          intro x1 x2 x3 x4 σ hf H locs hI ls hl
          have hf : f7_layFits_b30 (f7_layFits_l12 n12) (f7_layFits_l30 (f7_layFits_l12 n12) n30) x1 x2 x3 x4 σ = some σ' := hf
          unfold f7_layFits_b30 at hf
          refine lv_iload hx hb dX7_layFits_30 (lv_at hl 4 rfl) ?_
          refine lv_aload_n hx hb dX7_layFits_32 rfl (lv_at hl 0 rfl) ?_
          refine m_get (v := .ref (A 38)) X hI hc 38 (by decide) q2696 rfl dX7_layFits_33 ?_
          refine lv_iload_n hx hb dX7_layFits_36 rfl (lv_at hl 1 rfl) ?_
          obtain ⟨g8, hf⟩ := grd_some hf
          refine m_iald X hI 38 15 4 rfl rfl g8 dX7_layFits_37 ?_
          refine lv_icmp_ge (tgt := 94) hx hb dX7_layFits_38 (by decide) (fun c9 => ?_) (fun c9 => ?_)
          · have hf := o_pos hf c9
            exact J94 x1 x2 x3 σ hf H locs hI ls (lv_sub hl [0, 1, 2, 3] rfl)
          · have hf := o_neg hf c9
            refine lv_iload_n hx hb dX7_layFits_41 rfl (lv_at hl 3 rfl) ?_
            refine lv_if_eq (tgt := 94) hx hb dX7_layFits_42 (by decide) (fun c10 => ?_) (fun c10 => ?_)
            · have hf := o_pos hf c10
              exact J94 x1 x2 x3 σ hf H locs hI ls (lv_sub hl [0, 1, 2, 3] rfl)
            · have hf := o_neg hf c10
              refine lv_aload_n hx hb dX7_layFits_45 rfl (lv_at hl 0 rfl) ?_
              refine lv_iload_n hx hb dX7_layFits_46 rfl (lv_at hl 2 rfl) ?_
              refine lv_aload_n hx hb dX7_layFits_47 rfl (lv_at hl 0 rfl) ?_
              refine lv_iload_n hx hb dX7_layFits_48 rfl (lv_at hl 1 rfl) ?_
              refine lv_iload hx hb dX7_layFits_49 (lv_at hl 4 rfl) ?_
              obtain ⟨r12, σ11, hσ11, hf⟩ := bnd_some hf
              refine m_calll X hI hc [.int x1, .int x4] (m7_numberAt l D cl Z hz ci A d tm hc x1 x4 σ r12 σ11 hσ11) (cw7_numberAt hts ⟨Nat.le_of_ble_eq_true rfl, Nat.le_of_ble_eq_true rfl⟩) rfl hl.1 (Nat.le_of_ble_eq_true rfl) rfl dX7_layFits_51 ⟨Nat.le_of_ble_eq_true rfl, Nat.le_of_ble_eq_true rfl⟩ (fun H locs hI => ?_)
              refine lv_l2i hx hb dX7_layFits_54 rfl ?_
              refine lv_aload_n hx hb dX7_layFits_55 rfl (lv_at hl 0 rfl) ?_
              refine lv_iload_n hx hb dX7_layFits_56 rfl (lv_at hl 1 rfl) ?_
              refine lv_iload hx hb dX7_layFits_57 (lv_at hl 4 rfl) ?_
              refine lv_iconst (v := 1) hx hb dX7_layFits_59 (by decide) ?_
              refine lv_iadd hx hb dX7_layFits_60 ?_
              obtain ⟨r14, σ13, hσ13, hf⟩ := bnd_some hf
              refine m_calll X hI hc [.int x1, .int (x4 + 1)] (m7_numberAt l D cl Z hz ci A d tm hc x1 (x4 + 1) σ11 r14 σ13 hσ13) (cw7_numberAt hts ⟨Nat.le_of_ble_eq_true rfl, Nat.le_of_ble_eq_true rfl⟩) rfl hl.1 (Nat.le_of_ble_eq_true rfl) rfl dX7_layFits_61 ⟨Nat.le_of_ble_eq_true rfl, Nat.le_of_ble_eq_true rfl⟩ (fun H locs hI => ?_)
              refine lv_l2i hx hb dX7_layFits_64 rfl ?_
              obtain ⟨r16, σ15, hσ15, hf⟩ := bnd_some hf
              refine m_calli X hI hc [.int x2, .int r12.toInt32, .int r14.toInt32] (m7_mergeOf l D cl Z hz ci A d tm hc x2 r12.toInt32 r14.toInt32 σ13 r16 σ15 hσ15) (cw7_mergeOf hts ⟨Nat.le_of_ble_eq_true rfl, Nat.le_of_ble_eq_true rfl⟩) rfl hl.1 (Nat.le_of_ble_eq_true rfl) rfl dX7_layFits_65 ⟨Nat.le_of_ble_eq_true rfl, Nat.le_of_ble_eq_true rfl⟩ (fun H locs hI => ?_)
              refine lv_i2l hx hb dX7_layFits_68 rfl ?_
              refine lv_aload_n hx hb dX7_layFits_69 rfl (lv_at hl 0 rfl) ?_
              refine lv_iload_n hx hb dX7_layFits_70 rfl (lv_at hl 1 rfl) ?_
              refine lv_iload hx hb dX7_layFits_71 (lv_at hl 4 rfl) ?_
              refine lv_iconst (v := 2) hx hb dX7_layFits_73 (by decide) ?_
              refine lv_iadd hx hb dX7_layFits_74 ?_
              obtain ⟨r18, σ17, hσ17, hf⟩ := bnd_some hf
              refine m_calll X hI hc [.int x1, .int (x4 + 2)] (m7_numberAt l D cl Z hz ci A d tm hc x1 (x4 + 2) σ15 r18 σ17 hσ17) (cw7_numberAt hts ⟨Nat.le_of_ble_eq_true rfl, Nat.le_of_ble_eq_true rfl⟩) rfl hl.1 (Nat.le_of_ble_eq_true rfl) rfl dX7_layFits_75 ⟨Nat.le_of_ble_eq_true rfl, Nat.le_of_ble_eq_true rfl⟩ (fun H locs hI => ?_)
              refine W.lcmp hx hb dX7_layFits_78 ?_
              refine lv_if_ne (tgt := 86) hx hb dX7_layFits_79 (by decide) (fun c19 => ?_) (fun c19 => ?_)
              · have hf := o_neg hf c19
                refine lv_iconst (v := 0) hx hb dX7_layFits_86 (by decide) ?_
                exact J87 x1 x2 x4 0 σ17 hf H locs hI ls (lv_sub hl [0, 1, 2, 4] rfl)
              · have hf := o_pos hf c19
                refine lv_iconst (v := 1) hx hb dX7_layFits_82 (by decide) ?_
                refine lv_goto (tgt := 87) hx hb dX7_layFits_83 (by decide) ?_
                exact J87 x1 x2 x4 1 σ17 hf H locs hI ls (lv_sub hl [0, 1, 2, 4] rfl)
      intro x1 x2 σ hf H locs hI ls hl
      have hf : f7_layFits_b12 (f7_layFits_l12 n12) x1 x2 σ = some σ' := hf
      unfold f7_layFits_b12 at hf
      refine lv_iload_n hx hb dX7_layFits_12 rfl (lv_at hl 2 rfl) ?_
      refine lv_aload_n hx hb dX7_layFits_13 rfl (lv_at hl 0 rfl) ?_
      obtain ⟨r4, σ3, hσ3, hf⟩ := bnd_some hf
      refine m_calli X hI hc [] (m7_stateMany l D cl Z hz ci A d tm hc σ r4 σ3 hσ3) (cw7_stateMany hts ⟨Nat.le_of_ble_eq_true rfl, Nat.le_of_ble_eq_true rfl⟩) rfl hl.1 (Nat.le_of_ble_eq_true rfl) rfl dX7_layFits_14 ⟨Nat.le_of_ble_eq_true rfl, Nat.le_of_ble_eq_true rfl⟩ (fun H locs hI => ?_)
      refine lv_icmp_ge (tgt := 129) hx hb dX7_layFits_17 (by decide) (fun c5 => ?_) (fun c5 => ?_)
      · have hf := o_pos hf c5
        exact hret hf hI dX7_layFits_129
      · have hf := o_neg hf c5
        refine lv_aload_n hx hb dX7_layFits_20 rfl (lv_at hl 0 rfl) ?_
        refine m_get (v := .ref (A 19)) X hI hc 19 (by decide) q2677 rfl dX7_layFits_21 ?_
        refine lv_iload_n hx hb dX7_layFits_24 rfl (lv_at hl 2 rfl) ?_
        obtain ⟨g6, hf⟩ := grd_some hf
        refine m_zald X hI 19 8 64 rfl rfl g6 dX7_layFits_25 ?_
        obtain ⟨v7, ev7, hf⟩ := nxt_some hf
        rw [← ev7]
        clear ev7
        refine lv_istore_n (lv' := [(3, .int v7), (0, .ref (A 0)), (1, .int x1), (2, .int x2)]) hx hb dX7_layFits_26 rfl hl (by decide) rfl (fun ls hl => ?_)
        refine lv_iconst (v := 0) hx hb dX7_layFits_27 (by decide) ?_
        refine lv_istore (lv' := [(4, .int 0), (3, .int v7), (0, .ref (A 0)), (1, .int x1), (2, .int x2)]) hx hb dX7_layFits_28 hl (by decide) rfl (fun ls hl => ?_)
        exact L30 FU x1 x2 v7 0 σ3 hf H locs hI ls (lv_sub hl [2, 3, 4, 1, 0] rfl)
  have hl : lv_has ls 5 [(0, .ref (A 0)), (1, .int p0)] := hl
  unfold f7_layFits at hf
  obtain ⟨H, eH⟩ : ∃ H, H = s.heap := ⟨_, rfl⟩
  obtain ⟨locs, eL⟩ : ∃ locs : List Loc, locs = [] := ⟨_, rfl⟩
  have hI : XI D cl (mw ci A d σ) A0 s.heap H locs := by rw [eH, eL]; exact hI
  rw [← eL]
  suffices h : W p l e r7_layFits s m args below meth c H locs 0 0 Q (F0 m 0 ls []) by rw [eH] at h; exact h
  clear eH eL
  refine lv_aload_n hx hb dX7_layFits_0 rfl (lv_at hl 0 rfl) ?_
  refine lv_iconst (v := 0) hx hb dX7_layFits_1 (by decide) ?_
  refine m_puti X hI hc 32 (by decide) q2690 rfl rfl rfl dX7_layFits_2 (fun H locs hI => ?_)
  obtain ⟨σ1, eσ1, hf⟩ := nxt_some hf
  rw [← eσ1] at hI
  clear eσ1
  refine lv_aload_n hx hb dX7_layFits_5 rfl (lv_at hl 0 rfl) ?_
  refine lv_iconst (v := -1) hx hb dX7_layFits_6 (by decide) ?_
  refine m_puti X hI hc 33 (by decide) q2691 rfl rfl rfl dX7_layFits_7 (fun H locs hI => ?_)
  obtain ⟨σ2, eσ2, hf⟩ := nxt_some hf
  rw [← eσ2] at hI
  clear eσ2
  refine lv_iconst (v := 0) hx hb dX7_layFits_10 (by decide) ?_
  refine lv_istore_n (lv' := [(2, .int 0), (0, .ref (A 0)), (1, .int p0)]) hx hb dX7_layFits_11 rfl hl (by decide) rfl (fun ls hl => ?_)
  exact L12 FU p0 0 σ2 hf H locs hI ls (lv_sub hl [1, 2, 0] rfl)
/-! askFits -/
def f7_askFits (p0 : Int32) (σ : MS) : oI Int32 :=
  bnd (f7_askSeen p0 σ) fun r2 σ1 =>
  if r2 = 0 then (bn1 (f7_layFits p0 σ1) fun σ4 =>
  some (r2, σ4)) else (some (r2, σ1))
abbrev r7_askFits : Room := { frames := 7, cells := 0, slots := 0, locals := 162 }
theorem cw7_askFits {R : Room} {s : State} {args : Array Value} (ht : ∀ w ∈ lw_all, w.before args s = true) (hR : r7_askFits.frames + 1 ≤ R.frames ∧ 8 + (3 + 11) + r7_askFits.locals ≤ R.locals) : CallW R s args RX7 RX7 449 yX7_askFits cX7_askFits 3 (some .int) (ws_ yX7_askFits cX7_askFits 3 (some .int)) r7_askFits 0 0 1 :=
  cwV 1 ht (lw_V q3331 q3333 qs154 q178 q3334) rfl rfl rfl (by decide +kernel) hR
theorem m7_askFits (l : Launch) (D : va_G) (cl : vC2) (Z : (Nat → Prop) → State → Heap → Prop) (hz : ZK Z) (ci : Nat) (A : Nat → Nat) (d : Nat → ClassId) (tm : List (ClassId × FieldType)) (hc : cl.1[ci]? = some (RX7, TX7, 42)) (p0 : Int32) (σ : MS) (r : Int32) (σ' : MS) (hf : f7_askFits p0 σ = some (r, σ')) : MMi l yX7_askFits (ws_ yX7_askFits cX7_askFits 3 (some .int)) r7_askFits D cl Z ci A d tm σ [.int p0] r σ' := by
  refine m_openi hz (by decide) (by exact Nat.le_of_ble_eq_true rfl) (fun p e s m args below meth c ls A0 Q X hI hl hret => ?_)
  have X : XC p s m args meth c cX7_askFits 3 RX7 D cl (mty d tm) A0 Z := X
  have hx := X.1
  have hb := X.2.1
  have hown := X.2.2.2.1
  have hts := X.2.2.2.2.1
  have hl : lv_has ls 3 [(0, .ref (A 0)), (1, .int p0)] := hl
  unfold f7_askFits at hf
  obtain ⟨H, eH⟩ : ∃ H, H = s.heap := ⟨_, rfl⟩
  obtain ⟨locs, eL⟩ : ∃ locs : List Loc, locs = [] := ⟨_, rfl⟩
  have hI : XI D cl (mw ci A d σ) A0 s.heap H locs := by rw [eH, eL]; exact hI
  rw [← eL]
  suffices h : W p l e r7_askFits s m args below meth c H locs 0 0 Q (F0 m 0 ls []) by rw [eH] at h; exact h
  clear eH eL
  refine lv_aload_n hx hb dX7_askFits_0 rfl (lv_at hl 0 rfl) ?_
  refine lv_iload_n hx hb dX7_askFits_1 rfl (lv_at hl 1 rfl) ?_
  obtain ⟨r2, σ1, hσ1, hf⟩ := bnd_some hf
  refine m_calli X hI hc [.int p0] (m7_askSeen l D cl Z hz ci A d tm hc p0 σ r2 σ1 hσ1) (cw7_askSeen hts ⟨Nat.le_of_ble_eq_true rfl, Nat.le_of_ble_eq_true rfl⟩) rfl hl.1 (Nat.le_of_ble_eq_true rfl) rfl dX7_askFits_2 ⟨Nat.le_of_ble_eq_true rfl, Nat.le_of_ble_eq_true rfl⟩ (fun H locs hI => ?_)
  refine lv_istore_n (lv' := [(2, .int r2), (0, .ref (A 0)), (1, .int p0)]) hx hb dX7_askFits_5 rfl hl (by decide) rfl (fun ls hl => ?_)
  refine lv_iload_n hx hb dX7_askFits_6 rfl (lv_at hl 0 rfl) ?_
  refine lv_if_ne (tgt := 15) hx hb dX7_askFits_7 (by decide) (fun c3 => ?_) (fun c3 => ?_)
  · have hf := o_neg hf c3
    refine lv_iload_n hx hb dX7_askFits_15 rfl (lv_at hl 0 rfl) ?_
    exact hret hf hI dX7_askFits_16
  · have hf := o_pos hf c3
    refine lv_aload_n hx hb dX7_askFits_10 rfl (lv_at hl 1 rfl) ?_
    refine lv_iload_n hx hb dX7_askFits_11 rfl (lv_at hl 2 rfl) ?_
    obtain ⟨σ4, hσ4, hf⟩ := bn1_some hf
    refine m_callv X hI hc [.int p0] (m7_layFits l D cl Z hz ci A d tm hc p0 σ1 σ4 hσ4) (cw7_layFits hts ⟨Nat.le_of_ble_eq_true rfl, Nat.le_of_ble_eq_true rfl⟩) rfl hl.1 (Nat.le_of_ble_eq_true rfl) rfl dX7_askFits_12 ⟨Nat.le_of_ble_eq_true rfl, Nat.le_of_ble_eq_true rfl⟩ (fun H locs hI => ?_)
    refine lv_iload_n hx hb dX7_askFits_15 rfl (lv_at hl 0 rfl) ?_
    exact hret hf hI dX7_askFits_16
/-! fits -/
def f7_fits (p0 : Int32) (σ : MS) : oI Int32 :=
  bnd (f7_askFits p0 σ) fun r2 σ1 =>
  if 0 ≤ r2 then (some (gI σ1 32, σ1)) else (some (r2, σ1))
abbrev r7_fits : Room := { frames := 8, cells := 0, slots := 0, locals := 184 }
theorem m7_fits (l : Launch) (D : va_G) (cl : vC2) (Z : (Nat → Prop) → State → Heap → Prop) (hz : ZK Z) (ci : Nat) (A : Nat → Nat) (d : Nat → ClassId) (tm : List (ClassId × FieldType)) (hc : cl.1[ci]? = some (RX7, TX7, 42)) (p0 : Int32) (σ : MS) (r : Int32) (σ' : MS) (hf : f7_fits p0 σ = some (r, σ')) : MMi l yX7_fits (ws_ yX7_fits cX7_fits 3 (some .int)) r7_fits D cl Z ci A d tm σ [.int p0] r σ' := by
  refine m_openi hz (by decide) (by exact Nat.le_of_ble_eq_true rfl) (fun p e s m args below meth c ls A0 Q X hI hl hret => ?_)
  have X : XC p s m args meth c cX7_fits 3 RX7 D cl (mty d tm) A0 Z := X
  have hx := X.1
  have hb := X.2.1
  have hown := X.2.2.2.1
  have hts := X.2.2.2.2.1
  have hl : lv_has ls 3 [(0, .ref (A 0)), (1, .int p0)] := hl
  unfold f7_fits at hf
  obtain ⟨H, eH⟩ : ∃ H, H = s.heap := ⟨_, rfl⟩
  obtain ⟨locs, eL⟩ : ∃ locs : List Loc, locs = [] := ⟨_, rfl⟩
  have hI : XI D cl (mw ci A d σ) A0 s.heap H locs := by rw [eH, eL]; exact hI
  rw [← eL]
  suffices h : W p l e r7_fits s m args below meth c H locs 0 0 Q (F0 m 0 ls []) by rw [eH] at h; exact h
  clear eH eL
  refine lv_aload_n hx hb dX7_fits_0 rfl (lv_at hl 0 rfl) ?_
  refine lv_iload_n hx hb dX7_fits_1 rfl (lv_at hl 1 rfl) ?_
  obtain ⟨r2, σ1, hσ1, hf⟩ := bnd_some hf
  refine m_calli X hI hc [.int p0] (m7_askFits l D cl Z hz ci A d tm hc p0 σ r2 σ1 hσ1) (cw7_askFits hts ⟨Nat.le_of_ble_eq_true rfl, Nat.le_of_ble_eq_true rfl⟩) rfl hl.1 (Nat.le_of_ble_eq_true rfl) rfl dX7_fits_2 ⟨Nat.le_of_ble_eq_true rfl, Nat.le_of_ble_eq_true rfl⟩ (fun H locs hI => ?_)
  refine lv_istore_n (lv' := [(2, .int r2), (0, .ref (A 0)), (1, .int p0)]) hx hb dX7_fits_5 rfl hl (by decide) rfl (fun ls hl => ?_)
  refine lv_iload_n hx hb dX7_fits_6 rfl (lv_at hl 0 rfl) ?_
  refine lv_if_ge (tgt := 14) hx hb dX7_fits_7 (by decide) (fun c3 => ?_) (fun c3 => ?_)
  · have hf := o_pos hf c3
    refine lv_aload_n hx hb dX7_fits_14 rfl (lv_at hl 1 rfl) ?_
    refine m_get (v := .int (gI σ1 32)) X hI hc 32 (by decide) q2690 rfl dX7_fits_15 ?_
    exact hret hf hI dX7_fits_18
  · have hf := o_neg hf c3
    refine lv_iload_n hx hb dX7_fits_10 rfl (lv_at hl 0 rfl) ?_
    refine lv_goto (tgt := 18) hx hb dX7_fits_11 (by decide) ?_
    exact hret hf hI dX7_fits_18
/-! which -/
def f7_which (p0 : Int32) (σ : MS) : oI Int32 :=
  bnd (f7_askFits p0 σ) fun r2 σ1 =>
  if 0 ≤ r2 then (some (gI σ1 33, σ1)) else (some (r2, σ1))
abbrev r7_which : Room := { frames := 8, cells := 0, slots := 0, locals := 184 }
theorem m7_which (l : Launch) (D : va_G) (cl : vC2) (Z : (Nat → Prop) → State → Heap → Prop) (hz : ZK Z) (ci : Nat) (A : Nat → Nat) (d : Nat → ClassId) (tm : List (ClassId × FieldType)) (hc : cl.1[ci]? = some (RX7, TX7, 42)) (p0 : Int32) (σ : MS) (r : Int32) (σ' : MS) (hf : f7_which p0 σ = some (r, σ')) : MMi l yX7_which (ws_ yX7_which cX7_which 3 (some .int)) r7_which D cl Z ci A d tm σ [.int p0] r σ' := by
  refine m_openi hz (by decide) (by exact Nat.le_of_ble_eq_true rfl) (fun p e s m args below meth c ls A0 Q X hI hl hret => ?_)
  have X : XC p s m args meth c cX7_which 3 RX7 D cl (mty d tm) A0 Z := X
  have hx := X.1
  have hb := X.2.1
  have hown := X.2.2.2.1
  have hts := X.2.2.2.2.1
  have hl : lv_has ls 3 [(0, .ref (A 0)), (1, .int p0)] := hl
  unfold f7_which at hf
  obtain ⟨H, eH⟩ : ∃ H, H = s.heap := ⟨_, rfl⟩
  obtain ⟨locs, eL⟩ : ∃ locs : List Loc, locs = [] := ⟨_, rfl⟩
  have hI : XI D cl (mw ci A d σ) A0 s.heap H locs := by rw [eH, eL]; exact hI
  rw [← eL]
  suffices h : W p l e r7_which s m args below meth c H locs 0 0 Q (F0 m 0 ls []) by rw [eH] at h; exact h
  clear eH eL
  refine lv_aload_n hx hb dX7_which_0 rfl (lv_at hl 0 rfl) ?_
  refine lv_iload_n hx hb dX7_which_1 rfl (lv_at hl 1 rfl) ?_
  obtain ⟨r2, σ1, hσ1, hf⟩ := bnd_some hf
  refine m_calli X hI hc [.int p0] (m7_askFits l D cl Z hz ci A d tm hc p0 σ r2 σ1 hσ1) (cw7_askFits hts ⟨Nat.le_of_ble_eq_true rfl, Nat.le_of_ble_eq_true rfl⟩) rfl hl.1 (Nat.le_of_ble_eq_true rfl) rfl dX7_which_2 ⟨Nat.le_of_ble_eq_true rfl, Nat.le_of_ble_eq_true rfl⟩ (fun H locs hI => ?_)
  refine lv_istore_n (lv' := [(2, .int r2), (0, .ref (A 0)), (1, .int p0)]) hx hb dX7_which_5 rfl hl (by decide) rfl (fun ls hl => ?_)
  refine lv_iload_n hx hb dX7_which_6 rfl (lv_at hl 0 rfl) ?_
  refine lv_if_ge (tgt := 14) hx hb dX7_which_7 (by decide) (fun c3 => ?_) (fun c3 => ?_)
  · have hf := o_pos hf c3
    refine lv_aload_n hx hb dX7_which_14 rfl (lv_at hl 1 rfl) ?_
    refine m_get (v := .int (gI σ1 33)) X hI hc 33 (by decide) q2691 rfl dX7_which_15 ?_
    exact hret hf hI dX7_which_18
  · have hf := o_neg hf c3
    refine lv_iload_n hx hb dX7_which_10 rfl (lv_at hl 0 rfl) ?_
    refine lv_goto (tgt := 18) hx hb dX7_which_11 (by decide) ?_
    exact hret hf hI dX7_which_18
/-! laws -/
def f7_laws_b50 (K19 : Int32 → Int32 → MS → oI Int32) (x1 : Int32) (z0 : Int32) (z1 : Int32) (σ : MS) : oI Int32 :=
  nxt (sI σ 16 ((gI σ 16) + 1)) fun σ8 =>
  K19 x1 (z0 ||| z1) σ8
def f7_laws_b19 (K19 : Int32 → Int32 → MS → oI Int32) (x1 : Int32) (x3 : Int32) (σ : MS) : oI Int32 :=
  if 4 ≤ (gI σ 16) then (some (x3, σ)) else (bn1 (f7_layFits x1 σ) fun σ6 =>
  if (gI σ6 32) ≤ 0 then (f7_laws_b50 K19 x1 x3 0 σ6) else (f7_laws_b50 K19 x1 x3 ((1 : Int32) <<< ((gI σ6 16) &&& 31)) σ6))
def f7_laws_l19 : Nat → Int32 → Int32 → MS → oI Int32
  | 0 => fun _ _ _ => none
  | n + 1 => fun x1 x3 σ => f7_laws_b19 (f7_laws_l19 n) x1 x3 σ
def f7_laws (p0 : Int32) (σ : MS) : oI Int32 :=
  bnd (f7_askSeen p0 σ) fun r2 σ1 =>
  if 0 ≤ r2 then (nxt (sI σ1 16 0) fun σ4 =>
  f7_laws_l19 FU p0 0 σ4) else (some (r2, σ1))
abbrev r7_laws : Room := { frames := 7, cells := 0, slots := 0, locals := 162 }
theorem m7_laws (l : Launch) (D : va_G) (cl : vC2) (Z : (Nat → Prop) → State → Heap → Prop) (hz : ZK Z) (ci : Nat) (A : Nat → Nat) (d : Nat → ClassId) (tm : List (ClassId × FieldType)) (hc : cl.1[ci]? = some (RX7, TX7, 42)) (p0 : Int32) (σ : MS) (r : Int32) (σ' : MS) (hf : f7_laws p0 σ = some (r, σ')) : MMi l yX7_laws (ws_ yX7_laws cX7_laws 4 (some .int)) r7_laws D cl Z ci A d tm σ [.int p0] r σ' := by
  refine m_openi hz (by decide) (by exact Nat.le_of_ble_eq_true rfl) (fun p e s m args below meth c ls A0 Q X hI hl hret => ?_)
  have X : XC p s m args meth c cX7_laws 4 RX7 D cl (mty d tm) A0 Z := X
  have hx := X.1
  have hb := X.2.1
  have hown := X.2.2.2.1
  have hts := X.2.2.2.2.1
  have L19 : ∀ (n : Nat) (x1 : Int32) (x3 : Int32) (σ : MS), f7_laws_l19 n x1 x3 σ = some (r, σ') → ∀ (H : Heap) (locs : List Loc), XI D cl (mw ci A d σ) A0 s.heap H locs → ∀ (ls : Array Slot), lv_has ls 4 [(0, .ref (A 0)), (1, .int x1), (3, .int x3)] → W p l e r7_laws s m args below meth c H locs 0 0 Q (F0 m 19 ls []) := by
    intro n19
    induction n19 with
    | zero => intro x1 x3 σ hf; cases hf
    | succ n19 ih19 =>
      have J50 : ∀ (x1 : Int32) (z0 : Int32) (z1 : Int32) (σ : MS), f7_laws_b50 (f7_laws_l19 n19) x1 z0 z1 σ = some (r, σ') → ∀ (H : Heap) (locs : List Loc), XI D cl (mw ci A d σ) A0 s.heap H locs → ∀ (ls : Array Slot), lv_has ls 4 [(0, .ref (A 0)), (1, .int x1)] → W p l e r7_laws s m args below meth c H locs 0 0 Q (F0 m 50 ls [.int z1, .int z0]) := by
        intro x1 z0 z1 σ hf H locs hI ls hl
        unfold f7_laws_b50 at hf
        refine lv_ior hx hb dX7_laws_50 ?_
        refine lv_istore_n (lv' := [(3, .int (z0 ||| z1)), (0, .ref (A 0)), (1, .int x1)]) hx hb dX7_laws_51 rfl hl (by decide) rfl (fun ls hl => ?_)
        refine lv_aload_n hx hb dX7_laws_52 rfl (lv_at hl 1 rfl) ?_
        refine lv_dup hx hb dX7_laws_53 rfl ?_
        refine m_get (v := .int (gI σ 16)) X hI hc 16 (by decide) q2674 rfl dX7_laws_54 ?_
        refine lv_iconst (v := 1) hx hb dX7_laws_57 (by decide) ?_
        refine lv_iadd hx hb dX7_laws_58 ?_
        refine m_puti X hI hc 16 (by decide) q2674 rfl rfl rfl dX7_laws_59 (fun H locs hI => ?_)
        obtain ⟨σ8, eσ8, hf⟩ := nxt_some hf
        rw [← eσ8] at hI
        clear eσ8
        refine lv_goto (tgt := 19) hx hb dX7_laws_62 (by decide) ?_
        exact ih19 x1 (z0 ||| z1) σ8 hf H locs hI ls (lv_sub hl [1, 2, 0] rfl)
      intro x1 x3 σ hf H locs hI ls hl
      have hf : f7_laws_b19 (f7_laws_l19 n19) x1 x3 σ = some (r, σ') := hf
      unfold f7_laws_b19 at hf
      refine lv_aload_n hx hb dX7_laws_19 rfl (lv_at hl 0 rfl) ?_
      refine m_get (v := .int (gI σ 16)) X hI hc 16 (by decide) q2674 rfl dX7_laws_20 ?_
      refine lv_iconst (v := 4) hx hb dX7_laws_23 (by decide) ?_
      refine lv_icmp_ge (tgt := 65) hx hb dX7_laws_24 (by decide) (fun c5 => ?_) (fun c5 => ?_)
      · have hf := o_pos hf c5
        refine lv_iload_n hx hb dX7_laws_65 rfl (lv_at hl 2 rfl) ?_
        exact hret hf hI dX7_laws_66
      · have hf := o_neg hf c5
        refine lv_aload_n hx hb dX7_laws_27 rfl (lv_at hl 0 rfl) ?_
        refine lv_iload_n hx hb dX7_laws_28 rfl (lv_at hl 1 rfl) ?_
        obtain ⟨σ6, hσ6, hf⟩ := bn1_some hf
        refine m_callv X hI hc [.int x1] (m7_layFits l D cl Z hz ci A d tm hc x1 σ σ6 hσ6) (cw7_layFits hts ⟨Nat.le_of_ble_eq_true rfl, Nat.le_of_ble_eq_true rfl⟩) rfl hl.1 (Nat.le_of_ble_eq_true rfl) rfl dX7_laws_29 ⟨Nat.le_of_ble_eq_true rfl, Nat.le_of_ble_eq_true rfl⟩ (fun H locs hI => ?_)
        refine lv_iload_n hx hb dX7_laws_32 rfl (lv_at hl 2 rfl) ?_
        refine lv_aload_n hx hb dX7_laws_33 rfl (lv_at hl 0 rfl) ?_
        refine m_get (v := .int (gI σ6 32)) X hI hc 32 (by decide) q2690 rfl dX7_laws_34 ?_
        refine lv_if_le (tgt := 49) hx hb dX7_laws_37 (by decide) (fun c7 => ?_) (fun c7 => ?_)
        · have hf := o_pos hf c7
          refine lv_iconst (v := 0) hx hb dX7_laws_49 (by decide) ?_
          exact J50 x1 x3 0 σ6 hf H locs hI ls (lv_sub hl [0, 1] rfl)
        · have hf := o_neg hf c7
          refine lv_iconst (v := 1) hx hb dX7_laws_40 (by decide) ?_
          refine lv_aload_n hx hb dX7_laws_41 rfl (lv_at hl 0 rfl) ?_
          refine m_get (v := .int (gI σ6 16)) X hI hc 16 (by decide) q2674 rfl dX7_laws_42 ?_
          refine lv_ishl hx hb dX7_laws_45 ?_
          refine lv_goto (tgt := 50) hx hb dX7_laws_46 (by decide) ?_
          exact J50 x1 x3 ((1 : Int32) <<< ((gI σ6 16) &&& 31)) σ6 hf H locs hI ls (lv_sub hl [0, 1] rfl)
  have hl : lv_has ls 4 [(0, .ref (A 0)), (1, .int p0)] := hl
  unfold f7_laws at hf
  obtain ⟨H, eH⟩ : ∃ H, H = s.heap := ⟨_, rfl⟩
  obtain ⟨locs, eL⟩ : ∃ locs : List Loc, locs = [] := ⟨_, rfl⟩
  have hI : XI D cl (mw ci A d σ) A0 s.heap H locs := by rw [eH, eL]; exact hI
  rw [← eL]
  suffices h : W p l e r7_laws s m args below meth c H locs 0 0 Q (F0 m 0 ls []) by rw [eH] at h; exact h
  clear eH eL
  refine lv_aload_n hx hb dX7_laws_0 rfl (lv_at hl 0 rfl) ?_
  refine lv_iload_n hx hb dX7_laws_1 rfl (lv_at hl 1 rfl) ?_
  obtain ⟨r2, σ1, hσ1, hf⟩ := bnd_some hf
  refine m_calli X hI hc [.int p0] (m7_askSeen l D cl Z hz ci A d tm hc p0 σ r2 σ1 hσ1) (cw7_askSeen hts ⟨Nat.le_of_ble_eq_true rfl, Nat.le_of_ble_eq_true rfl⟩) rfl hl.1 (Nat.le_of_ble_eq_true rfl) rfl dX7_laws_2 ⟨Nat.le_of_ble_eq_true rfl, Nat.le_of_ble_eq_true rfl⟩ (fun H locs hI => ?_)
  refine lv_istore_n (lv' := [(2, .int r2), (0, .ref (A 0)), (1, .int p0)]) hx hb dX7_laws_5 rfl hl (by decide) rfl (fun ls hl => ?_)
  refine lv_iload_n hx hb dX7_laws_6 rfl (lv_at hl 0 rfl) ?_
  refine lv_if_ge (tgt := 12) hx hb dX7_laws_7 (by decide) (fun c3 => ?_) (fun c3 => ?_)
  · have hf := o_pos hf c3
    refine lv_iconst (v := 0) hx hb dX7_laws_12 (by decide) ?_
    refine lv_istore_n (lv' := [(3, .int 0), (2, .int r2), (0, .ref (A 0)), (1, .int p0)]) hx hb dX7_laws_13 rfl hl (by decide) rfl (fun ls hl => ?_)
    refine lv_aload_n hx hb dX7_laws_14 rfl (lv_at hl 2 rfl) ?_
    refine lv_iconst (v := 0) hx hb dX7_laws_15 (by decide) ?_
    refine m_puti X hI hc 16 (by decide) q2674 rfl rfl rfl dX7_laws_16 (fun H locs hI => ?_)
    obtain ⟨σ4, eσ4, hf⟩ := nxt_some hf
    rw [← eσ4] at hI
    clear eσ4
    exact L19 FU p0 0 σ4 hf H locs hI ls (lv_sub hl [2, 3, 0] rfl)
  · have hf := o_neg hf c3
    refine lv_iload_n hx hb dX7_laws_10 rfl (lv_at hl 0 rfl) ?_
    exact hret hf hI dX7_laws_11
/-! breaksByLaw -/
def f7_breaksByLaw (p0 : Int32) (σ : MS) : oI Int32 :=
  nxt (sI σ 16 p0) fun σ1 =>
  bnd (f7_breaksIn 1 σ1) fun r3 σ2 =>
  some (r3, σ2)
abbrev r7_breaksByLaw : Room := { frames := 7, cells := 0, slots := 0, locals := 164 }
theorem cw7_breaksByLaw {R : Room} {s : State} {args : Array Value} (ht : ∀ w ∈ lw_all, w.before args s = true) (hR : r7_breaksByLaw.frames + 1 ≤ R.frames ∧ 8 + (2 + 11) + r7_breaksByLaw.locals ≤ R.locals) : CallW R s args RX7 RX7 452 yX7_breaksByLaw cX7_breaksByLaw 2 (some .int) (ws_ yX7_breaksByLaw cX7_breaksByLaw 2 (some .int)) r7_breaksByLaw 0 0 1 :=
  cwV 1 ht (lw_V q3362 q3364 qs158 q178 q3365) rfl rfl rfl (by decide +kernel) hR
theorem m7_breaksByLaw (l : Launch) (D : va_G) (cl : vC2) (Z : (Nat → Prop) → State → Heap → Prop) (hz : ZK Z) (ci : Nat) (A : Nat → Nat) (d : Nat → ClassId) (tm : List (ClassId × FieldType)) (hc : cl.1[ci]? = some (RX7, TX7, 42)) (p0 : Int32) (σ : MS) (r : Int32) (σ' : MS) (hf : f7_breaksByLaw p0 σ = some (r, σ')) : MMi l yX7_breaksByLaw (ws_ yX7_breaksByLaw cX7_breaksByLaw 2 (some .int)) r7_breaksByLaw D cl Z ci A d tm σ [.int p0] r σ' := by
  refine m_openi hz (by decide) (by exact Nat.le_of_ble_eq_true rfl) (fun p e s m args below meth c ls A0 Q X hI hl hret => ?_)
  have X : XC p s m args meth c cX7_breaksByLaw 2 RX7 D cl (mty d tm) A0 Z := X
  have hx := X.1
  have hb := X.2.1
  have hown := X.2.2.2.1
  have hts := X.2.2.2.2.1
  have hl : lv_has ls 2 [(0, .ref (A 0)), (1, .int p0)] := hl
  unfold f7_breaksByLaw at hf
  obtain ⟨H, eH⟩ : ∃ H, H = s.heap := ⟨_, rfl⟩
  obtain ⟨locs, eL⟩ : ∃ locs : List Loc, locs = [] := ⟨_, rfl⟩
  have hI : XI D cl (mw ci A d σ) A0 s.heap H locs := by rw [eH, eL]; exact hI
  rw [← eL]
  suffices h : W p l e r7_breaksByLaw s m args below meth c H locs 0 0 Q (F0 m 0 ls []) by rw [eH] at h; exact h
  clear eH eL
  refine lv_aload_n hx hb dX7_breaksByLaw_0 rfl (lv_at hl 0 rfl) ?_
  refine lv_iload_n hx hb dX7_breaksByLaw_1 rfl (lv_at hl 1 rfl) ?_
  refine m_puti X hI hc 16 (by decide) q2674 rfl rfl rfl dX7_breaksByLaw_2 (fun H locs hI => ?_)
  obtain ⟨σ1, eσ1, hf⟩ := nxt_some hf
  rw [← eσ1] at hI
  clear eσ1
  refine lv_aload_n hx hb dX7_breaksByLaw_5 rfl (lv_at hl 0 rfl) ?_
  refine lv_iconst (v := 1) hx hb dX7_breaksByLaw_6 (by decide) ?_
  obtain ⟨r3, σ2, hσ2, hf⟩ := bnd_some hf
  refine m_calli X hI hc [.int 1] (m7_breaksIn l D cl Z hz ci A d tm hc 1 σ1 r3 σ2 hσ2) (cw7_breaksIn hts ⟨Nat.le_of_ble_eq_true rfl, Nat.le_of_ble_eq_true rfl⟩) rfl hl.1 (Nat.le_of_ble_eq_true rfl) rfl dX7_breaksByLaw_7 ⟨Nat.le_of_ble_eq_true rfl, Nat.le_of_ble_eq_true rfl⟩ (fun H locs hI => ?_)
  exact hret hf hI dX7_breaksByLaw_10
/-! by -/
def f7_by (p0 : Int32) (σ : MS) : oI Int32 :=
  bnd (f7_asks σ) fun r2 σ1 =>
  if r2 = 0 then (some ((-2), σ1)) else (bn1 (f7_in p0.toInt64 0 3) fun r4 =>
  if r4 = 0 then (some ((-2), σ1)) else (bnd (f7_breaksByLaw p0 σ1) fun r7 σ6 =>
  some (r7, σ6)))
abbrev r7_by : Room := { frames := 8, cells := 0, slots := 0, locals := 185 }
theorem m7_by (l : Launch) (D : va_G) (cl : vC2) (Z : (Nat → Prop) → State → Heap → Prop) (hz : ZK Z) (ci : Nat) (A : Nat → Nat) (d : Nat → ClassId) (tm : List (ClassId × FieldType)) (hc : cl.1[ci]? = some (RX7, TX7, 42)) (p0 : Int32) (σ : MS) (r : Int32) (σ' : MS) (hf : f7_by p0 σ = some (r, σ')) : MMi l yX7_by (ws_ yX7_by cX7_by 2 (some .int)) r7_by D cl Z ci A d tm σ [.int p0] r σ' := by
  refine m_openi hz (by decide) (by exact Nat.le_of_ble_eq_true rfl) (fun p e s m args below meth c ls A0 Q X hI hl hret => ?_)
  have X : XC p s m args meth c cX7_by 2 RX7 D cl (mty d tm) A0 Z := X
  have hx := X.1
  have hb := X.2.1
  have hown := X.2.2.2.1
  have hts := X.2.2.2.2.1
  have hl : lv_has ls 2 [(0, .ref (A 0)), (1, .int p0)] := hl
  unfold f7_by at hf
  obtain ⟨H, eH⟩ : ∃ H, H = s.heap := ⟨_, rfl⟩
  obtain ⟨locs, eL⟩ : ∃ locs : List Loc, locs = [] := ⟨_, rfl⟩
  have hI : XI D cl (mw ci A d σ) A0 s.heap H locs := by rw [eH, eL]; exact hI
  rw [← eL]
  suffices h : W p l e r7_by s m args below meth c H locs 0 0 Q (F0 m 0 ls []) by rw [eH] at h; exact h
  clear eH eL
  refine lv_aload_n hx hb dX7_by_0 rfl (lv_at hl 0 rfl) ?_
  obtain ⟨r2, σ1, hσ1, hf⟩ := bnd_some hf
  refine m_calli X hI hc [] (m7_asks l D cl Z hz ci A d tm hc σ r2 σ1 hσ1) (cw7_asks hts ⟨Nat.le_of_ble_eq_true rfl, Nat.le_of_ble_eq_true rfl⟩) rfl hl.1 (Nat.le_of_ble_eq_true rfl) rfl dX7_by_1 ⟨Nat.le_of_ble_eq_true rfl, Nat.le_of_ble_eq_true rfl⟩ (fun H locs hI => ?_)
  refine lv_if_eq (tgt := 27) hx hb dX7_by_4 (by decide) (fun c3 => ?_) (fun c3 => ?_)
  · have hf := o_pos hf c3
    refine lv_bipush (v := -2) hx hb dX7_by_27 (by decide) ?_
    exact hret hf hI dX7_by_29
  · have hf := o_neg hf c3
    refine lv_iload_n hx hb dX7_by_7 rfl (lv_at hl 1 rfl) ?_
    refine lv_i2l hx hb dX7_by_8 rfl ?_
    refine lv_lconst (v := 0) hx hb dX7_by_9 (by decide) ?_
    refine lv_ldc2 (v := 3) hx hb hown (hts _ q2974) dX7_by_10 ?_
    obtain ⟨r4, hr4, hf⟩ := bn1_some hf
    refine x_callSi (As := [.long p0.toInt64, .long 0, .long 3]) X hI (m7_in l p0.toInt64 0 3 r4 hr4) (cw7_in hts ⟨Nat.le_of_ble_eq_true rfl, Nat.le_of_ble_eq_true rfl⟩) rfl hl.1 (Nat.le_of_ble_eq_true rfl) rfl dX7_by_13 ⟨Nat.le_of_ble_eq_true rfl, Nat.le_of_ble_eq_true rfl⟩ (fun H locs hI => ?_)
    refine lv_if_eq (tgt := 27) hx hb dX7_by_16 (by decide) (fun c5 => ?_) (fun c5 => ?_)
    · have hf := o_pos hf c5
      refine lv_bipush (v := -2) hx hb dX7_by_27 (by decide) ?_
      exact hret hf hI dX7_by_29
    · have hf := o_neg hf c5
      refine lv_aload_n hx hb dX7_by_19 rfl (lv_at hl 0 rfl) ?_
      refine lv_iload_n hx hb dX7_by_20 rfl (lv_at hl 1 rfl) ?_
      obtain ⟨r7, σ6, hσ6, hf⟩ := bnd_some hf
      refine m_calli X hI hc [.int p0] (m7_breaksByLaw l D cl Z hz ci A d tm hc p0 σ1 r7 σ6 hσ6) (cw7_breaksByLaw hts ⟨Nat.le_of_ble_eq_true rfl, Nat.le_of_ble_eq_true rfl⟩) rfl hl.1 (Nat.le_of_ble_eq_true rfl) rfl dX7_by_21 ⟨Nat.le_of_ble_eq_true rfl, Nat.le_of_ble_eq_true rfl⟩ (fun H locs hI => ?_)
      refine lv_goto (tgt := 29) hx hb dX7_by_24 (by decide) ?_
      exact hret hf hI dX7_by_29
/-! law -/
def f7_law_b37 (K14 : Int32 → Int32 → MS → oI Int32) (x2 : Int32) (z0 : Int32) (σ : MS) : oI Int32 :=
  K14 z0 (x2 + 1) σ
def f7_law_b14 (K14 : Int32 → Int32 → MS → oI Int32) (x1 : Int32) (x2 : Int32) (σ : MS) : oI Int32 :=
  if 4 ≤ x2 then (some (x1, σ)) else (bnd (f7_breaksByLaw x2 σ) fun r6 σ5 =>
  bnd (f7_breaksByLaw x1 σ5) fun r8 σ7 =>
  if r8 ≤ r6 then (f7_law_b37 K14 x2 x1 σ7) else (f7_law_b37 K14 x2 x2 σ7))
def f7_law_l14 : Nat → Int32 → Int32 → MS → oI Int32
  | 0 => fun _ _ _ => none
  | n + 1 => fun x1 x2 σ => f7_law_b14 (f7_law_l14 n) x1 x2 σ
def f7_law (σ : MS) : oI Int32 :=
  bnd (f7_asks σ) fun r2 σ1 =>
  if r2 = 0 then (some ((-2), σ1)) else (f7_law_l14 FU 0 1 σ1)
abbrev r7_law : Room := { frames := 8, cells := 0, slots := 0, locals := 185 }
theorem m7_law (l : Launch) (D : va_G) (cl : vC2) (Z : (Nat → Prop) → State → Heap → Prop) (hz : ZK Z) (ci : Nat) (A : Nat → Nat) (d : Nat → ClassId) (tm : List (ClassId × FieldType)) (hc : cl.1[ci]? = some (RX7, TX7, 42)) (σ : MS) (r : Int32) (σ' : MS) (hf : f7_law σ = some (r, σ')) : MMi l yX7_law (ws_ yX7_law cX7_law 3 (some .int)) r7_law D cl Z ci A d tm σ [] r σ' := by
  refine m_openi hz (by decide) (by exact Nat.le_of_ble_eq_true rfl) (fun p e s m args below meth c ls A0 Q X hI hl hret => ?_)
  have X : XC p s m args meth c cX7_law 3 RX7 D cl (mty d tm) A0 Z := X
  have hx := X.1
  have hb := X.2.1
  have hown := X.2.2.2.1
  have hts := X.2.2.2.2.1
  have L14 : ∀ (n : Nat) (x1 : Int32) (x2 : Int32) (σ : MS), f7_law_l14 n x1 x2 σ = some (r, σ') → ∀ (H : Heap) (locs : List Loc), XI D cl (mw ci A d σ) A0 s.heap H locs → ∀ (ls : Array Slot), lv_has ls 3 [(0, .ref (A 0)), (1, .int x1), (2, .int x2)] → W p l e r7_law s m args below meth c H locs 0 0 Q (F0 m 14 ls []) := by
    intro n14
    induction n14 with
    | zero => intro x1 x2 σ hf; cases hf
    | succ n14 ih14 =>
      have J37 : ∀ (x2 : Int32) (z0 : Int32) (σ : MS), f7_law_b37 (f7_law_l14 n14) x2 z0 σ = some (r, σ') → ∀ (H : Heap) (locs : List Loc), XI D cl (mw ci A d σ) A0 s.heap H locs → ∀ (ls : Array Slot), lv_has ls 3 [(0, .ref (A 0)), (2, .int x2)] → W p l e r7_law s m args below meth c H locs 0 0 Q (F0 m 37 ls [.int z0]) := by
        intro x2 z0 σ hf H locs hI ls hl
        unfold f7_law_b37 at hf
        refine lv_istore_n (lv' := [(1, .int z0), (0, .ref (A 0)), (2, .int x2)]) hx hb dX7_law_37 rfl hl (by decide) rfl (fun ls hl => ?_)
        refine lv_iinc (v := x2 + 1) (lv' := [(2, .int (x2 + 1)), (1, .int z0), (0, .ref (A 0))]) hx hb dX7_law_38 hl (k := 2) rfl rfl (by decide) rfl (fun ls hl => ?_)
        refine lv_goto (tgt := 14) hx hb dX7_law_41 (by decide) ?_
        exact ih14 z0 (x2 + 1) σ hf H locs hI ls (lv_sub hl [2, 1, 0] rfl)
      intro x1 x2 σ hf H locs hI ls hl
      have hf : f7_law_b14 (f7_law_l14 n14) x1 x2 σ = some (r, σ') := hf
      unfold f7_law_b14 at hf
      refine lv_iload_n hx hb dX7_law_14 rfl (lv_at hl 2 rfl) ?_
      refine lv_iconst (v := 4) hx hb dX7_law_15 (by decide) ?_
      refine lv_icmp_ge (tgt := 44) hx hb dX7_law_16 (by decide) (fun c4 => ?_) (fun c4 => ?_)
      · have hf := o_pos hf c4
        refine lv_iload_n hx hb dX7_law_44 rfl (lv_at hl 1 rfl) ?_
        exact hret hf hI dX7_law_45
      · have hf := o_neg hf c4
        refine lv_aload_n hx hb dX7_law_19 rfl (lv_at hl 0 rfl) ?_
        refine lv_iload_n hx hb dX7_law_20 rfl (lv_at hl 2 rfl) ?_
        obtain ⟨r6, σ5, hσ5, hf⟩ := bnd_some hf
        refine m_calli X hI hc [.int x2] (m7_breaksByLaw l D cl Z hz ci A d tm hc x2 σ r6 σ5 hσ5) (cw7_breaksByLaw hts ⟨Nat.le_of_ble_eq_true rfl, Nat.le_of_ble_eq_true rfl⟩) rfl hl.1 (Nat.le_of_ble_eq_true rfl) rfl dX7_law_21 ⟨Nat.le_of_ble_eq_true rfl, Nat.le_of_ble_eq_true rfl⟩ (fun H locs hI => ?_)
        refine lv_aload_n hx hb dX7_law_24 rfl (lv_at hl 0 rfl) ?_
        refine lv_iload_n hx hb dX7_law_25 rfl (lv_at hl 1 rfl) ?_
        obtain ⟨r8, σ7, hσ7, hf⟩ := bnd_some hf
        refine m_calli X hI hc [.int x1] (m7_breaksByLaw l D cl Z hz ci A d tm hc x1 σ5 r8 σ7 hσ7) (cw7_breaksByLaw hts ⟨Nat.le_of_ble_eq_true rfl, Nat.le_of_ble_eq_true rfl⟩) rfl hl.1 (Nat.le_of_ble_eq_true rfl) rfl dX7_law_26 ⟨Nat.le_of_ble_eq_true rfl, Nat.le_of_ble_eq_true rfl⟩ (fun H locs hI => ?_)
        refine lv_icmp_ge (tgt := 36) hx hb dX7_law_29 (by decide) (fun c9 => ?_) (fun c9 => ?_)
        · have hf := o_pos hf c9
          refine lv_iload_n hx hb dX7_law_36 rfl (lv_at hl 1 rfl) ?_
          exact J37 x2 x1 σ7 hf H locs hI ls (lv_sub hl [0, 2] rfl)
        · have hf := o_neg hf c9
          refine lv_iload_n hx hb dX7_law_32 rfl (lv_at hl 2 rfl) ?_
          refine lv_goto (tgt := 37) hx hb dX7_law_33 (by decide) ?_
          exact J37 x2 x2 σ7 hf H locs hI ls (lv_sub hl [0, 2] rfl)
  have hl : lv_has ls 3 [(0, .ref (A 0))] := hl
  unfold f7_law at hf
  obtain ⟨H, eH⟩ : ∃ H, H = s.heap := ⟨_, rfl⟩
  obtain ⟨locs, eL⟩ : ∃ locs : List Loc, locs = [] := ⟨_, rfl⟩
  have hI : XI D cl (mw ci A d σ) A0 s.heap H locs := by rw [eH, eL]; exact hI
  rw [← eL]
  suffices h : W p l e r7_law s m args below meth c H locs 0 0 Q (F0 m 0 ls []) by rw [eH] at h; exact h
  clear eH eL
  refine lv_aload_n hx hb dX7_law_0 rfl (lv_at hl 0 rfl) ?_
  obtain ⟨r2, σ1, hσ1, hf⟩ := bnd_some hf
  refine m_calli X hI hc [] (m7_asks l D cl Z hz ci A d tm hc σ r2 σ1 hσ1) (cw7_asks hts ⟨Nat.le_of_ble_eq_true rfl, Nat.le_of_ble_eq_true rfl⟩) rfl hl.1 (Nat.le_of_ble_eq_true rfl) rfl dX7_law_1 ⟨Nat.le_of_ble_eq_true rfl, Nat.le_of_ble_eq_true rfl⟩ (fun H locs hI => ?_)
  refine lv_if_ne (tgt := 10) hx hb dX7_law_4 (by decide) (fun c3 => ?_) (fun c3 => ?_)
  · have hf := o_neg hf c3
    refine lv_iconst (v := 0) hx hb dX7_law_10 (by decide) ?_
    refine lv_istore_n (lv' := [(1, .int 0), (0, .ref (A 0))]) hx hb dX7_law_11 rfl hl (by decide) rfl (fun ls hl => ?_)
    refine lv_iconst (v := 1) hx hb dX7_law_12 (by decide) ?_
    refine lv_istore_n (lv' := [(2, .int 1), (1, .int 0), (0, .ref (A 0))]) hx hb dX7_law_13 rfl hl (by decide) rfl (fun ls hl => ?_)
    exact L14 FU 0 1 σ1 hf H locs hI ls (lv_sub hl [2, 1, 0] rfl)
  · have hf := o_pos hf c3
    refine lv_bipush (v := -2) hx hb dX7_law_7 (by decide) ?_
    exact hret hf hI dX7_law_9
/-! worthOf -/
def f7_worthOf (p0 : Int32) (σ : MS) : oI Int32 :=
  bn1 (f7_asItIs σ) fun σ1 =>
  bnd (f7_allRules σ1) fun r3 σ2 =>
  bnd (f7_breaksBy ((gI σ1 18) ||| (r3 &&& (p0 ^^^ (-1)))) σ2) fun r5 σ4 =>
  some (r5, σ4)
abbrev r7_worthOf : Room := { frames := 8, cells := 0, slots := 0, locals := 185 }
theorem cw7_worthOf {R : Room} {s : State} {args : Array Value} (ht : ∀ w ∈ lw_all, w.before args s = true) (hR : r7_worthOf.frames + 1 ≤ R.frames ∧ 8 + (2 + 11) + r7_worthOf.locals ≤ R.locals) : CallW R s args RX7 RX7 455 yX7_worthOf cX7_worthOf 2 (some .int) (ws_ yX7_worthOf cX7_worthOf 2 (some .int)) r7_worthOf 0 0 1 :=
  cwV 1 ht (lw_V q3374 q3376 qs159 q178 q3377) rfl rfl rfl (by decide +kernel) hR
theorem m7_worthOf (l : Launch) (D : va_G) (cl : vC2) (Z : (Nat → Prop) → State → Heap → Prop) (hz : ZK Z) (ci : Nat) (A : Nat → Nat) (d : Nat → ClassId) (tm : List (ClassId × FieldType)) (hc : cl.1[ci]? = some (RX7, TX7, 42)) (p0 : Int32) (σ : MS) (r : Int32) (σ' : MS) (hf : f7_worthOf p0 σ = some (r, σ')) : MMi l yX7_worthOf (ws_ yX7_worthOf cX7_worthOf 2 (some .int)) r7_worthOf D cl Z ci A d tm σ [.int p0] r σ' := by
  refine m_openi hz (by decide) (by exact Nat.le_of_ble_eq_true rfl) (fun p e s m args below meth c ls A0 Q X hI hl hret => ?_)
  have X : XC p s m args meth c cX7_worthOf 2 RX7 D cl (mty d tm) A0 Z := X
  have hx := X.1
  have hb := X.2.1
  have hown := X.2.2.2.1
  have hts := X.2.2.2.2.1
  have hl : lv_has ls 2 [(0, .ref (A 0)), (1, .int p0)] := hl
  unfold f7_worthOf at hf
  obtain ⟨H, eH⟩ : ∃ H, H = s.heap := ⟨_, rfl⟩
  obtain ⟨locs, eL⟩ : ∃ locs : List Loc, locs = [] := ⟨_, rfl⟩
  have hI : XI D cl (mw ci A d σ) A0 s.heap H locs := by rw [eH, eL]; exact hI
  rw [← eL]
  suffices h : W p l e r7_worthOf s m args below meth c H locs 0 0 Q (F0 m 0 ls []) by rw [eH] at h; exact h
  clear eH eL
  refine lv_aload_n hx hb dX7_worthOf_0 rfl (lv_at hl 0 rfl) ?_
  obtain ⟨σ1, hσ1, hf⟩ := bn1_some hf
  refine m_callv X hI hc [] (m7_asItIs l D cl Z hz ci A d tm hc σ σ1 hσ1) (cw7_asItIs hts ⟨Nat.le_of_ble_eq_true rfl, Nat.le_of_ble_eq_true rfl⟩) rfl hl.1 (Nat.le_of_ble_eq_true rfl) rfl dX7_worthOf_1 ⟨Nat.le_of_ble_eq_true rfl, Nat.le_of_ble_eq_true rfl⟩ (fun H locs hI => ?_)
  refine lv_aload_n hx hb dX7_worthOf_4 rfl (lv_at hl 0 rfl) ?_
  refine lv_aload_n hx hb dX7_worthOf_5 rfl (lv_at hl 0 rfl) ?_
  refine m_get (v := .int (gI σ1 18)) X hI hc 18 (by decide) q2676 rfl dX7_worthOf_6 ?_
  refine lv_aload_n hx hb dX7_worthOf_9 rfl (lv_at hl 0 rfl) ?_
  obtain ⟨r3, σ2, hσ2, hf⟩ := bnd_some hf
  refine m_calli X hI hc [] (m7_allRules l D cl Z hz ci A d tm hc σ1 r3 σ2 hσ2) (cw7_allRules hts ⟨Nat.le_of_ble_eq_true rfl, Nat.le_of_ble_eq_true rfl⟩) rfl hl.1 (Nat.le_of_ble_eq_true rfl) rfl dX7_worthOf_10 ⟨Nat.le_of_ble_eq_true rfl, Nat.le_of_ble_eq_true rfl⟩ (fun H locs hI => ?_)
  refine lv_iload_n hx hb dX7_worthOf_13 rfl (lv_at hl 1 rfl) ?_
  refine lv_iconst (v := -1) hx hb dX7_worthOf_14 (by decide) ?_
  refine lv_ixor hx hb dX7_worthOf_15 ?_
  refine lv_iand hx hb dX7_worthOf_16 ?_
  refine lv_ior hx hb dX7_worthOf_17 ?_
  obtain ⟨r5, σ4, hσ4, hf⟩ := bnd_some hf
  refine m_calli X hI hc [.int ((gI σ1 18) ||| (r3 &&& (p0 ^^^ (-1))))] (m7_breaksBy l D cl Z hz ci A d tm hc ((gI σ1 18) ||| (r3 &&& (p0 ^^^ (-1)))) σ2 r5 σ4 hσ4) (cw7_breaksBy hts ⟨Nat.le_of_ble_eq_true rfl, Nat.le_of_ble_eq_true rfl⟩) rfl hl.1 (Nat.le_of_ble_eq_true rfl) rfl dX7_worthOf_18 ⟨Nat.le_of_ble_eq_true rfl, Nat.le_of_ble_eq_true rfl⟩ (fun H locs hI => ?_)
  exact hret hf hI dX7_worthOf_21
/-! worth -/
def f7_worth (p0 : Int32) (σ : MS) : oI Int32 :=
  bnd (f7_isBase σ) fun r2 σ1 =>
  if r2 = 0 then (some ((-2), σ1)) else (bnd (f7_allRules σ1) fun r5 σ4 =>
  bn1 (f7_in p0.toInt64 0 r5.toInt64) fun r6 =>
  if r6 = 0 then (some ((-2), σ4)) else (bnd (f7_worthOf p0 σ4) fun r9 σ8 =>
  some (r9, σ8)))
abbrev r7_worth : Room := { frames := 9, cells := 0, slots := 0, locals := 206 }
theorem m7_worth (l : Launch) (D : va_G) (cl : vC2) (Z : (Nat → Prop) → State → Heap → Prop) (hz : ZK Z) (ci : Nat) (A : Nat → Nat) (d : Nat → ClassId) (tm : List (ClassId × FieldType)) (hc : cl.1[ci]? = some (RX7, TX7, 42)) (p0 : Int32) (σ : MS) (r : Int32) (σ' : MS) (hf : f7_worth p0 σ = some (r, σ')) : MMi l yX7_worth (ws_ yX7_worth cX7_worth 2 (some .int)) r7_worth D cl Z ci A d tm σ [.int p0] r σ' := by
  refine m_openi hz (by decide) (by exact Nat.le_of_ble_eq_true rfl) (fun p e s m args below meth c ls A0 Q X hI hl hret => ?_)
  have X : XC p s m args meth c cX7_worth 2 RX7 D cl (mty d tm) A0 Z := X
  have hx := X.1
  have hb := X.2.1
  have hown := X.2.2.2.1
  have hts := X.2.2.2.2.1
  have hl : lv_has ls 2 [(0, .ref (A 0)), (1, .int p0)] := hl
  unfold f7_worth at hf
  obtain ⟨H, eH⟩ : ∃ H, H = s.heap := ⟨_, rfl⟩
  obtain ⟨locs, eL⟩ : ∃ locs : List Loc, locs = [] := ⟨_, rfl⟩
  have hI : XI D cl (mw ci A d σ) A0 s.heap H locs := by rw [eH, eL]; exact hI
  rw [← eL]
  suffices h : W p l e r7_worth s m args below meth c H locs 0 0 Q (F0 m 0 ls []) by rw [eH] at h; exact h
  clear eH eL
  refine lv_aload_n hx hb dX7_worth_0 rfl (lv_at hl 0 rfl) ?_
  obtain ⟨r2, σ1, hσ1, hf⟩ := bnd_some hf
  refine m_calli X hI hc [] (m7_isBase l D cl Z hz ci A d tm hc σ r2 σ1 hσ1) (cw7_isBase hts ⟨Nat.le_of_ble_eq_true rfl, Nat.le_of_ble_eq_true rfl⟩) rfl hl.1 (Nat.le_of_ble_eq_true rfl) rfl dX7_worth_1 ⟨Nat.le_of_ble_eq_true rfl, Nat.le_of_ble_eq_true rfl⟩ (fun H locs hI => ?_)
  refine lv_if_eq (tgt := 29) hx hb dX7_worth_4 (by decide) (fun c3 => ?_) (fun c3 => ?_)
  · have hf := o_pos hf c3
    refine lv_bipush (v := -2) hx hb dX7_worth_29 (by decide) ?_
    exact hret hf hI dX7_worth_31
  · have hf := o_neg hf c3
    refine lv_iload_n hx hb dX7_worth_7 rfl (lv_at hl 1 rfl) ?_
    refine lv_i2l hx hb dX7_worth_8 rfl ?_
    refine lv_lconst (v := 0) hx hb dX7_worth_9 (by decide) ?_
    refine lv_aload_n hx hb dX7_worth_10 rfl (lv_at hl 0 rfl) ?_
    obtain ⟨r5, σ4, hσ4, hf⟩ := bnd_some hf
    refine m_calli X hI hc [] (m7_allRules l D cl Z hz ci A d tm hc σ1 r5 σ4 hσ4) (cw7_allRules hts ⟨Nat.le_of_ble_eq_true rfl, Nat.le_of_ble_eq_true rfl⟩) rfl hl.1 (Nat.le_of_ble_eq_true rfl) rfl dX7_worth_11 ⟨Nat.le_of_ble_eq_true rfl, Nat.le_of_ble_eq_true rfl⟩ (fun H locs hI => ?_)
    refine lv_i2l hx hb dX7_worth_14 rfl ?_
    obtain ⟨r6, hr6, hf⟩ := bn1_some hf
    refine x_callSi (As := [.long p0.toInt64, .long 0, .long r5.toInt64]) X hI (m7_in l p0.toInt64 0 r5.toInt64 r6 hr6) (cw7_in hts ⟨Nat.le_of_ble_eq_true rfl, Nat.le_of_ble_eq_true rfl⟩) rfl hl.1 (Nat.le_of_ble_eq_true rfl) rfl dX7_worth_15 ⟨Nat.le_of_ble_eq_true rfl, Nat.le_of_ble_eq_true rfl⟩ (fun H locs hI => ?_)
    refine lv_if_eq (tgt := 29) hx hb dX7_worth_18 (by decide) (fun c7 => ?_) (fun c7 => ?_)
    · have hf := o_pos hf c7
      refine lv_bipush (v := -2) hx hb dX7_worth_29 (by decide) ?_
      exact hret hf hI dX7_worth_31
    · have hf := o_neg hf c7
      refine lv_aload_n hx hb dX7_worth_21 rfl (lv_at hl 0 rfl) ?_
      refine lv_iload_n hx hb dX7_worth_22 rfl (lv_at hl 1 rfl) ?_
      obtain ⟨r9, σ8, hσ8, hf⟩ := bnd_some hf
      refine m_calli X hI hc [.int p0] (m7_worthOf l D cl Z hz ci A d tm hc p0 σ4 r9 σ8 hσ8) (cw7_worthOf hts ⟨Nat.le_of_ble_eq_true rfl, Nat.le_of_ble_eq_true rfl⟩) rfl hl.1 (Nat.le_of_ble_eq_true rfl) rfl dX7_worth_23 ⟨Nat.le_of_ble_eq_true rfl, Nat.le_of_ble_eq_true rfl⟩ (fun H locs hI => ?_)
      refine lv_goto (tgt := 31) hx hb dX7_worth_26 (by decide) ?_
      exact hret hf hI dX7_worth_31
/-! factorial -/
def f7_factorial_b4 (K4 : Int32 → Int32 → Int32 → Option Int32) (x0 : Int32) (x1 : Int32) (x2 : Int32) : Option Int32 :=
  if x0 < x2 then (some x1) else (K4 x0 (x1 * x2) (x2 + 1))
def f7_factorial_l4 : Nat → Int32 → Int32 → Int32 → Option Int32
  | 0 => fun _ _ _ => none
  | n + 1 => fun x0 x1 x2 => f7_factorial_b4 (f7_factorial_l4 n) x0 x1 x2
def f7_factorial (p0 : Int32) : Option Int32 :=
  f7_factorial_l4 FU p0 1 2
abbrev r7_factorial : Room := { frames := 0, cells := 0, slots := 0, locals := 0 }
theorem cw7_factorial {R : Room} {s : State} {args : Array Value} (ht : ∀ w ∈ lw_all, w.before args s = true) (hR : r7_factorial.frames + 1 ≤ R.frames ∧ 8 + (3 + 11) + r7_factorial.locals ≤ R.locals) : CallB R s args RX7 467 yX7_factorial cX7_factorial 3 (some .int) (ws_ yX7_factorial cX7_factorial 3 (some .int)) r7_factorial 0 0 1 ∧ (Cond.static yX7_factorial).before args s = true :=
  va_cwS 1 ht (lw_S q3383 q3384 q178 q3385) rfl rfl rfl (by decide +kernel) hR
theorem m7_factorial (l : Launch) (p0 : Int32) (r : Int32) (hf : f7_factorial p0 = some r) : XPi l yX7_factorial (ws_ yX7_factorial cX7_factorial 3 (some .int)) r7_factorial [.int p0] r := by
  refine s_openi (by decide) (by exact Nat.le_of_ble_eq_true rfl) (fun p e s m args below meth c ls A0 Q D cl tys X hI hl hret => ?_)
  have X : XC p s m args meth c cX7_factorial 3 RX7 D cl tys A0 ZT := X
  have hx := X.1
  have hb := X.2.1
  have hown := X.2.2.2.1
  have hts := X.2.2.2.2.1
  have L4 : ∀ (n : Nat) (x0 : Int32) (x1 : Int32) (x2 : Int32), f7_factorial_l4 n x0 x1 x2 = some r → ∀ (H : Heap) (locs : List Loc), XI D cl [] A0 s.heap H locs → ∀ (ls : Array Slot), lv_has ls 3 [(0, .int x0), (1, .int x1), (2, .int x2)] → W p l e r7_factorial s m args below meth c H locs 0 0 Q (F0 m 4 ls []) := by
    intro n4
    induction n4 with
    | zero => intro x0 x1 x2 hf; cases hf
    | succ n4 ih4 =>
      intro x0 x1 x2 hf H locs hI ls hl
      have hf : f7_factorial_b4 (f7_factorial_l4 n4) x0 x1 x2 = some r := hf
      unfold f7_factorial_b4 at hf
      refine lv_iload_n hx hb dX7_factorial_4 rfl (lv_at hl 2 rfl) ?_
      refine lv_iload_n hx hb dX7_factorial_5 rfl (lv_at hl 0 rfl) ?_
      refine lv_icmp_gt (tgt := 19) hx hb dX7_factorial_6 (by decide) (fun c1 => ?_) (fun c1 => ?_)
      · have hf := o_pos hf c1
        refine lv_iload_n hx hb dX7_factorial_19 rfl (lv_at hl 1 rfl) ?_
        exact hret hf hI dX7_factorial_20
      · have hf := o_neg hf c1
        refine lv_iload_n hx hb dX7_factorial_9 rfl (lv_at hl 1 rfl) ?_
        refine lv_iload_n hx hb dX7_factorial_10 rfl (lv_at hl 2 rfl) ?_
        refine lv_imul hx hb dX7_factorial_11 ?_
        refine lv_istore_n (lv' := [(1, .int (x1 * x2)), (0, .int x0), (2, .int x2)]) hx hb dX7_factorial_12 rfl hl (by decide) rfl (fun ls hl => ?_)
        refine lv_iinc (v := x2 + 1) (lv' := [(2, .int (x2 + 1)), (1, .int (x1 * x2)), (0, .int x0)]) hx hb dX7_factorial_13 hl (k := 2) rfl rfl (by decide) rfl (fun ls hl => ?_)
        refine lv_goto (tgt := 4) hx hb dX7_factorial_16 (by decide) ?_
        exact ih4 x0 (x1 * x2) (x2 + 1) hf H locs hI ls (lv_sub hl [2, 1, 0] rfl)
  have hl : lv_has ls 3 [(0, .int p0)] := hl
  unfold f7_factorial at hf
  obtain ⟨H, eH⟩ : ∃ H, H = s.heap := ⟨_, rfl⟩
  obtain ⟨locs, eL⟩ : ∃ locs : List Loc, locs = [] := ⟨_, rfl⟩
  have hI : XI D cl [] A0 s.heap H locs := by rw [eH, eL]; exact hI
  rw [← eL]
  suffices h : W p l e r7_factorial s m args below meth c H locs 0 0 Q (F0 m 0 ls []) by rw [eH] at h; exact h
  clear eH eL
  refine lv_iconst (v := 1) hx hb dX7_factorial_0 (by decide) ?_
  refine lv_istore_n (lv' := [(1, .int 1), (0, .int p0)]) hx hb dX7_factorial_1 rfl hl (by decide) rfl (fun ls hl => ?_)
  refine lv_iconst (v := 2) hx hb dX7_factorial_2 (by decide) ?_
  refine lv_istore_n (lv' := [(2, .int 2), (1, .int 1), (0, .int p0)]) hx hb dX7_factorial_3 rfl hl (by decide) rfl (fun ls hl => ?_)
  exact L4 FU p0 1 2 hf H locs hI ls (lv_sub hl [2, 1, 0] rfl)
/-! divisor -/
def f7_divisor_b9 (K9 : Int64 → Int64 → Option Int64) (x4 : Int64) (x6 : Int64) : Option Int64 :=
  if (lg_cmp x6 0) = 0 then (some x4) else (grd (nzl x6) <|
  K9 x6 (x4 - x4 / x6 * x6))
def f7_divisor_l9 : Nat → Int64 → Int64 → Option Int64
  | 0 => fun _ _ => none
  | n + 1 => fun x4 x6 => f7_divisor_b9 (f7_divisor_l9 n) x4 x6
def f7_divisor (p0 : Int64) (p1 : Int64) : Option Int64 :=
  nxt (if 0 < p0 then p0 else -p0) fun v1 =>
  f7_divisor_l9 FU v1 p1
abbrev r7_divisor : Room := { frames := 1, cells := 0, slots := 0, locals := 21 }
theorem cw7_divisor {R : Room} {s : State} {args : Array Value} (ht : ∀ w ∈ lw_all, w.before args s = true) (hR : r7_divisor.frames + 1 ≤ R.frames ∧ 8 + (10 + 11) + r7_divisor.locals ≤ R.locals) : CallB R s args RX7 462 yX7_divisor cX7_divisor 10 (some .long) (ws_ yX7_divisor cX7_divisor 10 (some .long)) r7_divisor 0 0 2 ∧ (Cond.static yX7_divisor).before args s = true :=
  va_cwS 2 ht (lw_S q3389 q3390 q178 q3391) rfl rfl rfl (by decide +kernel) hR
theorem m7_divisor (l : Launch) (p0 : Int64) (p1 : Int64) (r : Int64) (hf : f7_divisor p0 p1 = some r) : XPl l yX7_divisor (ws_ yX7_divisor cX7_divisor 10 (some .long)) r7_divisor [.long p0, .long p1] r := by
  refine s_openl (by decide) (by exact Nat.le_of_ble_eq_true rfl) (fun p e s m args below meth c ls A0 Q D cl tys X hI hl hret => ?_)
  have X : XC p s m args meth c cX7_divisor 10 RX7 D cl tys A0 ZT := X
  have hx := X.1
  have hb := X.2.1
  have hown := X.2.2.2.1
  have hts := X.2.2.2.2.1
  have L9 : ∀ (n : Nat) (x4 : Int64) (x6 : Int64), f7_divisor_l9 n x4 x6 = some r → ∀ (H : Heap) (locs : List Loc), XI D cl [] A0 s.heap H locs → ∀ (ls : Array Slot), lv_has ls 10 [(4, .long x4), (6, .long x6)] → W p l e r7_divisor s m args below meth c H locs 0 0 Q (F0 m 9 ls []) := by
    intro n9
    induction n9 with
    | zero => intro x4 x6 hf; cases hf
    | succ n9 ih9 =>
      intro x4 x6 hf H locs hI ls hl
      have hf : f7_divisor_b9 (f7_divisor_l9 n9) x4 x6 = some r := hf
      unfold f7_divisor_b9 at hf
      refine lv_lload hx hb dX7_divisor_9 (lv_at hl 1 rfl) ?_
      refine lv_lconst (v := 0) hx hb dX7_divisor_11 (by decide) ?_
      refine W.lcmp hx hb dX7_divisor_12 ?_
      refine lv_if_eq (tgt := 34) hx hb dX7_divisor_13 (by decide) (fun c2 => ?_) (fun c2 => ?_)
      · have hf := o_pos hf c2
        refine lv_lload hx hb dX7_divisor_34 (lv_at hl 0 rfl) ?_
        exact hret hf hI dX7_divisor_36
      · have hf := o_neg hf c2
        refine lv_lload hx hb dX7_divisor_16 (lv_at hl 0 rfl) ?_
        refine lv_lload hx hb dX7_divisor_18 (lv_at hl 1 rfl) ?_
        obtain ⟨g3, hf⟩ := grd_some hf
        refine lv_lrem hx hb dX7_divisor_20 (nzl_n g3) ?_
        refine lv_lstore (lv' := [(8, .long (x4 - x4 / x6 * x6)), (4, .long x4), (6, .long x6)]) hx hb dX7_divisor_21 hl (by decide) rfl (fun ls hl => ?_)
        refine lv_lload hx hb dX7_divisor_23 (lv_at hl 2 rfl) ?_
        refine lv_lstore (lv' := [(4, .long x6), (8, .long (x4 - x4 / x6 * x6)), (6, .long x6)]) hx hb dX7_divisor_25 hl (by decide) rfl (fun ls hl => ?_)
        refine lv_lload hx hb dX7_divisor_27 (lv_at hl 1 rfl) ?_
        refine lv_lstore (lv' := [(6, .long (x4 - x4 / x6 * x6)), (4, .long x6), (8, .long (x4 - x4 / x6 * x6))]) hx hb dX7_divisor_29 hl (by decide) rfl (fun ls hl => ?_)
        refine lv_goto (tgt := 9) hx hb dX7_divisor_31 (by decide) ?_
        exact ih9 x6 (x4 - x4 / x6 * x6) hf H locs hI ls (lv_sub hl [1, 0] rfl)
  have hl : lv_has ls 10 [(0, .long p0), (2, .long p1)] := hl
  unfold f7_divisor at hf
  obtain ⟨H, eH⟩ : ∃ H, H = s.heap := ⟨_, rfl⟩
  obtain ⟨locs, eL⟩ : ∃ locs : List Loc, locs = [] := ⟨_, rfl⟩
  have hI : XI D cl [] A0 s.heap H locs := by rw [eH, eL]; exact hI
  rw [← eL]
  suffices h : W p l e r7_divisor s m args below meth c H locs 0 0 Q (F0 m 0 ls []) by rw [eH] at h; exact h
  clear eH eL
  refine lv_lload_n hx hb dX7_divisor_0 rfl (lv_at hl 0 rfl) ?_
  refine x_mabsl X hl.1 q3392 q2455 q173 q2456 ⟨Nat.le_of_ble_eq_true rfl, Nat.le_of_ble_eq_true rfl⟩ (Nat.le_of_ble_eq_true rfl) ⟨Nat.le_of_ble_eq_true rfl, Nat.le_of_ble_eq_true rfl⟩ dX7_divisor_1 ?_
  obtain ⟨v1, ev1, hf⟩ := nxt_some hf
  rw [← ev1]
  clear ev1
  refine lv_lstore (lv' := [(4, .long v1), (0, .long p0), (2, .long p1)]) hx hb dX7_divisor_4 hl (by decide) rfl (fun ls hl => ?_)
  refine lv_lload_n hx hb dX7_divisor_6 rfl (lv_at hl 2 rfl) ?_
  refine lv_lstore (lv' := [(6, .long p1), (4, .long v1), (0, .long p0), (2, .long p1)]) hx hb dX7_divisor_7 hl (by decide) rfl (fun ls hl => ?_)
  exact L9 FU v1 p1 hf H locs hI ls (lv_sub hl [1, 0] rfl)
/-! part -/
def f7_part_b10 (x0 : Int64) (x2 : Int64) (z0 : Int64) : Option Int64 :=
  bn1 (f7_divisor x0 x2) fun r2 =>
  grd (nzl r2) <|
  some (z0 / r2)
def f7_part (p0 : Int64) (p1 : Int64) (p2 : Int32) : Option Int64 :=
  if p2 = 0 then (f7_part_b10 p0 p1 p0) else (f7_part_b10 p0 p1 p1)
abbrev r7_part : Room := { frames := 2, cells := 0, slots := 0, locals := 50 }
theorem cw7_part {R : Room} {s : State} {args : Array Value} (ht : ∀ w ∈ lw_all, w.before args s = true) (hR : r7_part.frames + 1 ≤ R.frames ∧ 8 + (5 + 11) + r7_part.locals ≤ R.locals) : CallB R s args RX7 470 yX7_part cX7_part 5 (some .long) (ws_ yX7_part cX7_part 5 (some .long)) r7_part 0 0 3 ∧ (Cond.static yX7_part).before args s = true :=
  va_cwS 3 ht (lw_S q3386 q3387 q178 q3388) rfl rfl rfl (by decide +kernel) hR
theorem m7_part (l : Launch) (p0 : Int64) (p1 : Int64) (p2 : Int32) (r : Int64) (hf : f7_part p0 p1 p2 = some r) : XPl l yX7_part (ws_ yX7_part cX7_part 5 (some .long)) r7_part [.long p0, .long p1, .int p2] r := by
  refine s_openl (by decide) (by exact Nat.le_of_ble_eq_true rfl) (fun p e s m args below meth c ls A0 Q D cl tys X hI hl hret => ?_)
  have X : XC p s m args meth c cX7_part 5 RX7 D cl tys A0 ZT := X
  have hx := X.1
  have hb := X.2.1
  have hown := X.2.2.2.1
  have hts := X.2.2.2.2.1
  have J10 : ∀ (x0 : Int64) (x2 : Int64) (z0 : Int64), f7_part_b10 x0 x2 z0 = some r → ∀ (H : Heap) (locs : List Loc), XI D cl [] A0 s.heap H locs → ∀ (ls : Array Slot), lv_has ls 5 [(0, .long x0), (2, .long x2)] → W p l e r7_part s m args below meth c H locs 0 0 Q (F0 m 10 ls [.long z0]) := by
    intro x0 x2 z0 hf H locs hI ls hl
    unfold f7_part_b10 at hf
    refine lv_lload_n hx hb dX7_part_10 rfl (lv_at hl 0 rfl) ?_
    refine lv_lload_n hx hb dX7_part_11 rfl (lv_at hl 1 rfl) ?_
    obtain ⟨r2, hr2, hf⟩ := bn1_some hf
    refine x_callSl (As := [.long x0, .long x2]) X hI (m7_divisor l x0 x2 r2 hr2) (cw7_divisor hts ⟨Nat.le_of_ble_eq_true rfl, Nat.le_of_ble_eq_true rfl⟩) rfl hl.1 (Nat.le_of_ble_eq_true rfl) rfl dX7_part_12 ⟨Nat.le_of_ble_eq_true rfl, Nat.le_of_ble_eq_true rfl⟩ (fun H locs hI => ?_)
    obtain ⟨g3, hf⟩ := grd_some hf
    refine lv_ldiv hx hb dX7_part_15 (nzl_n g3) ?_
    exact hret hf hI dX7_part_16
  have hl : lv_has ls 5 [(0, .long p0), (2, .long p1), (4, .int p2)] := hl
  unfold f7_part at hf
  obtain ⟨H, eH⟩ : ∃ H, H = s.heap := ⟨_, rfl⟩
  obtain ⟨locs, eL⟩ : ∃ locs : List Loc, locs = [] := ⟨_, rfl⟩
  have hI : XI D cl [] A0 s.heap H locs := by rw [eH, eL]; exact hI
  rw [← eL]
  suffices h : W p l e r7_part s m args below meth c H locs 0 0 Q (F0 m 0 ls []) by rw [eH] at h; exact h
  clear eH eL
  refine lv_iload hx hb dX7_part_0 (lv_at hl 2 rfl) ?_
  refine lv_if_ne (tgt := 9) hx hb dX7_part_2 (by decide) (fun c1 => ?_) (fun c1 => ?_)
  · have hf := o_neg hf c1
    refine lv_lload_n hx hb dX7_part_9 rfl (lv_at hl 1 rfl) ?_
    exact J10 p0 p1 p1 hf H locs hI ls (lv_sub hl [0, 1] rfl)
  · have hf := o_pos hf c1
    refine lv_lload_n hx hb dX7_part_5 rfl (lv_at hl 0 rfl) ?_
    refine lv_goto (tgt := 10) hx hb dX7_part_6 (by decide) ?_
    exact J10 p0 p1 p0 hf H locs hI ls (lv_sub hl [0, 1] rfl)
/-! share -/
def f7_share_b129 (K63 : Int32 → Int32 → Int32 → Int64 → Int32 → MS → oI Int32) (x1 : Int32) (x2 : Int32) (x3 : Int32) (x4 : Int64) (x6 : Int32) (σ : MS) : oI Int32 :=
  K63 x1 x2 x3 x4 (x6 + 1) σ
def f7_share_b63 (K63 : Int32 → Int32 → Int32 → Int64 → Int32 → MS → oI Int32) (x1 : Int32) (x2 : Int32) (x3 : Int32) (x4 : Int64) (x6 : Int32) (σ : MS) : oI Int32 :=
  if ((1 : Int32) <<< (x3 &&& 31)) ≤ x6 then (bn1 (f7_factorial x3) fun r14 =>
  bn1 (f7_part x4 r14.toInt64 x2) fun r15 =>
  some (r15.toInt32, σ)) else (bn1 (f7_bit x6 x1) fun r16 =>
  if r16 = 0 then (bn1 (f7_bits x6) fun r18 =>
  bn1 (f7_factorial r18) fun r19 =>
  bn1 (f7_bits x6) fun r20 =>
  bn1 (f7_factorial ((x3 - 1) - r20)) fun r21 =>
  grd (inB (x6 ||| ((1 : Int32) <<< (x1 &&& 31))) 32) <|
  grd (inB x6 32) <|
  nxt (x4 + ((r19.toInt64 * r21.toInt64) * (((gA σ 34 (x6 ||| ((1 : Int32) <<< (x1 &&& 31))).toNatClampNeg) - (gA σ 34 x6.toNatClampNeg)).toInt64))) fun v24 =>
  f7_share_b129 K63 x1 x2 x3 v24 x6 σ) else (f7_share_b129 K63 x1 x2 x3 x4 x6 σ))
def f7_share_l63 : Nat → Int32 → Int32 → Int32 → Int64 → Int32 → MS → oI Int32
  | 0 => fun _ _ _ _ _ _ => none
  | n + 1 => fun x1 x2 x3 x4 x6 σ => f7_share_b63 (f7_share_l63 n) x1 x2 x3 x4 x6 σ
def f7_share_b30 (K30 : Int32 → Int32 → Int32 → Int32 → MS → oI Int32) (x1 : Int32) (x2 : Int32) (x3 : Int32) (x4 : Int32) (σ : MS) : oI Int32 :=
  if ((1 : Int32) <<< (x3 &&& 31)) ≤ x4 then (f7_share_l63 FU x1 x2 x3 0 0 σ) else (bnd (f7_worthOf x4 σ) fun r10 σ9 =>
  grd (inB x4 32) <|
  nxt (sA σ9 34 x4.toNatClampNeg r10) fun σ12 =>
  K30 x1 x2 x3 (x4 + 1) σ12)
def f7_share_l30 : Nat → Int32 → Int32 → Int32 → Int32 → MS → oI Int32
  | 0 => fun _ _ _ _ _ => none
  | n + 1 => fun x1 x2 x3 x4 σ => f7_share_b30 (f7_share_l30 n) x1 x2 x3 x4 σ
def f7_share (p0 : Int32) (p1 : Int32) (σ : MS) : oI Int32 :=
  bnd (f7_isRule p0 σ) fun r2 σ1 =>
  if r2 = 0 then (some ((-1000000), σ1)) else (bn1 (f7_in p1.toInt64 0 1) fun r4 =>
  if r4 = 0 then (some ((-1000000), σ1)) else (bnd (f7_rules σ1) fun r7 σ6 =>
  f7_share_l30 FU p0 p1 r7 0 σ6))
abbrev r7_share : Room := { frames := 9, cells := 0, slots := 0, locals := 206 }
theorem m7_share (l : Launch) (D : va_G) (cl : vC2) (Z : (Nat → Prop) → State → Heap → Prop) (hz : ZK Z) (ci : Nat) (A : Nat → Nat) (d : Nat → ClassId) (tm : List (ClassId × FieldType)) (hc : cl.1[ci]? = some (RX7, TX7, 42)) (p0 : Int32) (p1 : Int32) (σ : MS) (r : Int32) (σ' : MS) (hf : f7_share p0 p1 σ = some (r, σ')) : MMi l yX7_share (ws_ yX7_share cX7_share 7 (some .int)) r7_share D cl Z ci A d tm σ [.int p0, .int p1] r σ' := by
  refine m_openi hz (by decide) (by exact Nat.le_of_ble_eq_true rfl) (fun p e s m args below meth c ls A0 Q X hI hl hret => ?_)
  have X : XC p s m args meth c cX7_share 7 RX7 D cl (mty d tm) A0 Z := X
  have hx := X.1
  have hb := X.2.1
  have hown := X.2.2.2.1
  have hts := X.2.2.2.2.1
  have L63 : ∀ (n : Nat) (x1 : Int32) (x2 : Int32) (x3 : Int32) (x4 : Int64) (x6 : Int32) (σ : MS), f7_share_l63 n x1 x2 x3 x4 x6 σ = some (r, σ') → ∀ (H : Heap) (locs : List Loc), XI D cl (mw ci A d σ) A0 s.heap H locs → ∀ (ls : Array Slot), lv_has ls 7 [(0, .ref (A 0)), (1, .int x1), (2, .int x2), (3, .int x3), (4, .long x4), (6, .int x6)] → W p l e r7_share s m args below meth c H locs 0 0 Q (F0 m 63 ls []) := by
    intro n63
    induction n63 with
    | zero => intro x1 x2 x3 x4 x6 σ hf; cases hf
    | succ n63 ih63 =>
      have J129 : ∀ (x1 : Int32) (x2 : Int32) (x3 : Int32) (x4 : Int64) (x6 : Int32) (σ : MS), f7_share_b129 (f7_share_l63 n63) x1 x2 x3 x4 x6 σ = some (r, σ') → ∀ (H : Heap) (locs : List Loc), XI D cl (mw ci A d σ) A0 s.heap H locs → ∀ (ls : Array Slot), lv_has ls 7 [(0, .ref (A 0)), (1, .int x1), (2, .int x2), (3, .int x3), (4, .long x4), (6, .int x6)] → W p l e r7_share s m args below meth c H locs 0 0 Q (F0 m 129 ls []) := by
        intro x1 x2 x3 x4 x6 σ hf H locs hI ls hl
        unfold f7_share_b129 at hf
        refine lv_iinc (v := x6 + 1) (lv' := [(6, .int (x6 + 1)), (0, .ref (A 0)), (1, .int x1), (2, .int x2), (3, .int x3), (4, .long x4)]) hx hb dX7_share_129 hl (k := 5) rfl rfl (by decide) rfl (fun ls hl => ?_)
        refine lv_goto (tgt := 63) hx hb dX7_share_132 (by decide) ?_
        exact ih63 x1 x2 x3 x4 (x6 + 1) σ hf H locs hI ls (lv_sub hl [1, 2, 3, 4, 5, 0] rfl)
      intro x1 x2 x3 x4 x6 σ hf H locs hI ls hl
      have hf : f7_share_b63 (f7_share_l63 n63) x1 x2 x3 x4 x6 σ = some (r, σ') := hf
      unfold f7_share_b63 at hf
      refine lv_iload hx hb dX7_share_63 (lv_at hl 5 rfl) ?_
      refine lv_iconst (v := 1) hx hb dX7_share_65 (by decide) ?_
      refine lv_iload_n hx hb dX7_share_66 rfl (lv_at hl 3 rfl) ?_
      refine lv_ishl hx hb dX7_share_67 ?_
      refine lv_icmp_ge (tgt := 135) hx hb dX7_share_68 (by decide) (fun c13 => ?_) (fun c13 => ?_)
      · have hf := o_pos hf c13
        refine lv_lload hx hb dX7_share_135 (lv_at hl 4 rfl) ?_
        refine lv_iload_n hx hb dX7_share_137 rfl (lv_at hl 3 rfl) ?_
        obtain ⟨r14, hr14, hf⟩ := bn1_some hf
        refine x_callSi (As := [.int x3]) X hI (m7_factorial l x3 r14 hr14) (cw7_factorial hts ⟨Nat.le_of_ble_eq_true rfl, Nat.le_of_ble_eq_true rfl⟩) rfl hl.1 (Nat.le_of_ble_eq_true rfl) rfl dX7_share_138 ⟨Nat.le_of_ble_eq_true rfl, Nat.le_of_ble_eq_true rfl⟩ (fun H locs hI => ?_)
        refine lv_i2l hx hb dX7_share_141 rfl ?_
        refine lv_iload_n hx hb dX7_share_142 rfl (lv_at hl 2 rfl) ?_
        obtain ⟨r15, hr15, hf⟩ := bn1_some hf
        refine x_callSl (As := [.long x4, .long r14.toInt64, .int x2]) X hI (m7_part l x4 r14.toInt64 x2 r15 hr15) (cw7_part hts ⟨Nat.le_of_ble_eq_true rfl, Nat.le_of_ble_eq_true rfl⟩) rfl hl.1 (Nat.le_of_ble_eq_true rfl) rfl dX7_share_143 ⟨Nat.le_of_ble_eq_true rfl, Nat.le_of_ble_eq_true rfl⟩ (fun H locs hI => ?_)
        refine lv_l2i hx hb dX7_share_146 rfl ?_
        exact hret hf hI dX7_share_147
      · have hf := o_neg hf c13
        refine lv_iload hx hb dX7_share_71 (lv_at hl 5 rfl) ?_
        refine lv_iload_n hx hb dX7_share_73 rfl (lv_at hl 1 rfl) ?_
        obtain ⟨r16, hr16, hf⟩ := bn1_some hf
        refine x_callSi (As := [.int x6, .int x1]) X hI (m7_bit l x6 x1 r16 hr16) (cw7_bit hts ⟨Nat.le_of_ble_eq_true rfl, Nat.le_of_ble_eq_true rfl⟩) rfl hl.1 (Nat.le_of_ble_eq_true rfl) rfl dX7_share_74 ⟨Nat.le_of_ble_eq_true rfl, Nat.le_of_ble_eq_true rfl⟩ (fun H locs hI => ?_)
        refine lv_if_ne (tgt := 129) hx hb dX7_share_77 (by decide) (fun c17 => ?_) (fun c17 => ?_)
        · have hf := o_neg hf c17
          exact J129 x1 x2 x3 x4 x6 σ hf H locs hI ls (lv_sub hl [0, 1, 2, 3, 4, 5] rfl)
        · have hf := o_pos hf c17
          refine lv_lload hx hb dX7_share_80 (lv_at hl 4 rfl) ?_
          refine lv_iload hx hb dX7_share_82 (lv_at hl 5 rfl) ?_
          obtain ⟨r18, hr18, hf⟩ := bn1_some hf
          refine x_callSi (As := [.int x6]) X hI (m7_bits l x6 r18 hr18) (cw7_bits hts ⟨Nat.le_of_ble_eq_true rfl, Nat.le_of_ble_eq_true rfl⟩) rfl hl.1 (Nat.le_of_ble_eq_true rfl) rfl dX7_share_84 ⟨Nat.le_of_ble_eq_true rfl, Nat.le_of_ble_eq_true rfl⟩ (fun H locs hI => ?_)
          obtain ⟨r19, hr19, hf⟩ := bn1_some hf
          refine x_callSi (As := [.int r18]) X hI (m7_factorial l r18 r19 hr19) (cw7_factorial hts ⟨Nat.le_of_ble_eq_true rfl, Nat.le_of_ble_eq_true rfl⟩) rfl hl.1 (Nat.le_of_ble_eq_true rfl) rfl dX7_share_87 ⟨Nat.le_of_ble_eq_true rfl, Nat.le_of_ble_eq_true rfl⟩ (fun H locs hI => ?_)
          refine lv_i2l hx hb dX7_share_90 rfl ?_
          refine lv_iload_n hx hb dX7_share_91 rfl (lv_at hl 3 rfl) ?_
          refine lv_iconst (v := 1) hx hb dX7_share_92 (by decide) ?_
          refine lv_isub hx hb dX7_share_93 ?_
          refine lv_iload hx hb dX7_share_94 (lv_at hl 5 rfl) ?_
          obtain ⟨r20, hr20, hf⟩ := bn1_some hf
          refine x_callSi (As := [.int x6]) X hI (m7_bits l x6 r20 hr20) (cw7_bits hts ⟨Nat.le_of_ble_eq_true rfl, Nat.le_of_ble_eq_true rfl⟩) rfl hl.1 (Nat.le_of_ble_eq_true rfl) rfl dX7_share_96 ⟨Nat.le_of_ble_eq_true rfl, Nat.le_of_ble_eq_true rfl⟩ (fun H locs hI => ?_)
          refine lv_isub hx hb dX7_share_99 ?_
          obtain ⟨r21, hr21, hf⟩ := bn1_some hf
          refine x_callSi (As := [.int ((x3 - 1) - r20)]) X hI (m7_factorial l ((x3 - 1) - r20) r21 hr21) (cw7_factorial hts ⟨Nat.le_of_ble_eq_true rfl, Nat.le_of_ble_eq_true rfl⟩) rfl hl.1 (Nat.le_of_ble_eq_true rfl) rfl dX7_share_100 ⟨Nat.le_of_ble_eq_true rfl, Nat.le_of_ble_eq_true rfl⟩ (fun H locs hI => ?_)
          refine lv_i2l hx hb dX7_share_103 rfl ?_
          refine lv_lmul hx hb dX7_share_104 ?_
          refine lv_aload_n hx hb dX7_share_105 rfl (lv_at hl 0 rfl) ?_
          refine m_get (v := .ref (A 34)) X hI hc 34 (by decide) q2692 rfl dX7_share_106 ?_
          refine lv_iload hx hb dX7_share_109 (lv_at hl 5 rfl) ?_
          refine lv_iconst (v := 1) hx hb dX7_share_111 (by decide) ?_
          refine lv_iload_n hx hb dX7_share_112 rfl (lv_at hl 1 rfl) ?_
          refine lv_ishl hx hb dX7_share_113 ?_
          refine lv_ior hx hb dX7_share_114 ?_
          obtain ⟨g22, hf⟩ := grd_some hf
          refine m_iald X hI 34 14 32 rfl rfl g22 dX7_share_115 ?_
          refine lv_aload_n hx hb dX7_share_116 rfl (lv_at hl 0 rfl) ?_
          refine m_get (v := .ref (A 34)) X hI hc 34 (by decide) q2692 rfl dX7_share_117 ?_
          refine lv_iload hx hb dX7_share_120 (lv_at hl 5 rfl) ?_
          obtain ⟨g23, hf⟩ := grd_some hf
          refine m_iald X hI 34 14 32 rfl rfl g23 dX7_share_122 ?_
          refine lv_isub hx hb dX7_share_123 ?_
          refine lv_i2l hx hb dX7_share_124 rfl ?_
          refine lv_lmul hx hb dX7_share_125 ?_
          refine lv_ladd hx hb dX7_share_126 ?_
          obtain ⟨v24, ev24, hf⟩ := nxt_some hf
          rw [← ev24]
          clear ev24
          refine lv_lstore (lv' := [(4, .long v24), (0, .ref (A 0)), (1, .int x1), (2, .int x2), (3, .int x3), (6, .int x6)]) hx hb dX7_share_127 hl (by decide) rfl (fun ls hl => ?_)
          exact J129 x1 x2 x3 v24 x6 σ hf H locs hI ls (lv_sub hl [1, 2, 3, 4, 0, 5] rfl)
  have L30 : ∀ (n : Nat) (x1 : Int32) (x2 : Int32) (x3 : Int32) (x4 : Int32) (σ : MS), f7_share_l30 n x1 x2 x3 x4 σ = some (r, σ') → ∀ (H : Heap) (locs : List Loc), XI D cl (mw ci A d σ) A0 s.heap H locs → ∀ (ls : Array Slot), lv_has ls 7 [(0, .ref (A 0)), (1, .int x1), (2, .int x2), (3, .int x3), (4, .int x4)] → W p l e r7_share s m args below meth c H locs 0 0 Q (F0 m 30 ls []) := by
    intro n30
    induction n30 with
    | zero => intro x1 x2 x3 x4 σ hf; cases hf
    | succ n30 ih30 =>
      intro x1 x2 x3 x4 σ hf H locs hI ls hl
      have hf : f7_share_b30 (f7_share_l30 n30) x1 x2 x3 x4 σ = some (r, σ') := hf
      unfold f7_share_b30 at hf
      refine lv_iload hx hb dX7_share_30 (lv_at hl 4 rfl) ?_
      refine lv_iconst (v := 1) hx hb dX7_share_32 (by decide) ?_
      refine lv_iload_n hx hb dX7_share_33 rfl (lv_at hl 3 rfl) ?_
      refine lv_ishl hx hb dX7_share_34 ?_
      refine lv_icmp_ge (tgt := 57) hx hb dX7_share_35 (by decide) (fun c8 => ?_) (fun c8 => ?_)
      · have hf := o_pos hf c8
        refine lv_lconst (v := 0) hx hb dX7_share_57 (by decide) ?_
        refine lv_lstore (lv' := [(4, .long 0), (0, .ref (A 0)), (1, .int x1), (2, .int x2), (3, .int x3)]) hx hb dX7_share_58 hl (by decide) rfl (fun ls hl => ?_)
        refine lv_iconst (v := 0) hx hb dX7_share_60 (by decide) ?_
        refine lv_istore (lv' := [(6, .int 0), (4, .long 0), (0, .ref (A 0)), (1, .int x1), (2, .int x2), (3, .int x3)]) hx hb dX7_share_61 hl (by decide) rfl (fun ls hl => ?_)
        exact L63 FU x1 x2 x3 0 0 σ hf H locs hI ls (lv_sub hl [2, 3, 4, 5, 1, 0] rfl)
      · have hf := o_neg hf c8
        refine lv_aload_n hx hb dX7_share_38 rfl (lv_at hl 0 rfl) ?_
        refine m_get (v := .ref (A 34)) X hI hc 34 (by decide) q2692 rfl dX7_share_39 ?_
        refine lv_iload hx hb dX7_share_42 (lv_at hl 4 rfl) ?_
        refine lv_aload_n hx hb dX7_share_44 rfl (lv_at hl 0 rfl) ?_
        refine lv_iload hx hb dX7_share_45 (lv_at hl 4 rfl) ?_
        obtain ⟨r10, σ9, hσ9, hf⟩ := bnd_some hf
        refine m_calli X hI hc [.int x4] (m7_worthOf l D cl Z hz ci A d tm hc x4 σ r10 σ9 hσ9) (cw7_worthOf hts ⟨Nat.le_of_ble_eq_true rfl, Nat.le_of_ble_eq_true rfl⟩) rfl hl.1 (Nat.le_of_ble_eq_true rfl) rfl dX7_share_47 ⟨Nat.le_of_ble_eq_true rfl, Nat.le_of_ble_eq_true rfl⟩ (fun H locs hI => ?_)
        obtain ⟨g11, hf⟩ := grd_some hf
        refine m_iast X hI 34 14 32 rfl rfl g11 rfl dX7_share_50 (fun H locs hI => ?_)
        obtain ⟨σ12, eσ12, hf⟩ := nxt_some hf
        rw [← eσ12] at hI
        clear eσ12
        refine lv_iinc (v := x4 + 1) (lv' := [(4, .int (x4 + 1)), (0, .ref (A 0)), (1, .int x1), (2, .int x2), (3, .int x3)]) hx hb dX7_share_51 hl (k := 4) rfl rfl (by decide) rfl (fun ls hl => ?_)
        refine lv_goto (tgt := 30) hx hb dX7_share_54 (by decide) ?_
        exact ih30 x1 x2 x3 (x4 + 1) σ12 hf H locs hI ls (lv_sub hl [1, 2, 3, 4, 0] rfl)
  have hl : lv_has ls 7 [(0, .ref (A 0)), (1, .int p0), (2, .int p1)] := hl
  unfold f7_share at hf
  obtain ⟨H, eH⟩ : ∃ H, H = s.heap := ⟨_, rfl⟩
  obtain ⟨locs, eL⟩ : ∃ locs : List Loc, locs = [] := ⟨_, rfl⟩
  have hI : XI D cl (mw ci A d σ) A0 s.heap H locs := by rw [eH, eL]; exact hI
  rw [← eL]
  suffices h : W p l e r7_share s m args below meth c H locs 0 0 Q (F0 m 0 ls []) by rw [eH] at h; exact h
  clear eH eL
  refine lv_aload_n hx hb dX7_share_0 rfl (lv_at hl 0 rfl) ?_
  refine lv_iload_n hx hb dX7_share_1 rfl (lv_at hl 1 rfl) ?_
  obtain ⟨r2, σ1, hσ1, hf⟩ := bnd_some hf
  refine m_calli X hI hc [.int p0] (m7_isRule l D cl Z hz ci A d tm hc p0 σ r2 σ1 hσ1) (cw7_isRule hts ⟨Nat.le_of_ble_eq_true rfl, Nat.le_of_ble_eq_true rfl⟩) rfl hl.1 (Nat.le_of_ble_eq_true rfl) rfl dX7_share_2 ⟨Nat.le_of_ble_eq_true rfl, Nat.le_of_ble_eq_true rfl⟩ (fun H locs hI => ?_)
  refine lv_if_eq (tgt := 18) hx hb dX7_share_5 (by decide) (fun c3 => ?_) (fun c3 => ?_)
  · have hf := o_pos hf c3
    refine lv_ldcw (v := -1000000) hx hb hown (hts _ q3382) dX7_share_18 ?_
    exact hret hf hI dX7_share_21
  · have hf := o_neg hf c3
    refine lv_iload_n hx hb dX7_share_8 rfl (lv_at hl 2 rfl) ?_
    refine lv_i2l hx hb dX7_share_9 rfl ?_
    refine lv_lconst (v := 0) hx hb dX7_share_10 (by decide) ?_
    refine lv_lconst (v := 1) hx hb dX7_share_11 (by decide) ?_
    obtain ⟨r4, hr4, hf⟩ := bn1_some hf
    refine x_callSi (As := [.long p1.toInt64, .long 0, .long 1]) X hI (m7_in l p1.toInt64 0 1 r4 hr4) (cw7_in hts ⟨Nat.le_of_ble_eq_true rfl, Nat.le_of_ble_eq_true rfl⟩) rfl hl.1 (Nat.le_of_ble_eq_true rfl) rfl dX7_share_12 ⟨Nat.le_of_ble_eq_true rfl, Nat.le_of_ble_eq_true rfl⟩ (fun H locs hI => ?_)
    refine lv_if_ne (tgt := 22) hx hb dX7_share_15 (by decide) (fun c5 => ?_) (fun c5 => ?_)
    · have hf := o_neg hf c5
      refine lv_aload_n hx hb dX7_share_22 rfl (lv_at hl 0 rfl) ?_
      obtain ⟨r7, σ6, hσ6, hf⟩ := bnd_some hf
      refine m_calli X hI hc [] (m7_rules l D cl Z hz ci A d tm hc σ1 r7 σ6 hσ6) (cw7_rules hts ⟨Nat.le_of_ble_eq_true rfl, Nat.le_of_ble_eq_true rfl⟩) rfl hl.1 (Nat.le_of_ble_eq_true rfl) rfl dX7_share_23 ⟨Nat.le_of_ble_eq_true rfl, Nat.le_of_ble_eq_true rfl⟩ (fun H locs hI => ?_)
      refine lv_istore_n (lv' := [(3, .int r7), (0, .ref (A 0)), (1, .int p0), (2, .int p1)]) hx hb dX7_share_26 rfl hl (by decide) rfl (fun ls hl => ?_)
      refine lv_iconst (v := 0) hx hb dX7_share_27 (by decide) ?_
      refine lv_istore (lv' := [(4, .int 0), (3, .int r7), (0, .ref (A 0)), (1, .int p0), (2, .int p1)]) hx hb dX7_share_28 hl (by decide) rfl (fun ls hl => ?_)
      exact L30 FU p0 p1 r7 0 σ6 hf H locs hI ls (lv_sub hl [2, 3, 4, 1, 0] rfl)
    · have hf := o_pos hf c5
      refine lv_ldcw (v := -1000000) hx hb hown (hts _ q3382) dX7_share_18 ?_
      exact hret hf hI dX7_share_21
/-! areTwo -/
def f7_areTwo (p0 : Int32) (p1 : Int32) (σ : MS) : oI Int32 :=
  bnd (f7_isOp p0 σ) fun r2 σ1 =>
  if r2 = 0 then (some (0, σ1)) else (bnd (f7_isOp p1 σ1) fun r5 σ4 =>
  if r5 = 0 then (some (0, σ4)) else (if p0 = p1 then (some (0, σ4)) else (some (1, σ4))))
abbrev r7_areTwo : Room := { frames := 2, cells := 0, slots := 0, locals := 46 }
theorem cw7_areTwo {R : Room} {s : State} {args : Array Value} (ht : ∀ w ∈ lw_all, w.before args s = true) (hR : r7_areTwo.frames + 1 ≤ R.frames ∧ 8 + (3 + 11) + r7_areTwo.locals ≤ R.locals) : CallW R s args RX7 RX7 474 yX7_areTwo cX7_areTwo 3 (some .boolean) (ws_ yX7_areTwo cX7_areTwo 3 (some .boolean)) r7_areTwo 0 0 2 :=
  cwV 2 ht (lw_V q3397 q3399 qs160 q178 q3400) rfl rfl rfl (by decide +kernel) hR
theorem m7_areTwo (l : Launch) (D : va_G) (cl : vC2) (Z : (Nat → Prop) → State → Heap → Prop) (hz : ZK Z) (ci : Nat) (A : Nat → Nat) (d : Nat → ClassId) (tm : List (ClassId × FieldType)) (hc : cl.1[ci]? = some (RX7, TX7, 42)) (p0 : Int32) (p1 : Int32) (σ : MS) (r : Int32) (σ' : MS) (hf : f7_areTwo p0 p1 σ = some (r, σ')) : MMi l yX7_areTwo (ws_ yX7_areTwo cX7_areTwo 3 (some .boolean)) r7_areTwo D cl Z ci A d tm σ [.int p0, .int p1] r σ' := by
  refine m_openz hz (by decide) (by exact Nat.le_of_ble_eq_true rfl) (fun p e s m args below meth c ls A0 Q X hI hl hret => ?_)
  have X : XC p s m args meth c cX7_areTwo 3 RX7 D cl (mty d tm) A0 Z := X
  have hx := X.1
  have hb := X.2.1
  have hown := X.2.2.2.1
  have hts := X.2.2.2.2.1
  have hl : lv_has ls 3 [(0, .ref (A 0)), (1, .int p0), (2, .int p1)] := hl
  unfold f7_areTwo at hf
  obtain ⟨H, eH⟩ : ∃ H, H = s.heap := ⟨_, rfl⟩
  obtain ⟨locs, eL⟩ : ∃ locs : List Loc, locs = [] := ⟨_, rfl⟩
  have hI : XI D cl (mw ci A d σ) A0 s.heap H locs := by rw [eH, eL]; exact hI
  rw [← eL]
  suffices h : W p l e r7_areTwo s m args below meth c H locs 0 0 Q (F0 m 0 ls []) by rw [eH] at h; exact h
  clear eH eL
  refine lv_aload_n hx hb dX7_areTwo_0 rfl (lv_at hl 0 rfl) ?_
  refine lv_iload_n hx hb dX7_areTwo_1 rfl (lv_at hl 1 rfl) ?_
  obtain ⟨r2, σ1, hσ1, hf⟩ := bnd_some hf
  refine m_calli X hI hc [.int p0] (m7_isOp l D cl Z hz ci A d tm hc p0 σ r2 σ1 hσ1) (cw7_isOp hts ⟨Nat.le_of_ble_eq_true rfl, Nat.le_of_ble_eq_true rfl⟩) rfl hl.1 (Nat.le_of_ble_eq_true rfl) rfl dX7_areTwo_2 ⟨Nat.le_of_ble_eq_true rfl, Nat.le_of_ble_eq_true rfl⟩ (fun H locs hI => ?_)
  refine lv_if_eq (tgt := 25) hx hb dX7_areTwo_5 (by decide) (fun c3 => ?_) (fun c3 => ?_)
  · have hf := o_pos hf c3
    refine lv_iconst (v := 0) hx hb dX7_areTwo_25 (by decide) ?_
    exact hret hf rfl hI dX7_areTwo_26
  · have hf := o_neg hf c3
    refine lv_aload_n hx hb dX7_areTwo_8 rfl (lv_at hl 0 rfl) ?_
    refine lv_iload_n hx hb dX7_areTwo_9 rfl (lv_at hl 2 rfl) ?_
    obtain ⟨r5, σ4, hσ4, hf⟩ := bnd_some hf
    refine m_calli X hI hc [.int p1] (m7_isOp l D cl Z hz ci A d tm hc p1 σ1 r5 σ4 hσ4) (cw7_isOp hts ⟨Nat.le_of_ble_eq_true rfl, Nat.le_of_ble_eq_true rfl⟩) rfl hl.1 (Nat.le_of_ble_eq_true rfl) rfl dX7_areTwo_10 ⟨Nat.le_of_ble_eq_true rfl, Nat.le_of_ble_eq_true rfl⟩ (fun H locs hI => ?_)
    refine lv_if_eq (tgt := 25) hx hb dX7_areTwo_13 (by decide) (fun c6 => ?_) (fun c6 => ?_)
    · have hf := o_pos hf c6
      refine lv_iconst (v := 0) hx hb dX7_areTwo_25 (by decide) ?_
      exact hret hf rfl hI dX7_areTwo_26
    · have hf := o_neg hf c6
      refine lv_iload_n hx hb dX7_areTwo_16 rfl (lv_at hl 1 rfl) ?_
      refine lv_iload_n hx hb dX7_areTwo_17 rfl (lv_at hl 2 rfl) ?_
      refine lv_icmp_eq (tgt := 25) hx hb dX7_areTwo_18 (by decide) (fun c7 => ?_) (fun c7 => ?_)
      · have hf := o_pos hf c7
        refine lv_iconst (v := 0) hx hb dX7_areTwo_25 (by decide) ?_
        exact hret hf rfl hI dX7_areTwo_26
      · have hf := o_neg hf c7
        refine lv_iconst (v := 1) hx hb dX7_areTwo_21 (by decide) ?_
        refine lv_goto (tgt := 26) hx hb dX7_areTwo_22 (by decide) ?_
        exact hret hf rfl hI dX7_areTwo_26
