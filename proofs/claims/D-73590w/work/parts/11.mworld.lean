/-! THE MODEL's WORLD: one object, eighteen arrays; the state: numbers by field, arrays by field (printed by gen/mkworld.py) -/
abbrev MS : Type := (Nat → Int32) × (Nat → Int64) × (Nat → Nat → Int32) × (Nat → Nat → Int64)
def gI (σ : MS) (k : Nat) : Int32 := σ.1 k
def gL (σ : MS) (k : Nat) : Int64 := σ.2.1 k
def gA (σ : MS) (j i : Nat) : Int32 := σ.2.2.1 j i
def gB (σ : MS) (j i : Nat) : Int64 := σ.2.2.2 j i
def sI (σ : MS) (k : Nat) (v : Int32) : MS := (fun i => if i = k then v else σ.1 i, σ.2)
def sL (σ : MS) (k : Nat) (v : Int64) : MS := (σ.1, fun i => if i = k then v else σ.2.1 i, σ.2.2)
def sA (σ : MS) (j i : Nat) (v : Int32) : MS := (σ.1, σ.2.1, fun a => if a = j then upd (σ.2.2.1 a) i v else σ.2.2.1 a, σ.2.2.2)
def sB (σ : MS) (j i : Nat) (v : Int64) : MS := (σ.1, σ.2.1, σ.2.2.1, fun a => if a = j then vp_updL (σ.2.2.2 a) i v else σ.2.2.2 a)
theorem gI_sI (σ : MS) (k k' : Nat) (v : Int32) : gI (sI σ k v) k' = if k' = k then v else gI σ k' := rfl
theorem gL_sI (σ : MS) (k k' : Nat) (v : Int32) : gL (sI σ k v) k' = gL σ k' := rfl
theorem gA_sI (σ : MS) (k j i : Nat) (v : Int32) : gA (sI σ k v) j i = gA σ j i := rfl
theorem gB_sI (σ : MS) (k j i : Nat) (v : Int32) : gB (sI σ k v) j i = gB σ j i := rfl
theorem gI_sL (σ : MS) (k k' : Nat) (v : Int64) : gI (sL σ k v) k' = gI σ k' := rfl
theorem gL_sL (σ : MS) (k k' : Nat) (v : Int64) : gL (sL σ k v) k' = if k' = k then v else gL σ k' := rfl
theorem gA_sL (σ : MS) (k j i : Nat) (v : Int64) : gA (sL σ k v) j i = gA σ j i := rfl
theorem gB_sL (σ : MS) (k j i : Nat) (v : Int64) : gB (sL σ k v) j i = gB σ j i := rfl
theorem gI_sA (σ : MS) (j i k : Nat) (v : Int32) : gI (sA σ j i v) k = gI σ k := rfl
theorem gL_sA (σ : MS) (j i k : Nat) (v : Int32) : gL (sA σ j i v) k = gL σ k := rfl
theorem gB_sA (σ : MS) (j i a b : Nat) (v : Int32) : gB (sA σ j i v) a b = gB σ a b := rfl
theorem gA_sA (σ : MS) (j i a b : Nat) (v : Int32) : gA (sA σ j i v) a b = if a = j then (if b = i then v else gA σ a b) else gA σ a b := by
  unfold gA sA upd
  dsimp only
  split <;> rfl
theorem gI_sB (σ : MS) (j i k : Nat) (v : Int64) : gI (sB σ j i v) k = gI σ k := rfl
theorem gL_sB (σ : MS) (j i k : Nat) (v : Int64) : gL (sB σ j i v) k = gL σ k := rfl
theorem gA_sB (σ : MS) (j i a b : Nat) (v : Int64) : gA (sB σ j i v) a b = gA σ a b := rfl
theorem gB_sB (σ : MS) (j i a b : Nat) (v : Int64) : gB (sB σ j i v) a b = if a = j then (if b = i then v else gB σ a b) else gB σ a b := by
  unfold gB sB vp_updL
  dsimp only
  split <;> rfl
/-- an index is in its array -/
def inB (i : Int32) (n : Nat) : Bool := decide (¬ (i < 0 ∨ n ≤ i.toNatClampNeg))
theorem inB_in {i : Int32} {n : Nat} (h : inB i n = true) : vp_in i n := of_decide_eq_true (p := ¬ (i < 0 ∨ n ≤ i.toNatClampNeg)) h
theorem inB_of {i : Int32} {n : Nat} (h : vp_in i n) : inB i n = true := decide_eq_true (p := ¬ (i < 0 ∨ n ≤ i.toNatClampNeg)) h
def grd {α : Type} (b : Bool) (k : Option α) : Option α := if b = true then k else none
theorem grd_some {α : Type} {b : Bool} {k : Option α} {r : α} (h : grd b k = some r) : b = true ∧ k = some r := by
  unfold grd at h
  by_cases hb : b = true
  · rw [if_pos hb] at h; exact ⟨hb, h⟩
  · rw [if_neg hb] at h; cases h
def bnd {α β γ : Type} (o : Option (α × β)) (k : α → β → Option γ) : Option γ := match o with
  | none => none
  | some q => k q.1 q.2
theorem bnd_some {α β γ : Type} {o : Option (α × β)} {k : α → β → Option γ} {r : γ} (h : bnd o k = some r) : ∃ a b, o = some (a, b) ∧ k a b = some r := by
  cases o with
  | none => cases h
  | some q => exact ⟨q.1, q.2, rfl, h⟩
def bn1 {α γ : Type} (o : Option α) (k : α → Option γ) : Option γ := match o with
  | none => none
  | some q => k q
theorem bn1_some {α γ : Type} {o : Option α} {k : α → Option γ} {r : γ} (h : bn1 o k = some r) : ∃ a, o = some a ∧ k a = some r := by
  cases o with
  | none => cases h
  | some q => exact ⟨q, rfl, h⟩
theorem o_pos {α : Type} {c : Prop} [d : Decidable c] {a b : Option α} {r : α} (h : (if c then a else b) = some r) (hc : c) : a = some r := by rw [if_pos hc] at h; exact h
theorem o_neg {α : Type} {c : Prop} [d : Decidable c] {a b : Option α} {r : α} (h : (if c then a else b) = some r) (hc : ¬ c) : b = some r := by rw [if_neg hc] at h; exact h
abbrev oI (α : Type) : Type := Option (α × MS)
def MF (A : Nat → Nat) (σ : MS) : List Value := [.int (gI σ 0), .ref (A 1), .ref (A 2), .ref (A 3), .ref (A 4), .int (gI σ 5), .ref (A 6), .int (gI σ 7), .int (gI σ 8), .int (gI σ 9), .int (gI σ 10), .int (gI σ 11), .int (gI σ 12), .int (gI σ 13), .ref (A 14), .ref (A 15), .int (gI σ 16), .int (gI σ 17), .int (gI σ 18), .ref (A 19), .ref (A 20), .ref (A 21), .ref (A 22), .ref (A 23), .ref (A 24), .int (gI σ 25), .int (gI σ 26), .int (gI σ 27), .int (gI σ 28), .int (gI σ 29), .int (gI σ 30), .int (gI σ 31), .int (gI σ 32), .int (gI σ 33), .ref (A 34), .long (gL σ 35), .long (gL σ 36), .long (gL σ 37), .ref (A 38), .ref (A 39), .ref (A 40), .ref (A 41)]
def mw (ci : Nat) (A : Nat → Nat) (d : Nat → ClassId) (σ : MS) : va_W := [(A 0, .inr (ci, MF A σ)), (A 1, .inl (d 0, 76, .inl (gA σ 1))), (A 2, .inl (d 0, 228, .inl (gA σ 2))), (A 3, .inl (d 1, 3, .inl (gA σ 3))), (A 4, .inl (d 2, 400, .inl (gA σ 4))), (A 6, .inl (d 0, 5, .inl (gA σ 6))), (A 14, .inl (d 0, 76, .inl (gA σ 14))), (A 15, .inl (d 0, 3, .inl (gA σ 15))), (A 19, .inl (d 1, 64, .inl (gA σ 19))), (A 20, .inl (d 0, 320, .inl (gA σ 20))), (A 21, .inl (d 0, 64, .inl (gA σ 21))), (A 22, .inl (d 0, 64, .inl (gA σ 22))), (A 23, .inl (d 1, 4096, .inl (gA σ 23))), (A 24, .inl (d 0, 5, .inl (gA σ 24))), (A 34, .inl (d 0, 32, .inl (gA σ 34))), (A 38, .inl (d 0, 4, .inl (gA σ 38))), (A 39, .inl (d 0, 4, .inl (gA σ 39))), (A 40, .inl (d 3, 240, .inr (.inl (gB σ 40)))), (A 41, .inl (d 3, 60, .inr (.inl (gB σ 41))))]
abbrev mty (d : Nat → ClassId) (tm : List (ClassId × FieldType)) : List (ClassId × FieldType) := (d 0, .int) :: (d 1, .boolean) :: (d 2, .byte) :: (d 3, .long) :: tm
section MROWS
variable {p : Program} {l : Launch} {e : Env} {R : Room} {s : State} {m : MethodId} {args : Array Value} {below : List Frame} {meth : Method} {c : Code} {H : Heap} {locs : List Loc} {cells slots : Nat} {Q : State → Prop}
variable {cc : ByteArray} {nL : Nat} {D : va_G} {cl : vC2} {A0 : Nat → Prop} {Z : (Nat → Prop) → State → Heap → Prop} {pc : Nat} {ls : Array Slot} {rest : List Value}
variable {ci : Nat} {A : Nat → Nat} {d : Nat → ClassId} {tm : List (ClassId × FieldType)} {σ : MS}
theorem m_get (X : XC p s m args meth c cc nL RX7 D cl (mty d tm) A0 Z) (hI : XI D cl (mw ci A d σ) A0 s.heap H locs) (hc : cl.1[ci]? = some (RX7, TX7, 42)) (k : Nat) (hk : k < 42) {index : Nat} (hq : Cond.fieldLink RX7 index (TX7 k).1 (TX7 k).2.1 (TX7 k).2.2.1 ∈ lw_all) {v : Value} (hv : (MF A σ)[k]? = some v) (hdg : decode cc pc = .ok (.getfield index, 3)) (kk : W p l e R s m args below meth c H locs cells slots Q (F0 m (pc + 3) ls (v :: rest))) : W p l e R s m args below meth c H locs cells slots Q (F0 m pc ls (.ref (A 0) :: rest)) :=
  x_get X hI 0 rfl hc in_X7 k hk hq (fun _ h => h) hv hdg kk
theorem m_puti (X : XC p s m args meth c cc nL RX7 D cl (mty d tm) A0 Z) (hI : XI D cl (mw ci A d σ) A0 s.heap H locs) (hc : cl.1[ci]? = some (RX7, TX7, 42)) (k : Nat) (hk : k < 42) {index : Nat} (hq : Cond.fieldLink RX7 index (TX7 k).1 (TX7 k).2.1 (TX7 k).2.2.1 ∈ lw_all) (hty : tyX7 k = .int) (hfin : (TX7 k).2.2.2 = false) {v : Int32} (hw : (mw ci A d σ).set 0 (A 0, .inr (ci, (MF A σ).set k (.int v))) = mw ci A d (sI σ k v)) (hdg : decode cc pc = .ok (.putfield index, 3)) (kk : ∀ (H1 : Heap) (locs1 : List Loc), XI D cl (mw ci A d (sI σ k v)) A0 s.heap H1 locs1 → W p l e R s m args below meth c H1 locs1 cells slots Q (F0 m (pc + 3) ls rest)) : W p l e R s m args below meth c H locs cells slots Q (F0 m pc ls (.int v :: .ref (A 0) :: rest)) :=
  x_put X hI 0 rfl hc in_X7 tyX7 tyX7_ok nmX7 k hk hq (fun _ h => h) hfin (by rw [hty]; rfl) (by rw [hty]; rfl) hk hw hdg kk
theorem m_putl (X : XC p s m args meth c cc nL RX7 D cl (mty d tm) A0 Z) (hI : XI D cl (mw ci A d σ) A0 s.heap H locs) (hc : cl.1[ci]? = some (RX7, TX7, 42)) (k : Nat) (hk : k < 42) {index : Nat} (hq : Cond.fieldLink RX7 index (TX7 k).1 (TX7 k).2.1 (TX7 k).2.2.1 ∈ lw_all) (hty : tyX7 k = .long) (hfin : (TX7 k).2.2.2 = false) {v : Int64} (hw : (mw ci A d σ).set 0 (A 0, .inr (ci, (MF A σ).set k (.long v))) = mw ci A d (sL σ k v)) (hdg : decode cc pc = .ok (.putfield index, 3)) (kk : ∀ (H1 : Heap) (locs1 : List Loc), XI D cl (mw ci A d (sL σ k v)) A0 s.heap H1 locs1 → W p l e R s m args below meth c H1 locs1 cells slots Q (F0 m (pc + 3) ls rest)) : W p l e R s m args below meth c H locs cells slots Q (F0 m pc ls (.long v :: .ref (A 0) :: rest)) :=
  x_put X hI 0 rfl hc in_X7 tyX7 tyX7_ok nmX7 k hk hq (fun _ h => h) hfin (by rw [hty]; rfl) (by rw [hty]; rfl) hk hw hdg kk
theorem m_iald (X : XC p s m args meth c cc nL RX7 D cl (mty d tm) A0 Z) (hI : XI D cl (mw ci A d σ) A0 s.heap H locs) (j q0 n : Nat) (ha : (mw ci A d σ)[q0]? = some (A j, .inl (d 0, n, .inl (gA σ j)))) {i : Int32} {k : Nat} (hk : i.toNatClampNeg = k) (hin : inB i n = true) (hdg : decode cc pc = .ok (.iaload, 1)) (kk : W p l e R s m args below meth c H locs cells slots Q (F0 m (pc + 1) ls (.int (gA σ j k) :: rest))) : W p l e R s m args below meth c H locs cells slots Q (F0 m pc ls (.int i :: .ref (A j) :: rest)) :=
  x_iald X hI q0 0 ha rfl (inB_in hin) hdg (by rw [hk]; exact kk)
theorem m_iast (X : XC p s m args meth c cc nL RX7 D cl (mty d tm) A0 Z) (hI : XI D cl (mw ci A d σ) A0 s.heap H locs) (j q0 n : Nat) (ha : (mw ci A d σ)[q0]? = some (A j, .inl (d 0, n, .inl (gA σ j)))) {i x : Int32} {k : Nat} (hk : i.toNatClampNeg = k) (hin : inB i n = true) (hw : (mw ci A d σ).set q0 (A j, .inl (d 0, n, .inl (upd (gA σ j) k x))) = mw ci A d (sA σ j k x)) (hdg : decode cc pc = .ok (.iastore, 1)) (kk : ∀ (H1 : Heap) (locs1 : List Loc), XI D cl (mw ci A d (sA σ j k x)) A0 s.heap H1 locs1 → W p l e R s m args below meth c H1 locs1 cells slots Q (F0 m (pc + 1) ls rest)) : W p l e R s m args below meth c H locs cells slots Q (F0 m pc ls (.int x :: .int i :: .ref (A j) :: rest)) :=
  x_iast X hI q0 0 ha rfl (inB_in hin) (by rw [hk]; exact hw) hdg kk
theorem m_zald (X : XC p s m args meth c cc nL RX7 D cl (mty d tm) A0 Z) (hI : XI D cl (mw ci A d σ) A0 s.heap H locs) (j q0 n : Nat) (ha : (mw ci A d σ)[q0]? = some (A j, .inl (d 1, n, .inl (gA σ j)))) {i : Int32} {k : Nat} (hk : i.toNatClampNeg = k) (hin : inB i n = true) (hdg : decode cc pc = .ok (.baload, 1)) (kk : W p l e R s m args below meth c H locs cells slots Q (F0 m (pc + 1) ls (.int (gA σ j k) :: rest))) : W p l e R s m args below meth c H locs cells slots Q (F0 m pc ls (.int i :: .ref (A j) :: rest)) :=
  x_zald X hI q0 1 ha rfl (inB_in hin) hdg (by rw [hk]; exact kk)
theorem m_zast (X : XC p s m args meth c cc nL RX7 D cl (mty d tm) A0 Z) (hI : XI D cl (mw ci A d σ) A0 s.heap H locs) (j q0 n : Nat) (ha : (mw ci A d σ)[q0]? = some (A j, .inl (d 1, n, .inl (gA σ j)))) {i x : Int32} {k : Nat} (hk : i.toNatClampNeg = k) (hin : inB i n = true) (hw : (mw ci A d σ).set q0 (A j, .inl (d 1, n, .inl (upd (gA σ j) k (vp_nar .boolean x)))) = mw ci A d (sA σ j k (vp_nar .boolean x))) (hdg : decode cc pc = .ok (.bastore, 1)) (kk : ∀ (H1 : Heap) (locs1 : List Loc), XI D cl (mw ci A d (sA σ j k (vp_nar .boolean x))) A0 s.heap H1 locs1 → W p l e R s m args below meth c H1 locs1 cells slots Q (F0 m (pc + 1) ls rest)) : W p l e R s m args below meth c H locs cells slots Q (F0 m pc ls (.int x :: .int i :: .ref (A j) :: rest)) :=
  x_zast X hI q0 1 ha rfl (inB_in hin) (by rw [hk]; exact hw) hdg kk
theorem m_bald (X : XC p s m args meth c cc nL RX7 D cl (mty d tm) A0 Z) (hI : XI D cl (mw ci A d σ) A0 s.heap H locs) (j q0 n : Nat) (ha : (mw ci A d σ)[q0]? = some (A j, .inl (d 2, n, .inl (gA σ j)))) {i : Int32} {k : Nat} (hk : i.toNatClampNeg = k) (hin : inB i n = true) (hdg : decode cc pc = .ok (.baload, 1)) (kk : W p l e R s m args below meth c H locs cells slots Q (F0 m (pc + 1) ls (.int (gA σ j k) :: rest))) : W p l e R s m args below meth c H locs cells slots Q (F0 m pc ls (.int i :: .ref (A j) :: rest)) :=
  x_bald X hI q0 2 ha rfl (inB_in hin) hdg (by rw [hk]; exact kk)
theorem m_bast (X : XC p s m args meth c cc nL RX7 D cl (mty d tm) A0 Z) (hI : XI D cl (mw ci A d σ) A0 s.heap H locs) (j q0 n : Nat) (ha : (mw ci A d σ)[q0]? = some (A j, .inl (d 2, n, .inl (gA σ j)))) {i x : Int32} {k : Nat} (hk : i.toNatClampNeg = k) (hin : inB i n = true) (hw : (mw ci A d σ).set q0 (A j, .inl (d 2, n, .inl (upd (gA σ j) k (vp_nar .byte x)))) = mw ci A d (sA σ j k (vp_nar .byte x))) (hdg : decode cc pc = .ok (.bastore, 1)) (kk : ∀ (H1 : Heap) (locs1 : List Loc), XI D cl (mw ci A d (sA σ j k (vp_nar .byte x))) A0 s.heap H1 locs1 → W p l e R s m args below meth c H1 locs1 cells slots Q (F0 m (pc + 1) ls rest)) : W p l e R s m args below meth c H locs cells slots Q (F0 m pc ls (.int x :: .int i :: .ref (A j) :: rest)) :=
  x_bast X hI q0 2 ha rfl (inB_in hin) (by rw [hk]; exact hw) hdg kk
theorem m_lald (X : XC p s m args meth c cc nL RX7 D cl (mty d tm) A0 Z) (hI : XI D cl (mw ci A d σ) A0 s.heap H locs) (j q0 n : Nat) (ha : (mw ci A d σ)[q0]? = some (A j, .inl (d 3, n, .inr (.inl (gB σ j))))) {i : Int32} {k : Nat} (hk : i.toNatClampNeg = k) (hin : inB i n = true) (hdg : decode cc pc = .ok (.laload, 1)) (kk : W p l e R s m args below meth c H locs cells slots Q (F0 m (pc + 1) ls (.long (gB σ j k) :: rest))) : W p l e R s m args below meth c H locs cells slots Q (F0 m pc ls (.int i :: .ref (A j) :: rest)) :=
  x_lald X hI q0 3 ha rfl (inB_in hin) hdg (by rw [hk]; exact kk)
theorem m_last (X : XC p s m args meth c cc nL RX7 D cl (mty d tm) A0 Z) (hI : XI D cl (mw ci A d σ) A0 s.heap H locs) (j q0 n : Nat) (ha : (mw ci A d σ)[q0]? = some (A j, .inl (d 3, n, .inr (.inl (gB σ j))))) {i : Int32} {x : Int64} {k : Nat} (hk : i.toNatClampNeg = k) (hin : inB i n = true) (hw : (mw ci A d σ).set q0 (A j, .inl (d 3, n, .inr (.inl (vp_updL (gB σ j) k x)))) = mw ci A d (sB σ j k x)) (hdg : decode cc pc = .ok (.lastore, 1)) (kk : ∀ (H1 : Heap) (locs1 : List Loc), XI D cl (mw ci A d (sB σ j k x)) A0 s.heap H1 locs1 → W p l e R s m args below meth c H1 locs1 cells slots Q (F0 m (pc + 1) ls rest)) : W p l e R s m args below meth c H locs cells slots Q (F0 m pc ls (.long x :: .int i :: .ref (A j) :: rest)) :=
  x_last X hI q0 3 ha rfl (inB_in hin) (by rw [hk]; exact hw) hdg kk
/-- the model's contracts: by the decompiled function's answer -/
def MMi (l : Launch) (y : MethodName) (ws : List Cond) (rm : Room) (D : va_G) (cl : vC2) (Z : (Nat → Prop) → State → Heap → Prop) (ci : Nat) (A : Nat → Nat) (d : Nat → ClassId) (tm : List (ClassId × FieldType)) (σ : MS) (av : List Value) (r : Int32) (σ' : MS) : Prop :=
  XMi l y ws rm D cl (mty d tm) Z (mw ci A d σ) (.ref (A 0) :: av) (fun r' w' => r' = r ∧ w' = mw ci A d σ') 0 0
def MMl (l : Launch) (y : MethodName) (ws : List Cond) (rm : Room) (D : va_G) (cl : vC2) (Z : (Nat → Prop) → State → Heap → Prop) (ci : Nat) (A : Nat → Nat) (d : Nat → ClassId) (tm : List (ClassId × FieldType)) (σ : MS) (av : List Value) (r : Int64) (σ' : MS) : Prop :=
  XMl l y ws rm D cl (mty d tm) Z (mw ci A d σ) (.ref (A 0) :: av) (fun r' w' => r' = r ∧ w' = mw ci A d σ') 0 0
def MMv (l : Launch) (y : MethodName) (ws : List Cond) (rm : Room) (D : va_G) (cl : vC2) (Z : (Nat → Prop) → State → Heap → Prop) (ci : Nat) (A : Nat → Nat) (d : Nat → ClassId) (tm : List (ClassId × FieldType)) (σ : MS) (av : List Value) (σ' : MS) : Prop :=
  XMv l y ws rm D cl (mty d tm) Z (mw ci A d σ) (.ref (A 0) :: av) (fun w' => w' = mw ci A d σ') 0 0
theorem m_calli (X : XC p s m args meth c cc nL RX7 D cl (mty d tm) A0 Z) (hI : XI D cl (mw ci A d σ) A0 s.heap H locs) (hc : cl.1[ci]? = some (RX7, TX7, 42)) {y : MethodName} {bytes : ByteArray} {maxL n index : Nat} {ret : Option FieldType} {ws : List Cond} {rm : Room} (As : List Value) {r : Int32} {σ' : MS} (hM : MMi l y ws rm D cl Z ci A d tm σ As r σ') (cw : CallW R s args RX7 RX7 index y bytes maxL ret ws rm 0 0 n) (hn : As.length = n) (hls : ls.size = nL) (hroom : (rest.map fun v => v.category).sum ≤ 8) {st : List Value} (hst : st = As.reverse ++ .ref (A 0) :: rest) (hdg : decode cc pc = .ok (.invokevirtual index, 3)) (hf : cells + 0 ≤ R.cells ∧ slots + 0 ≤ R.slots) (kk : ∀ (H1 : Heap) (locs1 : List Loc), XI D cl (mw ci A d σ') A0 s.heap H1 locs1 → W p l e R s m args below meth c H1 locs1 cells slots Q (F0 m (pc + 3) ls (.int r :: rest))) : W p l e R s m args below meth c H locs cells slots Q (F0 m pc ls st) :=
  x_calli X hI 0 (ci := ci) rfl hc hM cw hn hls hroom hst hdg hf (fun r1 w1 H1 locs1 hw hI1 => by obtain ⟨rfl, rfl⟩ := hw; exact kk H1 locs1 hI1)
theorem m_calll (X : XC p s m args meth c cc nL RX7 D cl (mty d tm) A0 Z) (hI : XI D cl (mw ci A d σ) A0 s.heap H locs) (hc : cl.1[ci]? = some (RX7, TX7, 42)) {y : MethodName} {bytes : ByteArray} {maxL n index : Nat} {ret : Option FieldType} {ws : List Cond} {rm : Room} (As : List Value) {r : Int64} {σ' : MS} (hM : MMl l y ws rm D cl Z ci A d tm σ As r σ') (cw : CallW R s args RX7 RX7 index y bytes maxL ret ws rm 0 0 n) (hn : As.length = n) (hls : ls.size = nL) (hroom : (rest.map fun v => v.category).sum ≤ 8) {st : List Value} (hst : st = As.reverse ++ .ref (A 0) :: rest) (hdg : decode cc pc = .ok (.invokevirtual index, 3)) (hf : cells + 0 ≤ R.cells ∧ slots + 0 ≤ R.slots) (kk : ∀ (H1 : Heap) (locs1 : List Loc), XI D cl (mw ci A d σ') A0 s.heap H1 locs1 → W p l e R s m args below meth c H1 locs1 cells slots Q (F0 m (pc + 3) ls (.long r :: rest))) : W p l e R s m args below meth c H locs cells slots Q (F0 m pc ls st) :=
  x_calll X hI 0 (ci := ci) rfl hc hM cw hn hls hroom hst hdg hf (fun r1 w1 H1 locs1 hw hI1 => by obtain ⟨rfl, rfl⟩ := hw; exact kk H1 locs1 hI1)
theorem m_callv (X : XC p s m args meth c cc nL RX7 D cl (mty d tm) A0 Z) (hI : XI D cl (mw ci A d σ) A0 s.heap H locs) (hc : cl.1[ci]? = some (RX7, TX7, 42)) {y : MethodName} {bytes : ByteArray} {maxL n index : Nat} {ret : Option FieldType} {ws : List Cond} {rm : Room} (As : List Value) {σ' : MS} (hM : MMv l y ws rm D cl Z ci A d tm σ As σ') (cw : CallW R s args RX7 RX7 index y bytes maxL ret ws rm 0 0 n) (hn : As.length = n) (hls : ls.size = nL) (hroom : (rest.map fun v => v.category).sum ≤ 8) {st : List Value} (hst : st = As.reverse ++ .ref (A 0) :: rest) (hdg : decode cc pc = .ok (.invokevirtual index, 3)) (hf : cells + 0 ≤ R.cells ∧ slots + 0 ≤ R.slots) (kk : ∀ (H1 : Heap) (locs1 : List Loc), XI D cl (mw ci A d σ') A0 s.heap H1 locs1 → W p l e R s m args below meth c H1 locs1 cells slots Q (F0 m (pc + 3) ls (rest))) : W p l e R s m args below meth c H locs cells slots Q (F0 m pc ls st) :=
  x_callv X hI 0 (ci := ci) rfl hc hM cw hn hls hroom hst hdg hf (fun w1 H1 locs1 hw hI1 => by subst hw; exact kk H1 locs1 hI1)
def MSi (l : Launch) (y : MethodName) (ws : List Cond) (rm : Room) (D : va_G) (cl : vC2) (Z : (Nat → Prop) → State → Heap → Prop) (ci : Nat) (A : Nat → Nat) (d : Nat → ClassId) (tm : List (ClassId × FieldType)) (σ : MS) (av : List Value) (r : Int32) (σ' : MS) : Prop :=
  XMi l y ws rm D cl (mty d tm) Z (mw ci A d σ) av (fun r' w' => r' = r ∧ w' = mw ci A d σ') 0 0
theorem m_callsi (X : XC p s m args meth c cc nL RX7 D cl (mty d tm) A0 Z) (hI : XI D cl (mw ci A d σ) A0 s.heap H locs) {y : MethodName} {bytes : ByteArray} {maxL n index : Nat} {ret : Option FieldType} {ws : List Cond} {rm : Room} (As : List Value) {r : Int32} {σ' : MS} (hM : MSi l y ws rm D cl Z ci A d tm σ As r σ') (cw : CallB R s args RX7 index y bytes maxL ret ws rm 0 0 n ∧ (Cond.static y).before args s = true) (hn : As.length = n) (hls : ls.size = nL) (hroom : (rest.map fun v => v.category).sum ≤ 8) {st : List Value} (hst : st = As.reverse ++ rest) (hdg : decode cc pc = .ok (.invokestatic index, 3)) (hf : cells + 0 ≤ R.cells ∧ slots + 0 ≤ R.slots) (kk : ∀ (H1 : Heap) (locs1 : List Loc), XI D cl (mw ci A d σ') A0 s.heap H1 locs1 → W p l e R s m args below meth c H1 locs1 cells slots Q (F0 m (pc + 3) ls (.int r :: rest))) : W p l e R s m args below meth c H locs cells slots Q (F0 m pc ls st) :=
  x_callWi X hI hM cw hn hls hroom hst hdg hf (fun r1 w1 H1 locs1 hw hI1 => by obtain ⟨rfl, rfl⟩ := hw; exact kk H1 locs1 hI1)
end MROWS
