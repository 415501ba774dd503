/-! GENERIC ROWS: a method over a world that is a list of cells; contracts that name the world behind it -/
section XROWS
/-- the classes that have names (whose tables are known), and all, made classes behind them -/
abbrev vC2 : Type := List vw_C × List vw_C
/-- what a method may take as given of the cells and tables that nobody writes -/
def ZK (Z : (Nat → Prop) → State → Heap → Prop) : Prop :=
  (∀ (A : Nat → Prop) (u U : State) (H : Heap), u.WarmedH U.vm → Z A u H → Z A U H) ∧ (∀ (A : Nat → Prop) (U : State) (H H1 : Heap), Z A U H → (∀ a : Nat, a < H.size → ¬ A a → H1[a]? = H[a]?) → Z A U H1) ∧ (∀ (A B : Nat → Prop) (U : State) (H : Heap), Z A U H → (∀ q : Nat, B q → A q) → Z B U H)
def ZT : (Nat → Prop) → State → Heap → Prop := fun _ _ _ => True
theorem ZT_ok : ZK ZT := ⟨fun _ _ _ _ _ _ => trivial, fun _ _ _ _ _ _ => trivial, fun _ _ _ _ _ _ => trivial⟩
def XC (p : Program) (s : State) (m : MethodId) (args : Array Value) (meth : Method) (c : Code) (cc : ByteArray) (nL : Nat) (own : String) (D : va_G) (cl : vC2) (tys : List (ClassId × FieldType)) (A0 : Nat → Prop) (Z : (Nat → Prop) → State → Heap → Prop) : Prop :=
  p.tables.exec = Jvm.exec ∧ c.code = cc ∧ c.maxLocals = nL ∧ s.vm.findClass own = some m.cls ∧ (∀ w ∈ lw_all, w.before args s = true) ∧ va_K D cl.1 tys s ∧ (∀ q : Nat, s.heap.size ≤ q → A0 q) ∧ meth.locks = false ∧ Z A0 s s.heap ∧ ZK Z ∧ (∀ (i : Nat) (q : vw_C), cl.1[i]? = some q → cl.2[i]? = some q)
theorem XC.ex {p : Program} {s : State} {m : MethodId} {args : Array Value} {meth : Method} {c : Code} {cc : ByteArray} {nL : Nat} {own : String} {D : va_G} {cl : vC2} {tys : List (ClassId × FieldType)} {A0 : Nat → Prop} {Z : (Nat → Prop) → State → Heap → Prop} (X : XC p s m args meth c cc nL own D cl tys A0 Z) : p.tables.exec = Jvm.exec := X.1
theorem XC.by {p : Program} {s : State} {m : MethodId} {args : Array Value} {meth : Method} {c : Code} {cc : ByteArray} {nL : Nat} {own : String} {D : va_G} {cl : vC2} {tys : List (ClassId × FieldType)} {A0 : Nat → Prop} {Z : (Nat → Prop) → State → Heap → Prop} (X : XC p s m args meth c cc nL own D cl tys A0 Z) : c.code = cc := X.2.1
/-- the world w stands in H, apart, and since H0 nothing outside A0 has changed -/
def XI (D : va_G) (cl : vC2) (w : va_W) (A0 : Nat → Prop) (H0 H : Heap) (locs : List Loc) : Prop := va_P D cl.2 w H ∧ va_D A0 w ∧ va_S A0 H0 H locs
def XPre (D : va_G) (cl : vC2) (tys : List (ClassId × FieldType)) (Z : (Nat → Prop) → State → Heap → Prop) (w : va_W) (av : List Value) (sz : Nat) : Array Value → State → Prop :=
  va_Pc av (fun U => U.heap.size = sz ∧ va_P D cl.2 w U.heap ∧ va_K D cl.1 tys U ∧ va_D (fun _ => True) w ∧ Z (va_A w sz) U U.heap ∧ (∀ (i : Nat) (q : vw_C), cl.1[i]? = some q → cl.2[i]? = some q))
def XBd (D : va_G) (cl : vC2) (A : Nat → Prop) (w' : va_W) (t : State) : Prop := va_P D cl.2 w' t.heap ∧ va_D A w'
/-- the contract: B says what comes back (the answer and the world behind) -/
def XMi (l : Launch) (y : MethodName) (ws : List Cond) (rm : Room) (D : va_G) (cl : vC2) (tys : List (ClassId × FieldType)) (Z : (Nat → Prop) → State → Heap → Prop) (w : va_W) (av : List Value) (B : Int32 → va_W → Prop) (mc ms : Nat) : Prop :=
  ∀ sz : Nat, Met l y ws rm (XPre D cl tys Z w av sz) (va_Qi B (XBd D cl (va_A w sz)) (va_A w sz)) mc ms (va_A w sz)
def XMl (l : Launch) (y : MethodName) (ws : List Cond) (rm : Room) (D : va_G) (cl : vC2) (tys : List (ClassId × FieldType)) (Z : (Nat → Prop) → State → Heap → Prop) (w : va_W) (av : List Value) (B : Int64 → va_W → Prop) (mc ms : Nat) : Prop :=
  ∀ sz : Nat, Met l y ws rm (XPre D cl tys Z w av sz) (va_Ql B (XBd D cl (va_A w sz)) (va_A w sz)) mc ms (va_A w sz)
def XMv (l : Launch) (y : MethodName) (ws : List Cond) (rm : Room) (D : va_G) (cl : vC2) (tys : List (ClassId × FieldType)) (Z : (Nat → Prop) → State → Heap → Prop) (w : va_W) (av : List Value) (B : va_W → Prop) (mc ms : Nat) : Prop :=
  ∀ sz : Nat, Met l y ws rm (XPre D cl tys Z w av sz) (va_Qv B (XBd D cl (va_A w sz)) (va_A w sz)) mc ms (va_A w sz)
theorem va_D.addr {A : Nat → Prop} {w w' : va_W} (h : va_D A w) (e : w'.map (·.1) = w.map (·.1)) : va_D A w' := by
  have key : ∀ (k : Nat) (q : Nat × va_E), w'[k]? = some q → ∃ q0, w[k]? = some q0 ∧ q0.1 = q.1 := by
    intro k q hk
    have h1 : (w'.map (·.1))[k]? = some q.1 := by rw [List.getElem?_map, hk]; rfl
    rw [e, List.getElem?_map] at h1
    cases hw : w[k]? with
    | none => rw [hw] at h1; cases h1
    | some q0 => rw [hw] at h1; exact ⟨q0, rfl, Option.some.inj h1⟩
  refine ⟨fun i j x y hi hj hxy => ?_, fun k q hk => ?_⟩
  · obtain ⟨x0, h1, h2⟩ := key i x hi
    obtain ⟨y0, h3, h4⟩ := key j y hj
    exact h.1 i j x0 y0 h1 h3 (h2.trans (hxy.trans h4.symm))
  · obtain ⟨q0, h1, h2⟩ := key k q hk
    rw [← h2]; exact h.2 k q0 h1
/-- the whole world is handed on -/
theorem XI.free {D : va_G} {cl : vC2} {w : va_W} {A0 : Nat → Prop} {H0 H : Heap} {locs : List Loc} (h : XI D cl w A0 H0 H locs) (hA : ∀ q : Nat, H0.size ≤ q → A0 q) : ∀ q, va_A w H.size q → A0 q := by
  intro q hq
  rcases hq with ⟨k, e, hk⟩ | hq
  · exact h.2.1.2 k (q, e) hk
  · exact hA q (Nat.le_trans h.2.2.1 hq)
theorem va_at.cl {D : va_G} {cl : vC2} (hp : ∀ (i : Nat) (q : vw_C), cl.1[i]? = some q → cl.2[i]? = some q) {q : Nat × va_E} {H : Heap} {r : vw_C} {ci : Nat} {fs : List Value} (h : va_at D cl.2 q H) (e : q.2 = .inr (ci, fs)) (hc : cl.1[ci]? = some r) : va_at D cl.1 q H := by
  obtain ⟨a, x⟩ := q
  cases e
  obtain ⟨r', h1, h2⟩ := h
  have hr : r' = r := Option.some.inj (h1.symm.trans (hp _ _ hc))
  subst hr
  exact ⟨r', hc, h2⟩
theorem va_P.one {D : va_G} {cl : List vw_C} {q : Nat × va_E} {H : Heap} (h : va_at D cl q H) : va_P D cl [q] H := by
  intro k x hk
  have hz : k < 1 := (List.getElem?_eq_some_iff.mp hk).1
  rw [show k = 0 by omega] at hk
  cases hk
  exact h
theorem XI.obj {D : va_G} {cl : vC2} {w : va_W} {A0 : Nat → Prop} {H0 H : Heap} {locs : List Loc} (h : XI D cl w A0 H0 H locs) (hp : ∀ (i : Nat) (q : vw_C), cl.1[i]? = some q → cl.2[i]? = some q) {q0 a ci : Nat} {fs : List Value} (he : w[q0]? = some (a, .inr (ci, fs))) {r : vw_C} (hc : cl.1[ci]? = some r) : va_P D cl.1 [(a, .inr (ci, fs))] H :=
  va_P.one ((h.1 q0 _ he).cl hp rfl hc)
theorem XI.arr {D : va_G} {cl : vC2} {w : va_W} {A0 : Nat → Prop} {H0 H : Heap} {locs : List Loc} (h : XI D cl w A0 H0 H locs) {q0 a : Nat} {x : ClassId × vp_A} (he : w[q0]? = some (a, .inl x)) : va_P D cl.1 [(a, .inl x)] H := va_P.one (h.1 q0 _ he)
variable {p : Program} {l : Launch} {e : Env} {R : Room} {s : State} {m : MethodId} {args : Array Value} {below : List Frame} {meth : Method} {c : Code} {H : Heap} {locs : List Loc} {cells slots : Nat} {Q : State → Prop}
variable {cc : ByteArray} {nL : Nat} {own : String} {D : va_G} {cl : vC2} {tys : List (ClassId × FieldType)} {A0 : Nat → Prop} {Z : (Nat → Prop) → State → Heap → Prop} {w : va_W} {pc : Nat} {ls : Array Slot} {rest : List Value} {a : Nat}
theorem x_get (X : XC p s m args meth c cc nL own D cl tys A0 Z) (hI : XI D cl w A0 s.heap H locs) (q0 : Nat) {ci : Nat} {fs : List Value} (he : w[q0]? = some (a, .inr (ci, fs))) {C : String} {T : u_T} {N : Nat} (hc : cl.1[ci]? = some (C, T, N)) (hin : ∀ w ∈ u_ws C T N, w ∈ lw_all) (k : Nat) (hk : k < N) {ref : String} {index : Nat} (hq : Cond.fieldLink own index ref (T k).2.1 (T k).2.2.1 ∈ lw_all) (hsame : ∀ x, s.fieldFound? (T k).1 (T k).2.1 (T k).2.2.1 = some x → s.fieldFound? ref (T k).2.1 (T k).2.2.1 = some x) {v : Value} (hv : fs[k]? = some v) (hdg : decode cc pc = .ok (.getfield index, 3))
    (kk : W p l e R s m args below meth c H locs cells slots Q (F0 m (pc + 3) ls (v :: rest))) : W p l e R s m args below meth c H locs cells slots Q (F0 m pc ls (.ref a :: rest)) :=
  va_get (D := D) (ci := ci) (C := C) (T := T) (N := N) X.1 X.2.1 X.2.2.2.2.1 hin X.2.2.2.1 X.2.2.2.2.2.1 (hI.obj X.2.2.2.2.2.2.2.2.2.2 he hc) 0 rfl hc k hk (X.2.2.2.2.1 _ hq) hsame hv hdg kk
theorem x_put (X : XC p s m args meth c cc nL own D cl tys A0 Z) (hI : XI D cl w A0 s.heap H locs) (q0 : Nat) {ci : Nat} {fs : List Value} (he : w[q0]? = some (a, .inr (ci, fs))) {C : String} {T : u_T} {N : Nat} (hc : cl.1[ci]? = some (C, T, N)) (hin : ∀ w ∈ u_ws C T N, w ∈ lw_all) (ty0 : Nat → FieldType) (hty : ∀ k, k < N → parseFieldDescriptor (T k).2.2.1 = some (ty0 k)) (hnm : ∀ a, a < N → ∀ b, b < N → a ≠ b → (T a).2.1 ≠ (T b).2.1) (k : Nat) (hk : k < N) {ref : String} {index : Nat} (hq : Cond.fieldLink own index ref (T k).2.1 (T k).2.2.1 ∈ lw_all) (hsame : ∀ x, s.fieldFound? (T k).1 (T k).2.1 (T k).2.2.1 = some x → s.fieldFound? ref (T k).2.1 (T k).2.2.1 = some x) (hfin : (T k).2.2.2 = false) {v : Value} (hn : narrow (ty0 k) v = v) (hfit : fits (ty0 k) v = true) (hl : k < fs.length) {w' : va_W} (hw : w.set q0 (a, .inr (ci, fs.set k v)) = w')
    (hdg : decode cc pc = .ok (.putfield index, 3)) (kk : ∀ (H1 : Heap) (locs1 : List Loc), XI D cl w' A0 s.heap H1 locs1 → W p l e R s m args below meth c H1 locs1 cells slots Q (F0 m (pc + 3) ls rest)) : W p l e R s m args below meth c H locs cells slots Q (F0 m pc ls (v :: .ref a :: rest)) := by
  subst hw
  obtain ⟨hP, hD, hS0⟩ := hI
  have hpre := X.2.2.2.2.2.2.2.2.2.2
  have hap := va_apart (own := own) X.2.2.2.2.1 hin ty0 hty hnm X.2.2.2.2.2.1 hc
  obtain ⟨r, h1, cell, q1, q2, q3, q4⟩ := hP q0 _ he
  have hr : r = (C, T, N) := Option.some.inj (h1.symm.trans (hpre _ _ hc))
  subst hr
  obtain ⟨hS, hfc, kC, hkC, hkind⟩ := X.2.2.2.2.2.1.1 ci _ hc
  obtain ⟨cf, kf, fi, f, hi, hsl⟩ := hS k hk
  have hlay := X.2.2.2.2.1 _ (hin _ (u_in_lay hk))
  unfold u_lay at hlay
  rw [if_neg (by rw [hfin]; decide)] at hlay
  have hst := (u_facts hfc hkC (u_lays X.2.2.2.2.1 hin hk) hi).1
  have h6 := u_store hfc hkC hkind hlay hi (hty k hk) hn hfit
  refine W.putK X.1 X.2.1 (f := f) ⟨X.2.2.2.1, X.2.2.2.2.1 _ hq, ⟨_, _, _, hsame _ hi⟩, hst⟩ (by rw [q2]; exact h6) q1 q3 (by rw [hsl]; exact k2_hasslot (q4 k hk)) rfl rfl hdg fun H' e1 e2 e3 => ?_
  rw [hsl] at e1 ⊢
  exact kk H' _ ⟨hP.set hD he ⟨_, hpre _ _ hc, t_OB.to (V := updV (vp_V fs) k v) ⟨_, e1, q2, q3, t_set q4 hap hk v⟩ (fun j _ => vp_updV_set hl v j)⟩ e3, hD.set he, hS0.put e2 e3 (hD.2 q0 _ he)⟩
theorem x_iald (X : XC p s m args meth c cc nL own D cl tys A0 Z) (hI : XI D cl w A0 s.heap H locs) (q0 t0 : Nat) {cA : ClassId} {n : Nat} {f : Nat → Int32} (ha : w[q0]? = some (a, .inl (cA, n, .inl f))) (ht : tys[t0]? = some (cA, .int)) {i : Int32} (hin : vp_in i n) (hdg : decode cc pc = .ok (.iaload, 1))
    (kk : W p l e R s m args below meth c H locs cells slots Q (F0 m (pc + 1) ls (.int (f i.toNatClampNeg) :: rest))) : W p l e R s m args below meth c H locs cells slots Q (F0 m pc ls (.int i :: .ref a :: rest)) :=
  va_iald (D := D) X.1 X.2.1 X.2.2.2.2.2.1 (hI.arr ha) 0 t0 rfl ht hin hdg kk
theorem x_bald (X : XC p s m args meth c cc nL own D cl tys A0 Z) (hI : XI D cl w A0 s.heap H locs) (q0 t0 : Nat) {cA : ClassId} {n : Nat} {f : Nat → Int32} (ha : w[q0]? = some (a, .inl (cA, n, .inl f))) (ht : tys[t0]? = some (cA, .byte)) {i : Int32} (hin : vp_in i n) (hdg : decode cc pc = .ok (.baload, 1))
    (kk : W p l e R s m args below meth c H locs cells slots Q (F0 m (pc + 1) ls (.int (f i.toNatClampNeg) :: rest))) : W p l e R s m args below meth c H locs cells slots Q (F0 m pc ls (.int i :: .ref a :: rest)) :=
  va_bald (D := D) X.1 X.2.1 X.2.2.2.2.2.1 (hI.arr ha) 0 t0 rfl ht hin hdg kk
theorem x_zald (X : XC p s m args meth c cc nL own D cl tys A0 Z) (hI : XI D cl w A0 s.heap H locs) (q0 t0 : Nat) {cA : ClassId} {n : Nat} {f : Nat → Int32} (ha : w[q0]? = some (a, .inl (cA, n, .inl f))) (ht : tys[t0]? = some (cA, .boolean)) {i : Int32} (hin : vp_in i n) (hdg : decode cc pc = .ok (.baload, 1))
    (kk : W p l e R s m args below meth c H locs cells slots Q (F0 m (pc + 1) ls (.int (f i.toNatClampNeg) :: rest))) : W p l e R s m args below meth c H locs cells slots Q (F0 m pc ls (.int i :: .ref a :: rest)) :=
  va_zald (D := D) X.1 X.2.1 X.2.2.2.2.2.1 (hI.arr ha) 0 t0 rfl ht hin hdg kk
theorem x_lald (X : XC p s m args meth c cc nL own D cl tys A0 Z) (hI : XI D cl w A0 s.heap H locs) (q0 t0 : Nat) {cA : ClassId} {n : Nat} {f : Nat → Int64} (ha : w[q0]? = some (a, .inl (cA, n, .inr (.inl f)))) (ht : tys[t0]? = some (cA, .long)) {i : Int32} (hin : vp_in i n) (hdg : decode cc pc = .ok (.laload, 1))
    (kk : W p l e R s m args below meth c H locs cells slots Q (F0 m (pc + 1) ls (.long (f i.toNatClampNeg) :: rest))) : W p l e R s m args below meth c H locs cells slots Q (F0 m pc ls (.int i :: .ref a :: rest)) :=
  va_lald (D := D) X.1 X.2.1 X.2.2.2.2.2.1 (hI.arr ha) 0 t0 rfl ht hin hdg kk
theorem x_alen (X : XC p s m args meth c cc nL own D cl tys A0 Z) (hI : XI D cl w A0 s.heap H locs) (q0 t0 : Nat) {cA : ClassId} {x : vp_A} (ha : w[q0]? = some (a, .inl (cA, x))) {ty : FieldType} (ht : tys[t0]? = some (cA, ty)) {v : Int32} (hv : Int32.ofNat x.1 = v) (hdg : decode cc pc = .ok (.arraylength, 1))
    (kk : W p l e R s m args below meth c H locs cells slots Q (F0 m (pc + 1) ls (.int v :: rest))) : W p l e R s m args below meth c H locs cells slots Q (F0 m pc ls (.ref a :: rest)) :=
  va_alen (D := D) X.1 X.2.1 X.2.2.2.2.2.1 (hI.arr ha) 0 t0 rfl ht hv hdg kk
theorem x_iast (X : XC p s m args meth c cc nL own D cl tys A0 Z) (hI : XI D cl w A0 s.heap H locs) (q0 t0 : Nat) {cA : ClassId} {n : Nat} {f : Nat → Int32} (ha : w[q0]? = some (a, .inl (cA, n, .inl f))) (ht : tys[t0]? = some (cA, .int)) {i : Int32} {x : Int32} (hin : vp_in i n) {w' : va_W} (hw : w.set q0 (a, .inl (cA, n, .inl (upd f i.toNatClampNeg x))) = w') (hdg : decode cc pc = .ok (.iastore, 1))
    (kk : ∀ (H1 : Heap) (locs1 : List Loc), XI D cl w' A0 s.heap H1 locs1 → W p l e R s m args below meth c H1 locs1 cells slots Q (F0 m (pc + 1) ls rest)) : W p l e R s m args below meth c H locs cells slots Q (F0 m pc ls (.int x :: .int i :: .ref a :: rest)) := by
  subst hw
  obtain ⟨hP, hD, hS⟩ := hI
  refine W.iast X.1 X.2.1 (hP q0 _ ha) ((X.2.2.2.2.2.1.2 t0 _ ht).1 n (fun j => .int (f j))) (fun q => by cases q) (by show ¬ (i < 0 ∨ (arrV _ _ _).slots.size ≤ _); rw [arrV_size]; exact hin) rfl rfl hdg fun H1 e z oq => ?_
  refine kk H1 _ ⟨hP.set hD ha ?_ oq, hD.set ha, hS.put z oq (hD.2 q0 _ ha)⟩
  show H1[a]? = some (vp_cell _ _)
  rw [e]
  rw [vp_cell_i, vp_cell_i, arrV_store]
  congr 2
  funext q
  by_cases hq : q = i.toNatClampNeg
  · subst hq
    simp [updV, upd]
    try rfl
  · simp [updV, upd, hq]
theorem x_bast (X : XC p s m args meth c cc nL own D cl tys A0 Z) (hI : XI D cl w A0 s.heap H locs) (q0 t0 : Nat) {cA : ClassId} {n : Nat} {f : Nat → Int32} (ha : w[q0]? = some (a, .inl (cA, n, .inl f))) (ht : tys[t0]? = some (cA, .byte)) {i : Int32} {x : Int32} (hin : vp_in i n) {w' : va_W} (hw : w.set q0 (a, .inl (cA, n, .inl (upd f i.toNatClampNeg (vp_nar .byte x)))) = w') (hdg : decode cc pc = .ok (.bastore, 1))
    (kk : ∀ (H1 : Heap) (locs1 : List Loc), XI D cl w' A0 s.heap H1 locs1 → W p l e R s m args below meth c H1 locs1 cells slots Q (F0 m (pc + 1) ls rest)) : W p l e R s m args below meth c H locs cells slots Q (F0 m pc ls (.int x :: .int i :: .ref a :: rest)) := by
  subst hw
  obtain ⟨hP, hD, hS⟩ := hI
  refine W.bast X.1 X.2.1 (hP q0 _ ha) ((X.2.2.2.2.2.1.2 t0 _ ht).1 n (fun j => .int (f j))) (fun q => by cases q) (by show ¬ (i < 0 ∨ (arrV _ _ _).slots.size ≤ _); rw [arrV_size]; exact hin) rfl rfl hdg fun H1 e z oq => ?_
  refine kk H1 _ ⟨hP.set hD ha ?_ oq, hD.set ha, hS.put z oq (hD.2 q0 _ ha)⟩
  show H1[a]? = some (vp_cell _ _)
  rw [e]
  rw [vp_cell_i, vp_cell_i, arrV_store]
  congr 2
  funext q
  by_cases hq : q = i.toNatClampNeg
  · subst hq
    simp [updV, upd, vp_nar]
    try rfl
  · simp [updV, upd, hq]
theorem x_zast (X : XC p s m args meth c cc nL own D cl tys A0 Z) (hI : XI D cl w A0 s.heap H locs) (q0 t0 : Nat) {cA : ClassId} {n : Nat} {f : Nat → Int32} (ha : w[q0]? = some (a, .inl (cA, n, .inl f))) (ht : tys[t0]? = some (cA, .boolean)) {i : Int32} {x : Int32} (hin : vp_in i n) {w' : va_W} (hw : w.set q0 (a, .inl (cA, n, .inl (upd f i.toNatClampNeg (vp_nar .boolean x)))) = w') (hdg : decode cc pc = .ok (.bastore, 1))
    (kk : ∀ (H1 : Heap) (locs1 : List Loc), XI D cl w' A0 s.heap H1 locs1 → W p l e R s m args below meth c H1 locs1 cells slots Q (F0 m (pc + 1) ls rest)) : W p l e R s m args below meth c H locs cells slots Q (F0 m pc ls (.int x :: .int i :: .ref a :: rest)) := by
  subst hw
  obtain ⟨hP, hD, hS⟩ := hI
  refine W.zast X.1 X.2.1 (hP q0 _ ha) ((X.2.2.2.2.2.1.2 t0 _ ht).1 n (fun j => .int (f j))) (fun q => by cases q) (by show ¬ (i < 0 ∨ (arrV _ _ _).slots.size ≤ _); rw [arrV_size]; exact hin) rfl rfl hdg fun H1 e z oq => ?_
  refine kk H1 _ ⟨hP.set hD ha ?_ oq, hD.set ha, hS.put z oq (hD.2 q0 _ ha)⟩
  show H1[a]? = some (vp_cell _ _)
  rw [e]
  rw [vp_cell_i, vp_cell_i, arrV_store]
  congr 2
  funext q
  by_cases hq : q = i.toNatClampNeg
  · subst hq
    simp [updV, upd, vp_nar]
    try rfl
  · simp [updV, upd, hq]
theorem x_last (X : XC p s m args meth c cc nL own D cl tys A0 Z) (hI : XI D cl w A0 s.heap H locs) (q0 t0 : Nat) {cA : ClassId} {n : Nat} {f : Nat → Int64} (ha : w[q0]? = some (a, .inl (cA, n, .inr (.inl f)))) (ht : tys[t0]? = some (cA, .long)) {i : Int32} {x : Int64} (hin : vp_in i n) {w' : va_W} (hw : w.set q0 (a, .inl (cA, n, .inr (.inl (vp_updL f i.toNatClampNeg x)))) = w') (hdg : decode cc pc = .ok (.lastore, 1))
    (kk : ∀ (H1 : Heap) (locs1 : List Loc), XI D cl w' A0 s.heap H1 locs1 → W p l e R s m args below meth c H1 locs1 cells slots Q (F0 m (pc + 1) ls rest)) : W p l e R s m args below meth c H locs cells slots Q (F0 m pc ls (.long x :: .int i :: .ref a :: rest)) := by
  subst hw
  obtain ⟨hP, hD, hS⟩ := hI
  refine W.last X.1 X.2.1 (hP q0 _ ha) ((X.2.2.2.2.2.1.2 t0 _ ht).1 n (fun j => .long (f j))) (fun q => by cases q) (by show ¬ (i < 0 ∨ (arrV _ _ _).slots.size ≤ _); rw [arrV_size]; exact hin) rfl rfl hdg fun H1 e z oq => ?_
  refine kk H1 _ ⟨hP.set hD ha ?_ oq, hD.set ha, hS.put z oq (hD.2 q0 _ ha)⟩
  show H1[a]? = some (vp_cell _ _)
  rw [e]
  rw [vp_cell_l, vp_cell_l, arrV_store]
  congr 2
  funext q
  by_cases hq : q = i.toNatClampNeg
  · subst hq
    simp [updV, vp_updL]
    try rfl
  · simp [updV, vp_updL, hq]
/-! ends -/
variable {w0 : va_W} {sz : Nat} {mc ms : Nat}
theorem x_iret (X : XC p s m args meth c cc nL own D cl tys (va_A w0 s.heap.size) Z) {w' : va_W} (hI : XI D cl w' (va_A w0 s.heap.size) s.heap H locs) {B : Int32 → va_W → Prop} (hr : meth.sig.returnType = some .int) {v : Int32} (hB : B v w') (hdg : decode cc pc = .ok (.ireturn, 1)) : W p l e R s m args below meth c H locs cells slots (MQ below (va_Qi B (XBd D cl (va_A w0 s.heap.size)) (va_A w0 s.heap.size)) args s cells slots (va_A w0 s.heap.size)) (F0 m pc ls [.int v]) :=
  W.iret (v := v) X.1 X.2.1 hr (fun t ht _ => ⟨⟨v, w', rfl, hB, by rw [ht]; exact hI.1, hI.2.1⟩, hI.2.2.F ht⟩) hI.2.2.2.2 hdg X.2.2.2.2.2.2.2.1
theorem x_zret (X : XC p s m args meth c cc nL own D cl tys (va_A w0 s.heap.size) Z) {w' : va_W} (hI : XI D cl w' (va_A w0 s.heap.size) s.heap H locs) {B : Int32 → va_W → Prop} (hr : meth.sig.returnType = some .boolean) {v : Int32} (hn : narrow .boolean (.int v) = .int v) (hB : B v w') (hdg : decode cc pc = .ok (.ireturn, 1)) : W p l e R s m args below meth c H locs cells slots (MQ below (va_Qi B (XBd D cl (va_A w0 s.heap.size)) (va_A w0 s.heap.size)) args s cells slots (va_A w0 s.heap.size)) (F0 m pc ls [.int v]) :=
  W.zret (v := v) X.1 X.2.1 hr hn (fun t ht _ => ⟨⟨v, w', rfl, hB, by rw [ht]; exact hI.1, hI.2.1⟩, hI.2.2.F ht⟩) hI.2.2.2.2 hdg X.2.2.2.2.2.2.2.1
theorem x_lret (X : XC p s m args meth c cc nL own D cl tys (va_A w0 s.heap.size) Z) {w' : va_W} (hI : XI D cl w' (va_A w0 s.heap.size) s.heap H locs) {B : Int64 → va_W → Prop} (hr : meth.sig.returnType = some .long) {v : Int64} (hB : B v w') (hdg : decode cc pc = .ok (.lreturn, 1)) : W p l e R s m args below meth c H locs cells slots (MQ below (va_Ql B (XBd D cl (va_A w0 s.heap.size)) (va_A w0 s.heap.size)) args s cells slots (va_A w0 s.heap.size)) (F0 m pc ls [.long v]) :=
  W.lret (v := v) X.1 X.2.1 hr (fun t ht _ => ⟨⟨v, w', rfl, hB, by rw [ht]; exact hI.1, hI.2.1⟩, hI.2.2.F ht⟩) hI.2.2.2.2 hdg X.2.2.2.2.2.2.2.1
theorem x_vret (X : XC p s m args meth c cc nL own D cl tys (va_A w0 s.heap.size) Z) {w' : va_W} (hI : XI D cl w' (va_A w0 s.heap.size) s.heap H locs) {B : va_W → Prop} (hr : meth.sig.returnType = none) (hB : B w') (hdg : decode cc pc = .ok (.return_, 1)) : W p l e R s m args below meth c H locs cells slots (MQ below (va_Qv B (XBd D cl (va_A w0 s.heap.size)) (va_A w0 s.heap.size)) args s cells slots (va_A w0 s.heap.size)) (F0 m pc ls []) :=
  W.vret X.1 X.2.1 hr (fun t ht _ => ⟨⟨w', rfl, hB, by rw [ht]; exact hI.1, hI.2.1⟩, hI.2.2.F ht⟩) hI.2.2.2.2 hdg X.2.2.2.2.2.2.2.1
/-! the start of a method's proof -/
theorem x_openG (hz : ZK Z) {l : Launch} {y : MethodName} {cc : ByteArray} {maxL : Nat} {ret : Option FieldType} {rm : Room} {Qc : Array Value → State → Outcome → State → Prop} {mc ms : Nat} {w : va_W} {av : List Value} {sz : Nat} (hy : plainName y.cls = true) (hlen : (lg_sl av).length ≤ maxL)
    (body : ∀ (p : Program) (e : Env) (s : State) (m : MethodId) (args : Array Value) (below : List Frame) (meth : Method) (c : Code) (ls : Array Slot), s.heap.size = sz → args = av.toArray → XC p s m args meth c cc maxL y.cls D cl tys (va_A w s.heap.size) Z → meth.sig.returnType = ret → meth.name = y.name → XI D cl w (va_A w s.heap.size) s.heap s.heap [] → lv_has ls maxL (lv_args 0 av) →
      W p l e rm s m args below meth c s.heap [] 0 0 (MQ below Qc args s mc ms (va_A w s.heap.size)) (F0 m 0 ls [])) :
    Met l y (ws_ y cc maxL ret) rm (XPre D cl tys Z w av sz) Qc mc ms (va_A w sz) := by
  refine Met.ofW (cc := cc) (maxL := maxL) (ret := ret) hy rfl ?_
  intro p e s m args below meth c s₁ B hml hv
  obtain ⟨rfl, hsz, hP, hK, hD0, hZ, hC⟩ := hv
  subst hsz
  have hts := atoms_spec (ws := ws_ y cc maxL ret) B.pre
  have hts : ∀ w ∈ lw_all, w.before av.toArray s = true := fun w h => hts w (List.mem_cons_of_mem _ h)
  have hown : s.vm.findClass y.cls = some m.cls := findClass_of_methodNamed B.named
  have hnm : meth.name = y.name := (name_of_methodNamed B.named B.method).1
  have hl := lv_entry av (n := maxL) hlen
  rw [lg_entry_eq]
  exact body p e s m av.toArray below meth c _ rfl rfl ⟨B.exec, B.bytes, hml, hown, hts, hK, fun q h => Or.inr h, B.notSynchronized, hZ, hz, hC⟩ B.returns hnm ⟨hP, hD0.self, va_S.rf⟩ hl
/-! calls that hand on the whole world -/
variable {y : MethodName} {bytes : ByteArray} {maxL n index : Nat} {ret : Option FieldType} {ws : List Cond} {rm : Room} {As : List Value} {C : String}
theorem x_lookI {w : va_W} (X : XC p s m args meth c cc nL own D cl tys A0 Z) (hI : XI D cl w A0 s.heap H locs) {av : List Value} : (∀ U : State, U.heap = H → s.WarmedH U.vm → XPre D cl tys Z w av H.size av.toArray U) := fun U hU hW => ⟨rfl, by rw [hU], by rw [hU]; exact hI.1, va_K.moved hW.alike X.2.2.2.2.2.1, hI.2.1.weaken (fun _ _ _ _ => trivial), by rw [hU]; exact X.2.2.2.2.2.2.2.2.2.1.2.2 _ _ _ _ (X.2.2.2.2.2.2.2.2.2.1.2.1 _ _ _ _ (X.2.2.2.2.2.2.2.2.2.1.1 _ _ _ _ hW X.2.2.2.2.2.2.2.2.1) (fun a _ h2 => hI.2.2.2.1 a ‹_› h2)) (hI.free X.2.2.2.2.2.2.1), X.2.2.2.2.2.2.2.2.2.2⟩
theorem x_blind (hz : ZK Z) {w : va_W} {av : List Value} {z : Nat} : FrameBlind (XPre D cl tys Z w av z) := fun a U g mk q => by
  obtain ⟨q0, q1, qP, qK, qD, qZ, qC⟩ := q
  exact ⟨q0, q1, qP, va_K.moved (u := U) (U := U.calling g mk a) (Vm.Alike.refl U.vm) qK, qD, hz.1 _ U (U.calling g mk a) _ (State.WarmedH.refl U) qZ, qC⟩
theorem x_calli (X : XC p s m args meth c cc nL own D cl tys A0 Z) (hI : XI D cl w A0 s.heap H locs) (q0 : Nat) {ci : Nat} {fs : List Value} (he : w[q0]? = some (a, .inr (ci, fs))) {T : u_T} {N : Nat} (hc : cl.1[ci]? = some (C, T, N)) {B : Int32 → va_W → Prop} (hM : XMi l y ws rm D cl tys Z w (.ref a :: As) B mc ms) (cw : CallW R s args own C index y bytes maxL ret ws rm mc ms n) (hn : As.length = n) (hls : ls.size = nL) (hroom : (rest.map fun v => v.category).sum ≤ 8) {st : List Value} (hst : st = As.reverse ++ .ref a :: rest) (hdg : decode cc pc = .ok (.invokevirtual index, 3)) (hf : cells + mc ≤ R.cells ∧ slots + ms ≤ R.slots)
    (kk : ∀ (r : Int32) (w' : va_W) (H1 : Heap) (locs1 : List Loc), B r w' → XI D cl w' A0 s.heap H1 locs1 → W p l e R s m args below meth c H1 locs1 (cells + mc) (slots + ms) Q (F0 m (pc + 3) ls (.int r :: rest))) : W p l e R s m args below meth c H locs cells slots Q (F0 m pc ls st) := by
  subst hst
  have hF := hI.free X.2.2.2.2.2.2.1
  refine va_calli (va_runV (As := As) (rest := rest) ⟨X.1, X.2.1, X.2.2.1, X.2.2.2.1, X.2.2.2.2.1⟩ (hM H.size) cw ⟨x_blind X.2.2.2.2.2.2.2.2.2.1, va_recv X.2.2.2.2.2.1 (hI.obj X.2.2.2.2.2.2.2.2.2.2 he hc) (ci := ci) (q0 := 0) hc rfl, x_lookI X hI⟩ rfl hn hls rfl (lv_room hroom) hdg hf) hI.2.2 (fun q _ h => hF q h) hF (fun r u t H1 locs1 ht hvm hw hB hz hk hS => ?_)
  exact kk r u H1 locs1 hw ⟨by rw [← ht]; exact hB.1, hB.2.weaken (fun k q _ h => hF q.1 h), hS⟩
theorem x_calll (X : XC p s m args meth c cc nL own D cl tys A0 Z) (hI : XI D cl w A0 s.heap H locs) (q0 : Nat) {ci : Nat} {fs : List Value} (he : w[q0]? = some (a, .inr (ci, fs))) {T : u_T} {N : Nat} (hc : cl.1[ci]? = some (C, T, N)) {B : Int64 → va_W → Prop} (hM : XMl l y ws rm D cl tys Z w (.ref a :: As) B mc ms) (cw : CallW R s args own C index y bytes maxL ret ws rm mc ms n) (hn : As.length = n) (hls : ls.size = nL) (hroom : (rest.map fun v => v.category).sum ≤ 8) {st : List Value} (hst : st = As.reverse ++ .ref a :: rest) (hdg : decode cc pc = .ok (.invokevirtual index, 3)) (hf : cells + mc ≤ R.cells ∧ slots + ms ≤ R.slots)
    (kk : ∀ (r : Int64) (w' : va_W) (H1 : Heap) (locs1 : List Loc), B r w' → XI D cl w' A0 s.heap H1 locs1 → W p l e R s m args below meth c H1 locs1 (cells + mc) (slots + ms) Q (F0 m (pc + 3) ls (.long r :: rest))) : W p l e R s m args below meth c H locs cells slots Q (F0 m pc ls st) := by
  subst hst
  have hF := hI.free X.2.2.2.2.2.2.1
  refine va_calll (va_runV (As := As) (rest := rest) ⟨X.1, X.2.1, X.2.2.1, X.2.2.2.1, X.2.2.2.2.1⟩ (hM H.size) cw ⟨x_blind X.2.2.2.2.2.2.2.2.2.1, va_recv X.2.2.2.2.2.1 (hI.obj X.2.2.2.2.2.2.2.2.2.2 he hc) (ci := ci) (q0 := 0) hc rfl, x_lookI X hI⟩ rfl hn hls rfl (lv_room hroom) hdg hf) hI.2.2 (fun q _ h => hF q h) hF (fun r u t H1 locs1 ht hvm hw hB hz hk hS => ?_)
  exact kk r u H1 locs1 hw ⟨by rw [← ht]; exact hB.1, hB.2.weaken (fun k q _ h => hF q.1 h), hS⟩
theorem x_callv (X : XC p s m args meth c cc nL own D cl tys A0 Z) (hI : XI D cl w A0 s.heap H locs) (q0 : Nat) {ci : Nat} {fs : List Value} (he : w[q0]? = some (a, .inr (ci, fs))) {T : u_T} {N : Nat} (hc : cl.1[ci]? = some (C, T, N)) {B : va_W → Prop} (hM : XMv l y ws rm D cl tys Z w (.ref a :: As) B mc ms) (cw : CallW R s args own C index y bytes maxL ret ws rm mc ms n) (hn : As.length = n) (hls : ls.size = nL) (hroom : (rest.map fun v => v.category).sum ≤ 8) {st : List Value} (hst : st = As.reverse ++ .ref a :: rest) (hdg : decode cc pc = .ok (.invokevirtual index, 3)) (hf : cells + mc ≤ R.cells ∧ slots + ms ≤ R.slots)
    (kk : ∀ (w' : va_W) (H1 : Heap) (locs1 : List Loc), B w' → XI D cl w' A0 s.heap H1 locs1 → W p l e R s m args below meth c H1 locs1 (cells + mc) (slots + ms) Q (F0 m (pc + 3) ls rest)) : W p l e R s m args below meth c H locs cells slots Q (F0 m pc ls st) := by
  subst hst
  have hF := hI.free X.2.2.2.2.2.2.1
  refine va_callv (va_runV (As := As) (rest := rest) ⟨X.1, X.2.1, X.2.2.1, X.2.2.2.1, X.2.2.2.2.1⟩ (hM H.size) cw ⟨x_blind X.2.2.2.2.2.2.2.2.2.1, va_recv X.2.2.2.2.2.1 (hI.obj X.2.2.2.2.2.2.2.2.2.2 he hc) (ci := ci) (q0 := 0) hc rfl, x_lookI X hI⟩ rfl hn hls rfl (lv_room hroom) hdg hf) hI.2.2 (fun q _ h => hF q h) hF (fun u t H1 locs1 ht hvm hw hB hz hk hS => ?_)
  exact kk u H1 locs1 hw ⟨by rw [← ht]; exact hB.1, hB.2.weaken (fun k q _ h => hF q.1 h), hS⟩
/-- a static method that is handed the whole world -/
theorem x_callWi (X : XC p s m args meth c cc nL own D cl tys A0 Z) (hI : XI D cl w A0 s.heap H locs) {B : Int32 → va_W → Prop} (hM : XMi l y ws rm D cl tys Z w As B mc ms) (cw : CallB R s args own index y bytes maxL ret ws rm mc ms n ∧ (Cond.static y).before args s = true) (hn : As.length = n) (hls : ls.size = nL) (hroom : (rest.map fun v => v.category).sum ≤ 8) {st : List Value} (hst : st = As.reverse ++ rest) (hdg : decode cc pc = .ok (.invokestatic index, 3)) (hf : cells + mc ≤ R.cells ∧ slots + ms ≤ R.slots)
    (kk : ∀ (r : Int32) (w' : va_W) (H1 : Heap) (locs1 : List Loc), B r w' → XI D cl w' A0 s.heap H1 locs1 → W p l e R s m args below meth c H1 locs1 (cells + mc) (slots + ms) Q (F0 m (pc + 3) ls (.int r :: rest))) : W p l e R s m args below meth c H locs cells slots Q (F0 m pc ls st) := by
  subst hst
  have hF := hI.free X.2.2.2.2.2.2.1
  refine va_calli (va_runS (As := As) (rest := rest) ⟨X.1, X.2.1, X.2.2.1, X.2.2.2.1, X.2.2.2.2.1⟩ (hM H.size) cw ⟨x_blind X.2.2.2.2.2.2.2.2.2.1, x_lookI X hI⟩ rfl hn hls rfl (lv_room hroom) hdg hf) hI.2.2 (fun q _ h => hF q h) hF (fun r u t H1 locs1 ht hvm hw hB hz hk hS => ?_)
  exact kk r u H1 locs1 hw ⟨by rw [← ht]; exact hB.1, hB.2.weaken (fun k q _ h => hF q.1 h), hS⟩
/-! static methods that touch no cell: pure contracts -/
def XPi (l : Launch) (y : MethodName) (ws : List Cond) (rm : Room) (av : List Value) (r : Int32) : Prop :=
  ∀ (D : va_G) (cl : vC2) (tys : List (ClassId × FieldType)), XMi l y ws rm D cl tys ZT [] av (fun r' w' => r' = r ∧ w' = []) 0 0
def XPl (l : Launch) (y : MethodName) (ws : List Cond) (rm : Room) (av : List Value) (r : Int64) : Prop :=
  ∀ (D : va_G) (cl : vC2) (tys : List (ClassId × FieldType)), XMl l y ws rm D cl tys ZT [] av (fun r' w' => r' = r ∧ w' = []) 0 0
theorem va_D_nil {A : Nat → Prop} : va_D A [] := ⟨fun i j p q hi => by simp at hi, fun k q hq => by simp at hq⟩
theorem XI.keep {w : va_W} {A0 : Nat → Prop} {H0 H H1 : Heap} {locs locs1 : List Loc} (h : XI D cl w A0 H0 H locs) (hk : ∀ q : Nat, q < H.size → ¬ va_A [] H.size q → H1[q]? = H[q]?) (hS : va_S A0 H0 H1 locs1) : XI D cl w A0 H0 H1 locs1 := by
  refine ⟨h.1.kept (fun k q hq => hk q.1 (h.1 k q hq).lt ?_), h.2.1, hS⟩
  intro z
  rcases z with ⟨k', e', hk'⟩ | z
  · simp at hk'
  · exact absurd (h.1 k q hq).lt (by omega)
theorem x_callSi (X : XC p s m args meth c cc nL own D cl tys A0 Z) (hI : XI D cl w A0 s.heap H locs) {r : Int32} (hM : XPi l y ws rm As r) (cw : CallB R s args own index y bytes maxL ret ws rm 0 0 n ∧ (Cond.static y).before args s = true) (hn : As.length = n) (hls : ls.size = nL) (hroom : (rest.map fun v => v.category).sum ≤ 8) {st : List Value} (hst : st = As.reverse ++ rest) (hdg : decode cc pc = .ok (.invokestatic index, 3)) (hf : cells ≤ R.cells ∧ slots ≤ R.slots)
    (kk : ∀ (H1 : Heap) (locs1 : List Loc), XI D cl w A0 s.heap H1 locs1 → W p l e R s m args below meth c H1 locs1 cells slots Q (F0 m (pc + 3) ls (.int r :: rest))) : W p l e R s m args below meth c H locs cells slots Q (F0 m pc ls st) := by
  subst hst
  have hF : ∀ q : Nat, va_A [] H.size q → A0 q := fun q hq => by
    rcases hq with ⟨k, e, hk⟩ | hq
    · simp at hk
    · exact X.2.2.2.2.2.2.1 q (Nat.le_trans hI.2.2.1 hq)
  refine va_calli (va_runS (As := As) (rest := rest) ⟨X.1, X.2.1, X.2.2.1, X.2.2.2.1, X.2.2.2.2.1⟩ (hM D cl tys H.size) cw ⟨x_blind ZT_ok, fun U hU hW => ⟨rfl, by rw [hU], fun k q hq => by simp at hq, va_K.moved hW.alike X.2.2.2.2.2.1, va_D_nil, trivial, X.2.2.2.2.2.2.2.2.2.2⟩⟩ rfl hn hls rfl (lv_room hroom) hdg ⟨by omega, by omega⟩) hI.2.2 (fun q _ h => hF q h) hF (fun r1 u t H1 locs1 ht hvm hw hB hz hk hS => ?_)
  obtain ⟨rfl, rfl⟩ := hw
  exact kk H1 locs1 (hI.keep hk hS)
theorem x_callSl (X : XC p s m args meth c cc nL own D cl tys A0 Z) (hI : XI D cl w A0 s.heap H locs) {r : Int64} (hM : XPl l y ws rm As r) (cw : CallB R s args own index y bytes maxL ret ws rm 0 0 n ∧ (Cond.static y).before args s = true) (hn : As.length = n) (hls : ls.size = nL) (hroom : (rest.map fun v => v.category).sum ≤ 8) {st : List Value} (hst : st = As.reverse ++ rest) (hdg : decode cc pc = .ok (.invokestatic index, 3)) (hf : cells ≤ R.cells ∧ slots ≤ R.slots)
    (kk : ∀ (H1 : Heap) (locs1 : List Loc), XI D cl w A0 s.heap H1 locs1 → W p l e R s m args below meth c H1 locs1 cells slots Q (F0 m (pc + 3) ls (.long r :: rest))) : W p l e R s m args below meth c H locs cells slots Q (F0 m pc ls st) := by
  subst hst
  have hF : ∀ q : Nat, va_A [] H.size q → A0 q := fun q hq => by
    rcases hq with ⟨k, e, hk⟩ | hq
    · simp at hk
    · exact X.2.2.2.2.2.2.1 q (Nat.le_trans hI.2.2.1 hq)
  refine va_calll (va_runS (As := As) (rest := rest) ⟨X.1, X.2.1, X.2.2.1, X.2.2.2.1, X.2.2.2.2.1⟩ (hM D cl tys H.size) cw ⟨x_blind ZT_ok, fun U hU hW => ⟨rfl, by rw [hU], fun k q hq => by simp at hq, va_K.moved hW.alike X.2.2.2.2.2.1, va_D_nil, trivial, X.2.2.2.2.2.2.2.2.2.2⟩⟩ rfl hn hls rfl (lv_room hroom) hdg ⟨by omega, by omega⟩) hI.2.2 (fun q _ h => hF q h) hF (fun r1 u t H1 locs1 ht hvm hw hB hz hk hS => ?_)
  obtain ⟨rfl, rfl⟩ := hw
  exact kk H1 locs1 (hI.keep hk hS)
end XROWS
