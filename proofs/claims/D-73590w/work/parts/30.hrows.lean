/-! ROWS OVER A HEAP AS A FUNCTION: G says what stands where, and which cells may be written -/
abbrev HG : Type := Nat → Option (Bool × va_E)
def hup (G : HG) (a : Nat) (x : Bool × va_E) : HG := fun q => if q = a then some x else G q
theorem hup_s (G : HG) (a : Nat) (x : Bool × va_E) : hup G a x a = some x := if_pos rfl
theorem hup_n (G : HG) {a q : Nat} (x : Bool × va_E) (h : q ≠ a) : hup G a x q = G q := if_neg h
section HROWS
def HI (D : va_G) (cl : vC2) (G : HG) (A0 : Nat → Prop) (H0 H : Heap) (locs : List Loc) : Prop :=
  (∀ (a : Nat) (b : Bool) (e : va_E), G a = some (b, e) → va_at D cl.2 (a, e) H ∧ (b = true → A0 a)) ∧ va_S A0 H0 H locs
/-- which cells a method may change: those of G that may be written, and new ones -/
def hA (G : HG) (sz : Nat) : Nat → Prop := fun q => (∃ e, G q = some (true, e)) ∨ sz ≤ q
def HPre (D : va_G) (cl : vC2) (tys : List (ClassId × FieldType)) (Z : (Nat → Prop) → State → Heap → Prop) (G : HG) (av : List Value) (sz : Nat) : Array Value → State → Prop :=
  va_Pc av (fun U => U.heap.size = sz ∧ (∀ (a : Nat) (b : Bool) (e : va_E), G a = some (b, e) → va_at D cl.2 (a, e) U.heap) ∧ va_K D cl.1 tys U ∧ Z (hA G sz) U U.heap ∧ (∀ (i : Nat) (q : vw_C), cl.1[i]? = some q → cl.2[i]? = some q))
def HBd (D : va_G) (cl : vC2) (A : Nat → Prop) (G' : HG) (t : State) : Prop := ∀ (a : Nat) (b : Bool) (e : va_E), G' a = some (b, e) → va_at D cl.2 (a, e) t.heap ∧ (b = true → A a)
/-- the contracts: f says what is asked of the heap before, post what holds behind -/
def HMi (l : Launch) (y : MethodName) (ws : List Cond) (rm : Room) (D : va_G) (cl : vC2) (tys : List (ClassId × FieldType)) (Z : (Nat → Prop) → State → Heap → Prop) (G : HG) (av : List Value) (post : Int32 → HG → Prop) (mc ms : Nat) : Prop :=
  ∀ sz : Nat, Met l y ws rm (HPre D cl tys Z G av sz) (va_Qi post (HBd D cl (hA G sz)) (hA G sz)) mc ms (hA G sz)
def HMl (l : Launch) (y : MethodName) (ws : List Cond) (rm : Room) (D : va_G) (cl : vC2) (tys : List (ClassId × FieldType)) (Z : (Nat → Prop) → State → Heap → Prop) (G : HG) (av : List Value) (post : Int64 → HG → Prop) (mc ms : Nat) : Prop :=
  ∀ sz : Nat, Met l y ws rm (HPre D cl tys Z G av sz) (va_Ql post (HBd D cl (hA G sz)) (hA G sz)) mc ms (hA G sz)
def HMv (l : Launch) (y : MethodName) (ws : List Cond) (rm : Room) (D : va_G) (cl : vC2) (tys : List (ClassId × FieldType)) (Z : (Nat → Prop) → State → Heap → Prop) (G : HG) (av : List Value) (post : HG → Prop) (mc ms : Nat) : Prop :=
  ∀ sz : Nat, Met l y ws rm (HPre D cl tys Z G av sz) (va_Qv post (HBd D cl (hA G sz)) (hA G sz)) mc ms (hA G sz)
def HMq (l : Launch) (y : MethodName) (ws : List Cond) (rm : Room) (D : va_G) (cl : vC2) (tys : List (ClassId × FieldType)) (Z : (Nat → Prop) → State → Heap → Prop) (G : HG) (av : List Value) (post : Option Nat → HG → Prop) (mc ms : Nat) : Prop :=
  ∀ sz : Nat, Met l y ws rm (HPre D cl tys Z G av sz) (va_Qq post (HBd D cl (hA G sz)) (hA G sz)) mc ms (hA G sz)
theorem HI.lt {D : va_G} {cl : vC2} {G : HG} {A0 : Nat → Prop} {H0 H : Heap} {locs : List Loc} (h : HI D cl G A0 H0 H locs) {a : Nat} {x : Bool × va_E} (hg : G a = some x) : a < H.size := (h.1 a x.1 x.2 hg).1.lt
theorem HI.fresh {D : va_G} {cl : vC2} {G : HG} {A0 : Nat → Prop} {H0 H : Heap} {locs : List Loc} (h : HI D cl G A0 H0 H locs) : G H.size = none := by
  cases hg : G H.size with
  | none => rfl
  | some x => exact absurd (h.lt hg) (Nat.lt_irrefl _)
theorem HI.set {D : va_G} {cl : vC2} {G : HG} {A0 : Nat → Prop} {H0 H H1 : Heap} {locs locs1 : List Loc} (h : HI D cl G A0 H0 H locs) {a : Nat} {e0 e : va_E} (hg : G a = some (true, e0)) (he : va_at D cl.2 (a, e) H1) (oq : ∀ q : Nat, q ≠ a → H1[q]? = H[q]?) (hS : va_S A0 H0 H1 locs1) : HI D cl (hup G a (true, e)) A0 H0 H1 locs1 := by
  refine ⟨fun q b x hq => ?_, hS⟩
  unfold hup at hq
  by_cases hqa : q = a
  · rw [if_pos hqa] at hq
    cases hq
    subst hqa
    exact ⟨he, (h.1 q true e0 hg).2⟩
  · rw [if_neg hqa] at hq
    exact ⟨(h.1 q b x hq).1.kept (oq q hqa), (h.1 q b x hq).2⟩
theorem HI.push {D : va_G} {cl : vC2} {G : HG} {A0 : Nat → Prop} {H0 H H1 : Heap} {locs : List Loc} (h : HI D cl G A0 H0 H locs) (hA : ∀ q : Nat, H0.size ≤ q → A0 q) {e : va_E} (he : va_at D cl.2 (H.size, e) H1) (oq : ∀ q : Nat, q < H.size → H1[q]? = H[q]?) (hz : H.size ≤ H1.size) : HI D cl (hup G H.size (true, e)) A0 H0 H1 locs := by
  refine ⟨fun q b x hq => ?_, Nat.le_trans h.2.1 hz, fun x h1 h2 => (oq x (Nat.lt_of_lt_of_le h1 h.2.1)).trans (h.2.2.1 x h1 h2), h.2.2.2⟩
  unfold hup at hq
  by_cases hqa : q = H.size
  · rw [if_pos hqa] at hq
    cases hq
    subst hqa
    exact ⟨he, fun _ => hA _ h.2.1⟩
  · rw [if_neg hqa] at hq
    exact ⟨(h.1 q b x hq).1.kept (oq q (h.lt hq)), (h.1 q b x hq).2⟩
theorem HI.free {D : va_G} {cl : vC2} {G : HG} {A0 : Nat → Prop} {H0 H : Heap} {locs : List Loc} (h : HI D cl G A0 H0 H locs) (hn : ∀ q : Nat, H0.size ≤ q → A0 q) : ∀ q, hA G H.size q → A0 q := by
  intro q hq
  rcases hq with ⟨e, he⟩ | hq
  · exact (h.1 q true e he).2 rfl
  · exact hn q (Nat.le_trans h.2.1 hq)
theorem HI.obj {D : va_G} {cl : vC2} {G : HG} {A0 : Nat → Prop} {H0 H : Heap} {locs : List Loc} (h : HI D cl G A0 H0 H locs) (hp : ∀ (i : Nat) (q : vw_C), cl.1[i]? = some q → cl.2[i]? = some q) {a ci : Nat} {b : Bool} {fs : List Value} (he : G a = some (b, .inr (ci, fs))) {r : vw_C} (hc : cl.1[ci]? = some r) : va_P D cl.1 [(a, .inr (ci, fs))] H :=
  va_P.one ((h.1 a b _ he).1.cl hp rfl hc)
theorem HI.arr {D : va_G} {cl : vC2} {G : HG} {A0 : Nat → Prop} {H0 H : Heap} {locs : List Loc} (h : HI D cl G A0 H0 H locs) {a : Nat} {b : Bool} {x : ClassId × vp_A} (he : G a = some (b, .inl x)) : va_P D cl.1 [(a, .inl x)] H := va_P.one (h.1 a b _ he).1
variable {p : Program} {l : Launch} {e : Env} {R : Room} {s : State} {m : MethodId} {args : Array Value} {below : List Frame} {meth : Method} {c : Code} {H : Heap} {locs : List Loc} {cells slots : Nat} {Q : State → Prop}
variable {cc : ByteArray} {nL : Nat} {own : String} {D : va_G} {cl : vC2} {tys : List (ClassId × FieldType)} {A0 : Nat → Prop} {Z : (Nat → Prop) → State → Heap → Prop} {G : HG} {pc : Nat} {ls : Array Slot} {rest : List Value} {a : Nat}
/-! references that may be null -/
theorem h_catq (o : Option Nat) : (va_rf o).category = 1 := by cases o <;> rfl
theorem h_aload_n (hx : p.tables.exec = Jvm.exec) (hb : c.code = cc) {k : Fin 4} {i : Nat} {o : Option Nat} (hdg : decode cc pc = .ok (.aload_n k, 1)) (hi : (k : Nat) = i) (hl : ls[i]? = some (.val (va_rf o))) (kk : W p l e R s m args below meth c H locs cells slots Q (F0 m (pc + 1) ls (va_rf o :: rest))) : W p l e R s m args below meth c H locs cells slots Q (F0 m pc ls rest) := by
  cases o with
  | none => exact lv_aload_nN hx hb hdg hi hl kk
  | some x => exact lv_aload_n hx hb hdg hi hl kk
theorem h_aload (hx : p.tables.exec = Jvm.exec) (hb : c.code = cc) {i : Nat} {o : Option Nat} (hdg : decode cc pc = .ok (.aload i, 2)) (hl : ls[i]? = some (.val (va_rf o))) (kk : W p l e R s m args below meth c H locs cells slots Q (F0 m (pc + 1 + 1) ls (va_rf o :: rest))) : W p l e R s m args below meth c H locs cells slots Q (F0 m pc ls rest) := by
  cases o with
  | none => exact lv_aloadN hx hb hdg hl kk
  | some x => exact lv_aload hx hb hdg hl kk
theorem h_astore_n (hx : p.tables.exec = Jvm.exec) (hb : c.code = cc) {k : Fin 4} {i nL : Nat} {o : Option Nat} {lv lv' : List (Nat × Value)} (hdg : decode cc pc = .ok (.astore_n k, 1)) (hi : (k : Nat) = i) (h : lv_has ls nL lv) (hn : i < nL) (hl : (i, va_rf o) :: lv.filter (fun q => !(q.1 == i) && !(q.1 + 1 == i && q.2.category == 2)) = lv') (kk : ∀ ls' : Array Slot, lv_has ls' nL lv' → W p l e R s m args below meth c H locs cells slots Q (F0 m (pc + 1) ls' rest)) : W p l e R s m args below meth c H locs cells slots Q (F0 m pc ls (va_rf o :: rest)) := by
  cases o with
  | none => exact lv_astore_nN hx hb hdg hi h hn hl kk
  | some x => exact lv_astore_n hx hb hdg hi h hn hl kk
theorem h_astore (hx : p.tables.exec = Jvm.exec) (hb : c.code = cc) {i nL : Nat} {o : Option Nat} {lv lv' : List (Nat × Value)} (hdg : decode cc pc = .ok (.astore i, 2)) (h : lv_has ls nL lv) (hn : i < nL) (hl : (i, va_rf o) :: lv.filter (fun q => !(q.1 == i) && !(q.1 + 1 == i && q.2.category == 2)) = lv') (kk : ∀ ls' : Array Slot, lv_has ls' nL lv' → W p l e R s m args below meth c H locs cells slots Q (F0 m (pc + 1 + 1) ls' rest)) : W p l e R s m args below meth c H locs cells slots Q (F0 m pc ls (va_rf o :: rest)) := by
  cases o with
  | none => exact lv_astoreN hx hb hdg h hn hl kk
  | some x => exact lv_astore hx hb hdg h hn hl kk
theorem h_ifnull (hx : p.tables.exec = Jvm.exec) (hb : c.code = cc) {o : Option Nat} {off : Int} {tgt : Nat} (hdg : decode cc pc = .ok (.ifnull off, 3)) (ht : (pc : Int) + off = (tgt : Int)) (kt : o = none → W p l e R s m args below meth c H locs cells slots Q (F0 m tgt ls rest)) (kf : ∀ x, o = some x → W p l e R s m args below meth c H locs cells slots Q (F0 m (pc + 3) ls rest)) : W p l e R s m args below meth c H locs cells slots Q (F0 m pc ls (va_rf o :: rest)) := by
  cases o with
  | none => exact lv_ifnullN hx hb hdg ht (kt rfl)
  | some x => exact lv_ifnull hx hb hdg (kf x rfl)
theorem h_ifnonnull (hx : p.tables.exec = Jvm.exec) (hb : c.code = cc) {o : Option Nat} {off : Int} {tgt : Nat} (hdg : decode cc pc = .ok (.ifnonnull off, 3)) (ht : (pc : Int) + off = (tgt : Int)) (kt : ∀ x, o = some x → W p l e R s m args below meth c H locs cells slots Q (F0 m tgt ls rest)) (kf : o = none → W p l e R s m args below meth c H locs cells slots Q (F0 m (pc + 3) ls rest)) : W p l e R s m args below meth c H locs cells slots Q (F0 m pc ls (va_rf o :: rest)) := by
  cases o with
  | none => exact lv_ifnonnullN hx hb hdg (kf rfl)
  | some x => exact lv_ifnonnull hx hb hdg ht (kt x rfl)
/-! fields -/
theorem h_get (X : XC p s m args meth c cc nL own D cl tys A0 Z) (hI : HI D cl G A0 s.heap H locs) {ci : Nat} {b : Bool} {fs : List Value} (he : G a = some (b, .inr (ci, fs))) {C : String} {T : u_T} {N : Nat} (hc : cl.1[ci]? = some (C, T, N)) (hin : ∀ w ∈ u_ws C T N, w ∈ lw_all) (k : Nat) (hk : k < N) {ref : String} {index : Nat} (hq : Cond.fieldLink own index ref (T k).2.1 (T k).2.2.1 ∈ lw_all) (hsame : ∀ x, s.fieldFound? (T k).1 (T k).2.1 (T k).2.2.1 = some x → s.fieldFound? ref (T k).2.1 (T k).2.2.1 = some x) {v : Value} (hv : fs[k]? = some v) (hdg : decode cc pc = .ok (.getfield index, 3))
    (kk : W p l e R s m args below meth c H locs cells slots Q (F0 m (pc + 3) ls (v :: rest))) : W p l e R s m args below meth c H locs cells slots Q (F0 m pc ls (.ref a :: rest)) :=
  va_get (D := D) (ci := ci) (C := C) (T := T) (N := N) X.1 X.2.1 X.2.2.2.2.1 hin X.2.2.2.1 X.2.2.2.2.2.1 (hI.obj X.2.2.2.2.2.2.2.2.2.2 he hc) 0 rfl hc k hk (X.2.2.2.2.1 _ hq) hsame hv hdg kk
theorem h_getN (X : XC p s m args meth c cc nL own D cl tys A0 Z) (hI : HI D cl G A0 s.heap H locs) {ci : Nat} {b : Bool} {fs : List Value} (he : G a = some (b, .inr (ci, fs))) {C host : String} {T : u_T} {N : Nat} (hc : cl.1[ci]? = some (C, T, N)) (hin : ∀ w ∈ u_ws C T N, w ∈ lw_all) (k : Nat) (hk : k < N) {ref : String} {index : Nat} (hq : va_Nw (Cond.fieldLinkNest own index ref (T k).2.1 (T k).2.2.1 host) s) (hsame : ∀ x, s.fieldFound? (T k).1 (T k).2.1 (T k).2.2.1 = some x → s.fieldFound? ref (T k).2.1 (T k).2.2.1 = some x) {v : Value} (hv : fs[k]? = some v) (hdg : decode cc pc = .ok (.getfield index, 3))
    (kk : W p l e R s m args below meth c H locs cells slots Q (F0 m (pc + 3) ls (v :: rest))) : W p l e R s m args below meth c H locs cells slots Q (F0 m pc ls (.ref a :: rest)) :=
  va_getN (D := D) (ci := ci) (C := C) (T := T) (N := N) X.1 X.2.1 X.2.2.2.2.1 hin X.2.2.2.1 X.2.2.2.2.2.1 (hI.obj X.2.2.2.2.2.2.2.2.2.2 he hc) 0 rfl hc k hk (va_Nw.use rfl hq) hsame hv hdg kk
theorem h_put (X : XC p s m args meth c cc nL own D cl tys A0 Z) (hI : HI D cl G A0 s.heap H locs) {ci : Nat} {fs : List Value} (he : G a = some (true, .inr (ci, fs))) {C : String} {T : u_T} {N : Nat} (hc : cl.1[ci]? = some (C, T, N)) (hin : ∀ w ∈ u_ws C T N, w ∈ lw_all) (ty0 : Nat → FieldType) (hty : ∀ k, k < N → parseFieldDescriptor (T k).2.2.1 = some (ty0 k)) (hnm : ∀ a, a < N → ∀ b, b < N → a ≠ b → (T a).2.1 ≠ (T b).2.1) (k : Nat) (hk : k < N) {ref : String} {index : Nat} (hq : Cond.fieldLink own index ref (T k).2.1 (T k).2.2.1 ∈ lw_all) (hsame : ∀ x, s.fieldFound? (T k).1 (T k).2.1 (T k).2.2.1 = some x → s.fieldFound? ref (T k).2.1 (T k).2.2.1 = some x) (hfin : (T k).2.2.2 = false) {v : Value} (hn : narrow (ty0 k) v = v) (hfit : fits (ty0 k) v = true) (hl : k < fs.length)
    (hdg : decode cc pc = .ok (.putfield index, 3)) (kk : ∀ (H1 : Heap) (locs1 : List Loc), HI D cl (hup G a (true, .inr (ci, fs.set k v))) A0 s.heap H1 locs1 → W p l e R s m args below meth c H1 locs1 cells slots Q (F0 m (pc + 3) ls rest)) : W p l e R s m args below meth c H locs cells slots Q (F0 m pc ls (v :: .ref a :: rest)) := by
  have hpre := X.2.2.2.2.2.2.2.2.2.2
  have hap := va_apart (own := own) X.2.2.2.2.1 hin ty0 hty hnm X.2.2.2.2.2.1 hc
  obtain ⟨r, h1, cell, q1, q2, q3, q4⟩ := (hI.1 a true _ he).1
  have hr : r = (C, T, N) := Option.some.inj (h1.symm.trans (hpre _ _ hc))
  subst hr
  obtain ⟨hS, hfc, kC, hkC, hkind⟩ := X.2.2.2.2.2.1.1 ci _ hc
  obtain ⟨cf, kf, fi, f, hi, hsl⟩ := hS k hk
  have hlay := X.2.2.2.2.1 _ (hin _ (u_in_lay hk))
  unfold u_lay at hlay
  rw [if_neg (by rw [hfin]; decide)] at hlay
  have hst := (u_facts hfc hkC (u_lays X.2.2.2.2.1 hin hk) hi).1
  have h6 := u_store hfc hkC hkind hlay hi (hty k hk) hn hfit
  refine W.putK X.1 X.2.1 (f := f) ⟨X.2.2.2.1, X.2.2.2.2.1 _ hq, ⟨_, _, _, hsame _ hi⟩, hst⟩ (by rw [q2]; exact h6) q1 q3 (by rw [hsl]; exact k2_hasslot (q4 k hk)) rfl rfl hdg fun H' e1 e2 e3 => ?_
  rw [hsl] at e1 ⊢
  exact kk H' _ (hI.set he ⟨_, hpre _ _ hc, t_OB.to (V := updV (vp_V fs) k v) ⟨_, e1, q2, q3, t_set q4 hap hk v⟩ (fun j _ => vp_updV_set hl v j)⟩ e3 (hI.2.put e2 e3 ((hI.1 a true _ he).2 rfl)))
theorem h_putN (X : XC p s m args meth c cc nL own D cl tys A0 Z) (hI : HI D cl G A0 s.heap H locs) {ci : Nat} {fs : List Value} (he : G a = some (true, .inr (ci, fs))) {C host : String} {T : u_T} {N : Nat} (hc : cl.1[ci]? = some (C, T, N)) (hin : ∀ w ∈ u_ws C T N, w ∈ lw_all) (ty0 : Nat → FieldType) (hty : ∀ k, k < N → parseFieldDescriptor (T k).2.2.1 = some (ty0 k)) (hnm : ∀ a, a < N → ∀ b, b < N → a ≠ b → (T a).2.1 ≠ (T b).2.1) (k : Nat) (hk : k < N) {ref : String} {index : Nat} (hq : va_Nw (Cond.fieldLinkNest own index ref (T k).2.1 (T k).2.2.1 host) s) (hsame : ∀ x, s.fieldFound? (T k).1 (T k).2.1 (T k).2.2.1 = some x → s.fieldFound? ref (T k).2.1 (T k).2.2.1 = some x) (hfin : (T k).2.2.2 = false) {v : Value} (hn : narrow (ty0 k) v = v) (hfit : fits (ty0 k) v = true) (hl : k < fs.length)
    (hdg : decode cc pc = .ok (.putfield index, 3)) (kk : ∀ (H1 : Heap) (locs1 : List Loc), HI D cl (hup G a (true, .inr (ci, fs.set k v))) A0 s.heap H1 locs1 → W p l e R s m args below meth c H1 locs1 cells slots Q (F0 m (pc + 3) ls rest)) : W p l e R s m args below meth c H locs cells slots Q (F0 m pc ls (v :: .ref a :: rest)) := by
  have hpre := X.2.2.2.2.2.2.2.2.2.2
  have hap := va_apart (own := own) X.2.2.2.2.1 hin ty0 hty hnm X.2.2.2.2.2.1 hc
  obtain ⟨r, h1, cell, q1, q2, q3, q4⟩ := (hI.1 a true _ he).1
  have hr : r = (C, T, N) := Option.some.inj (h1.symm.trans (hpre _ _ hc))
  subst hr
  obtain ⟨hS, hfc, kC, hkC, hkind⟩ := X.2.2.2.2.2.1.1 ci _ hc
  obtain ⟨cf, kf, fi, f, hi, hsl⟩ := hS k hk
  have hlay := X.2.2.2.2.1 _ (hin _ (u_in_lay hk))
  unfold u_lay at hlay
  rw [if_neg (by rw [hfin]; decide)] at hlay
  have hst := (u_facts hfc hkC (u_lays X.2.2.2.2.1 hin hk) hi).1
  have h6 := u_store hfc hkC hkind hlay hi (hty k hk) hn hfit
  refine va_WputK X.1 X.2.1 (f := f) X.2.2.2.1 (va_Nw.use rfl hq) (hsame _ hi) hst (by rw [q2]; exact h6) q1 q3 (by rw [hsl]; exact k2_hasslot (q4 k hk)) rfl rfl hdg fun H' e1 e2 e3 => ?_
  rw [hsl] at e1 ⊢
  exact kk H' _ (hI.set he ⟨_, hpre _ _ hc, t_OB.to (V := updV (vp_V fs) k v) ⟨_, e1, q2, q3, t_set q4 hap hk v⟩ (fun j _ => vp_updV_set hl v j)⟩ e3 (hI.2.put e2 e3 ((hI.1 a true _ he).2 rfl)))
/-! arrays -/
theorem h_alen (X : XC p s m args meth c cc nL own D cl tys A0 Z) (hI : HI D cl G A0 s.heap H locs) (t0 : Nat) {b : Bool} {cA : ClassId} {x : vp_A} (ha : G a = some (b, .inl (cA, x))) {ty : FieldType} (ht : tys[t0]? = some (cA, ty)) (hdg : decode cc pc = .ok (.arraylength, 1))
    (kk : W p l e R s m args below meth c H locs cells slots Q (F0 m (pc + 1) ls (.int (Int32.ofNat x.1) :: rest))) : W p l e R s m args below meth c H locs cells slots Q (F0 m pc ls (.ref a :: rest)) :=
  va_alen (D := D) X.1 X.2.1 X.2.2.2.2.2.1 (hI.arr ha) 0 t0 rfl ht rfl hdg kk
theorem h_iald (X : XC p s m args meth c cc nL own D cl tys A0 Z) (hI : HI D cl G A0 s.heap H locs) (t0 : Nat) {b : Bool} {cA : ClassId} {n : Nat} {f : Nat → Int32} (ha : G a = some (b, .inl (cA, n, .inl f))) (ht : tys[t0]? = some (cA, .int)) {i : Int32} (hin : vp_in i n) (hdg : decode cc pc = .ok (.iaload, 1))
    (kk : W p l e R s m args below meth c H locs cells slots Q (F0 m (pc + 1) ls (.int (f i.toNatClampNeg) :: rest))) : W p l e R s m args below meth c H locs cells slots Q (F0 m pc ls (.int i :: .ref a :: rest)) :=
  va_iald (D := D) X.1 X.2.1 X.2.2.2.2.2.1 (hI.arr ha) 0 t0 rfl ht hin hdg kk
theorem h_bald (X : XC p s m args meth c cc nL own D cl tys A0 Z) (hI : HI D cl G A0 s.heap H locs) (t0 : Nat) {b : Bool} {cA : ClassId} {n : Nat} {f : Nat → Int32} (ha : G a = some (b, .inl (cA, n, .inl f))) (ht : tys[t0]? = some (cA, .byte)) {i : Int32} (hin : vp_in i n) (hdg : decode cc pc = .ok (.baload, 1))
    (kk : W p l e R s m args below meth c H locs cells slots Q (F0 m (pc + 1) ls (.int (f i.toNatClampNeg) :: rest))) : W p l e R s m args below meth c H locs cells slots Q (F0 m pc ls (.int i :: .ref a :: rest)) :=
  va_bald (D := D) X.1 X.2.1 X.2.2.2.2.2.1 (hI.arr ha) 0 t0 rfl ht hin hdg kk
theorem h_zald (X : XC p s m args meth c cc nL own D cl tys A0 Z) (hI : HI D cl G A0 s.heap H locs) (t0 : Nat) {b : Bool} {cA : ClassId} {n : Nat} {f : Nat → Int32} (ha : G a = some (b, .inl (cA, n, .inl f))) (ht : tys[t0]? = some (cA, .boolean)) {i : Int32} (hin : vp_in i n) (hdg : decode cc pc = .ok (.baload, 1))
    (kk : W p l e R s m args below meth c H locs cells slots Q (F0 m (pc + 1) ls (.int (f i.toNatClampNeg) :: rest))) : W p l e R s m args below meth c H locs cells slots Q (F0 m pc ls (.int i :: .ref a :: rest)) :=
  va_zald (D := D) X.1 X.2.1 X.2.2.2.2.2.1 (hI.arr ha) 0 t0 rfl ht hin hdg kk
theorem h_sald (X : XC p s m args meth c cc nL own D cl tys A0 Z) (hI : HI D cl G A0 s.heap H locs) (t0 : Nat) {b : Bool} {cA : ClassId} {n : Nat} {f : Nat → Int32} (ha : G a = some (b, .inl (cA, n, .inl f))) (ht : tys[t0]? = some (cA, .short)) {i : Int32} (hin : vp_in i n) (hdg : decode cc pc = .ok (.saload, 1))
    (kk : W p l e R s m args below meth c H locs cells slots Q (F0 m (pc + 1) ls (.int (f i.toNatClampNeg) :: rest))) : W p l e R s m args below meth c H locs cells slots Q (F0 m pc ls (.int i :: .ref a :: rest)) :=
  va_sald (D := D) X.1 X.2.1 X.2.2.2.2.2.1 (hI.arr ha) 0 t0 rfl ht hin hdg kk
theorem h_lald (X : XC p s m args meth c cc nL own D cl tys A0 Z) (hI : HI D cl G A0 s.heap H locs) (t0 : Nat) {b : Bool} {cA : ClassId} {n : Nat} {f : Nat → Int64} (ha : G a = some (b, .inl (cA, n, .inr (.inl f)))) (ht : tys[t0]? = some (cA, .long)) {i : Int32} (hin : vp_in i n) (hdg : decode cc pc = .ok (.laload, 1))
    (kk : W p l e R s m args below meth c H locs cells slots Q (F0 m (pc + 1) ls (.long (f i.toNatClampNeg) :: rest))) : W p l e R s m args below meth c H locs cells slots Q (F0 m pc ls (.int i :: .ref a :: rest)) :=
  va_lald (D := D) X.1 X.2.1 X.2.2.2.2.2.1 (hI.arr ha) 0 t0 rfl ht hin hdg kk
theorem h_qald (X : XC p s m args meth c cc nL own D cl tys A0 Z) (hI : HI D cl G A0 s.heap H locs) (t0 : Nat) {b : Bool} {cA : ClassId} {C : String} {n : Nat} {f : Nat → Option Nat} (ha : G a = some (b, .inl (cA, n, .inr (.inr (.inr (.inr f)))))) (ht : tys[t0]? = some (cA, .object C)) {i : Int32} (hin : vp_in i n) (hdg : decode cc pc = .ok (.aaload, 1))
    (kk : W p l e R s m args below meth c H locs cells slots Q (F0 m (pc + 1) ls (va_rf (f i.toNatClampNeg) :: rest))) : W p l e R s m args below meth c H locs cells slots Q (F0 m pc ls (.int i :: .ref a :: rest)) :=
  va_aldq (D := D) X.1 X.2.1 X.2.2.2.2.2.1 (hI.arr ha) 0 t0 rfl ht hin hdg kk
theorem h_iast (X : XC p s m args meth c cc nL own D cl tys A0 Z) (hI : HI D cl G A0 s.heap H locs) (t0 : Nat) {cA : ClassId} {n : Nat} {f : Nat → Int32} (ha : G a = some (true, .inl (cA, n, .inl f))) (ht : tys[t0]? = some (cA, .int)) {i : Int32} {x : Int32} (hin : vp_in i n) (hdg : decode cc pc = .ok (.iastore, 1))
    (kk : ∀ (H1 : Heap) (locs1 : List Loc), HI D cl (hup G a (true, .inl (cA, n, .inl (upd f i.toNatClampNeg x)))) A0 s.heap H1 locs1 → W p l e R s m args below meth c H1 locs1 cells slots Q (F0 m (pc + 1) ls rest)) : W p l e R s m args below meth c H locs cells slots Q (F0 m pc ls (.int x :: .int i :: .ref a :: rest)) := by
  refine W.iast X.1 X.2.1 (hI.1 a true _ ha).1 ((X.2.2.2.2.2.1.2 t0 _ ht).1 n (fun j => .int (f j))) (fun q => by cases q) (by show ¬ (i < 0 ∨ (arrV _ _ _).slots.size ≤ _); rw [arrV_size]; exact hin) rfl rfl hdg fun H1 e z oq => ?_
  refine kk H1 _ (hI.set ha ?_ oq (hI.2.put z oq ((hI.1 a true _ ha).2 rfl)))
  show H1[a]? = some (vp_cell _ _)
  rw [e]
  rw [vp_cell_i, vp_cell_i, arrV_store]
  congr 2
  funext q
  by_cases hq : q = i.toNatClampNeg
  · subst hq
    simp [updV, upd]
    try rfl
  · simp [updV, upd, hq]
theorem h_bast (X : XC p s m args meth c cc nL own D cl tys A0 Z) (hI : HI D cl G A0 s.heap H locs) (t0 : Nat) {cA : ClassId} {n : Nat} {f : Nat → Int32} (ha : G a = some (true, .inl (cA, n, .inl f))) (ht : tys[t0]? = some (cA, .byte)) {i : Int32} {x : Int32} (hin : vp_in i n) (hdg : decode cc pc = .ok (.bastore, 1))
    (kk : ∀ (H1 : Heap) (locs1 : List Loc), HI D cl (hup G a (true, .inl (cA, n, .inl (upd f i.toNatClampNeg (vp_nar .byte x))))) A0 s.heap H1 locs1 → W p l e R s m args below meth c H1 locs1 cells slots Q (F0 m (pc + 1) ls rest)) : W p l e R s m args below meth c H locs cells slots Q (F0 m pc ls (.int x :: .int i :: .ref a :: rest)) := by
  refine W.bast X.1 X.2.1 (hI.1 a true _ ha).1 ((X.2.2.2.2.2.1.2 t0 _ ht).1 n (fun j => .int (f j))) (fun q => by cases q) (by show ¬ (i < 0 ∨ (arrV _ _ _).slots.size ≤ _); rw [arrV_size]; exact hin) rfl rfl hdg fun H1 e z oq => ?_
  refine kk H1 _ (hI.set ha ?_ oq (hI.2.put z oq ((hI.1 a true _ ha).2 rfl)))
  show H1[a]? = some (vp_cell _ _)
  rw [e]
  rw [vp_cell_i, vp_cell_i, arrV_store]
  congr 2
  funext q
  by_cases hq : q = i.toNatClampNeg
  · subst hq
    simp [updV, upd, vp_nar]
    try rfl
  · simp [updV, upd, hq]
theorem h_zast (X : XC p s m args meth c cc nL own D cl tys A0 Z) (hI : HI D cl G A0 s.heap H locs) (t0 : Nat) {cA : ClassId} {n : Nat} {f : Nat → Int32} (ha : G a = some (true, .inl (cA, n, .inl f))) (ht : tys[t0]? = some (cA, .boolean)) {i : Int32} {x : Int32} (hin : vp_in i n) (hdg : decode cc pc = .ok (.bastore, 1))
    (kk : ∀ (H1 : Heap) (locs1 : List Loc), HI D cl (hup G a (true, .inl (cA, n, .inl (upd f i.toNatClampNeg (vp_nar .boolean x))))) A0 s.heap H1 locs1 → W p l e R s m args below meth c H1 locs1 cells slots Q (F0 m (pc + 1) ls rest)) : W p l e R s m args below meth c H locs cells slots Q (F0 m pc ls (.int x :: .int i :: .ref a :: rest)) := by
  refine W.zast X.1 X.2.1 (hI.1 a true _ ha).1 ((X.2.2.2.2.2.1.2 t0 _ ht).1 n (fun j => .int (f j))) (fun q => by cases q) (by show ¬ (i < 0 ∨ (arrV _ _ _).slots.size ≤ _); rw [arrV_size]; exact hin) rfl rfl hdg fun H1 e z oq => ?_
  refine kk H1 _ (hI.set ha ?_ oq (hI.2.put z oq ((hI.1 a true _ ha).2 rfl)))
  show H1[a]? = some (vp_cell _ _)
  rw [e]
  rw [vp_cell_i, vp_cell_i, arrV_store]
  congr 2
  funext q
  by_cases hq : q = i.toNatClampNeg
  · subst hq
    simp [updV, upd, vp_nar]
    try rfl
  · simp [updV, upd, hq]
theorem h_sast (X : XC p s m args meth c cc nL own D cl tys A0 Z) (hI : HI D cl G A0 s.heap H locs) (t0 : Nat) {cA : ClassId} {n : Nat} {f : Nat → Int32} (ha : G a = some (true, .inl (cA, n, .inl f))) (ht : tys[t0]? = some (cA, .short)) {i : Int32} {x : Int32} (hin : vp_in i n) (hdg : decode cc pc = .ok (.sastore, 1))
    (kk : ∀ (H1 : Heap) (locs1 : List Loc), HI D cl (hup G a (true, .inl (cA, n, .inl (upd f i.toNatClampNeg (vp_nar .short x))))) A0 s.heap H1 locs1 → W p l e R s m args below meth c H1 locs1 cells slots Q (F0 m (pc + 1) ls rest)) : W p l e R s m args below meth c H locs cells slots Q (F0 m pc ls (.int x :: .int i :: .ref a :: rest)) := by
  refine W.sast X.1 X.2.1 (hI.1 a true _ ha).1 ((X.2.2.2.2.2.1.2 t0 _ ht).1 n (fun j => .int (f j))) (fun q => by cases q) (by show ¬ (i < 0 ∨ (arrV _ _ _).slots.size ≤ _); rw [arrV_size]; exact hin) rfl rfl hdg fun H1 e z oq => ?_
  refine kk H1 _ (hI.set ha ?_ oq (hI.2.put z oq ((hI.1 a true _ ha).2 rfl)))
  show H1[a]? = some (vp_cell _ _)
  rw [e]
  rw [vp_cell_i, vp_cell_i, arrV_store]
  congr 2
  funext q
  by_cases hq : q = i.toNatClampNeg
  · subst hq
    simp [updV, upd, vp_nar]
    try rfl
  · simp [updV, upd, hq]
theorem h_last (X : XC p s m args meth c cc nL own D cl tys A0 Z) (hI : HI D cl G A0 s.heap H locs) (t0 : Nat) {cA : ClassId} {n : Nat} {f : Nat → Int64} (ha : G a = some (true, .inl (cA, n, .inr (.inl f)))) (ht : tys[t0]? = some (cA, .long)) {i : Int32} {x : Int64} (hin : vp_in i n) (hdg : decode cc pc = .ok (.lastore, 1))
    (kk : ∀ (H1 : Heap) (locs1 : List Loc), HI D cl (hup G a (true, .inl (cA, n, .inr (.inl (vp_updL f i.toNatClampNeg x))))) A0 s.heap H1 locs1 → W p l e R s m args below meth c H1 locs1 cells slots Q (F0 m (pc + 1) ls rest)) : W p l e R s m args below meth c H locs cells slots Q (F0 m pc ls (.long x :: .int i :: .ref a :: rest)) := by
  refine W.last X.1 X.2.1 (hI.1 a true _ ha).1 ((X.2.2.2.2.2.1.2 t0 _ ht).1 n (fun j => .long (f j))) (fun q => by cases q) (by show ¬ (i < 0 ∨ (arrV _ _ _).slots.size ≤ _); rw [arrV_size]; exact hin) rfl rfl hdg fun H1 e z oq => ?_
  refine kk H1 _ (hI.set ha ?_ oq (hI.2.put z oq ((hI.1 a true _ ha).2 rfl)))
  show H1[a]? = some (vp_cell _ _)
  rw [e]
  rw [vp_cell_l, vp_cell_l, arrV_store]
  congr 2
  funext q
  by_cases hq : q = i.toNatClampNeg
  · subst hq
    simp [updV, vp_updL]
    try rfl
  · simp [updV, vp_updL, hq]
theorem h_qastN (X : XC p s m args meth c cc nL own D cl tys A0 Z) (hI : HI D cl G A0 s.heap H locs) (t0 : Nat) {cA : ClassId} {C : String} {n : Nat} {f : Nat → Option Nat} (ha : G a = some (true, .inl (cA, n, .inr (.inr (.inr (.inr f)))))) (ht : tys[t0]? = some (cA, .object C)) {i : Int32} (hin : vp_in i n) (hdg : decode cc pc = .ok (.aastore, 1))
    (kk : ∀ (H1 : Heap) (locs1 : List Loc), HI D cl (hup G a (true, .inl (cA, n, .inr (.inr (.inr (.inr (va_up f i.toNatClampNeg none))))))) A0 s.heap H1 locs1 → W p l e R s m args below meth c H1 locs1 cells slots Q (F0 m (pc + 1) ls rest)) : W p l e R s m args below meth c H locs cells slots Q (F0 m pc ls (.null :: .int i :: .ref a :: rest)) := by
  refine va_WaastN X.1 X.2.1 (hI.1 a true _ ha).1 ((X.2.2.2.2.2.1.2 t0 _ ht).1 n (fun j => va_rf (f j))) (fun q => by cases q) (by show ¬ (i < 0 ∨ (arrV _ _ _).slots.size ≤ _); rw [arrV_size]; exact hin) rfl rfl hdg fun H1 e z oq => ?_
  refine kk H1 _ (hI.set ha ?_ oq (hI.2.put z oq ((hI.1 a true _ ha).2 rfl)))
  show H1[a]? = some (vp_cell _ _)
  rw [e]
  rw [vp_cell_q, vp_cell_q, arrV_store]
  congr 2
  funext q
  by_cases hq : q = i.toNatClampNeg
  · subst hq
    simp [updV, va_up, va_rf]
  · simp [updV, va_up, hq]
end HROWS
