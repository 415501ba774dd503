/-! SYSTEM ROWS II: members of a superclass; nodes of either class; class objects; copies of byte rows -/
section HSYS2
variable {p : Program} {l : Launch} {e : Env} {R : Room} {s : State} {m : MethodId} {args : Array Value} {below : List Frame} {meth : Method} {c : Code} {H : Heap} {locs : List Loc} {cells slots : Nat} {Q : State → Prop}
variable {cc : ByteArray} {nL : Nat} {own : String} {D : va_G} {A0 : Nat → Prop} {Z : (Nat → Prop) → State → Heap → Prop} {G : HG} {pc : Nat} {ls : Array Slot} {rest : List Value} {a : Nat} {j : JX} {Λ : JLam} {fr lo : Nat}
theorem cwSU {R : Room} {s : State} {args : Array Value} {own : String} {index : Nat} {y : MethodName} {bytes : ByteArray} {maxL mc ms : Nat} {ret : Option FieldType} {rm : Room} (n : Nat) (ht : ∀ w ∈ lw_all, w.before args s = true) (h1 : Cond.methodLink own index y ∈ lw_all) (h6 : Cond.sameMethod y.cls y.cls y.name y.desc ∈ lw_all) (h2 : Cond.superclass own y.cls ∈ lw_all) (h5 : Cond.instanceMethod y ∈ lw_all) (h3 : Cond.initialized y.cls ∈ lw_all) (h4 : Cond.code y bytes maxL ret ∈ lw_all) (hrc : rm.cells = mc) (hrs : rm.slots = ms)
    (hd : y.name ≠ "<init>" ∧ (parseMethodDescriptor y.desc).map (fun d => d.parameters.length) = some n) (hR : rm.frames + 1 ≤ R.frames ∧ 8 + (maxL + 11) + rm.locals ≤ R.locals) : va_CS R s args own index y bytes maxL ret (ws_ y bytes maxL ret) rm mc ms n := by
  refine va_cwSU n ht ?_ rfl hrc hrs hd hR
  refine lw_app ?_ (lw_meth h4)
  intro w hw
  simp only [List.mem_cons, List.not_mem_nil, or_false] at hw
  rcases hw with e | e | e | e | e
  · rw [e]; exact h1
  · rw [e]; exact h6
  · rw [e]; exact h2
  · rw [e]; exact h5
  · rw [e]; exact h3
theorem h_runSU (X : XC p s m args meth c cc nL own D jC (jty j.1) A0 Z) (hI : HI D jC G A0 s.heap H locs) {y : MethodName} {bytes : ByteArray} {maxL n index : Nat} {ret : Option FieldType} {ws : List Cond} {rm : Room} {As : List Value} {C : String} {cC : ClassId} {mc ms : Nat} {Qc : Array Value → State → Outcome → State → Prop} (hat : ClassAt s C cC) (hr : hRecv s H a C) (hM : Met l y ws rm (HPre D jC (jty j.1) Z G (.ref a :: As) H.size) Qc mc ms (hA G H.size)) (cw : va_CS R s args own index y bytes maxL ret ws rm mc ms n) (hn : As.length = n) (hls : ls.size = nL) (hroom : (rest.map fun v => v.category).sum ≤ 8) (hdg : decode cc pc = .ok (.invokespecial index, 3)) (hf : cells + mc ≤ R.cells ∧ slots + ms ≤ R.slots) {st : List Value} (hst : st = As.reverse ++ .ref a :: rest) :
    va_Run p l e R s m args below meth c H locs cells slots mc ms (F0 m pc ls st) rest (Qc (Value.ref a :: As).toArray) (hA G H.size) := by
  subst hst
  exact va_runSU (As := As) (rest := rest) hat ⟨X.1, X.2.1, X.2.2.1, X.2.2.2.1, X.2.2.2.2.1⟩ hM cw ⟨h_blind X.2.2.2.2.2.2.2.2.2.1, hr, h_look X hI⟩ rfl hn hls rfl (lv_room hroom) hdg hf
/-- what the reference names is abstract, native or another's code: the receiver's class selects y -/
theorem cwA {R : Room} {s : State} {args : Array Value} {own C owner : String} {index : Nat} {x y : MethodName} {bytes : ByteArray} {maxL mc ms : Nat} {ret : Option FieldType} {rm : Room} (n : Nat) (ht : ∀ w ∈ lw_all, w.before args s = true) (h1 : Cond.methodLink own index x ∈ lw_all) (h6 : Cond.sameMethod x.cls owner x.name x.desc ∈ lw_all) (h2 : Cond.selects C x y ∈ lw_all) (h5 : Cond.instanceMethod y ∈ lw_all) (h3 : Cond.initialized y.cls ∈ lw_all) (h4 : Cond.code y bytes maxL ret ∈ lw_all) (hz : va_Nw (.declares ⟨owner, x.name, x.desc⟩) s) (hrc : rm.cells = mc) (hrs : rm.slots = ms)
    (hd : owner ≠ "java/lang/invoke/MethodHandle" ∧ owner ≠ "java/lang/invoke/VarHandle" ∧ (parseMethodDescriptor x.desc).map (fun d => d.parameters.length) = some n) (hR : rm.frames + 1 ≤ R.frames ∧ 8 + (maxL + 11) + rm.locals ≤ R.locals) : va_CU R s args own C owner index x y bytes maxL ret (ws_ y bytes maxL ret) rm mc ms n := by
  refine va_cwA n ht ?_ rfl hrc hrs hz hd hR
  refine lw_app ?_ (lw_meth h4)
  intro w hw
  simp only [List.mem_cons, List.not_mem_nil, or_false] at hw
  rcases hw with e | e | e | e | e
  · rw [e]; exact h1
  · rw [e]; exact h6
  · rw [e]; exact h2
  · rw [e]; exact h5
  · rw [e]; exact h3
/-! a node, or a tree's node: its first fields -/
def g2I (G : HG) (a k : Nat) (K : Int32 → Prop) : Prop := gtI G a 17 k K ∨ gtI G a 18 (k + 2) K
def g2Q (G : HG) (a k : Nat) (K : Option Nat → Prop) : Prop := gtQ G a 17 k K ∨ gtQ G a 18 (k + 2) K
def p2V (G : HG) (a k : Nat) (v : Value) (K : HG → Prop) : Prop := ptV G a 17 k v K ∨ ptV G a 18 (k + 2) v K
theorem hr_g2I (X : XC p s m args meth c cc nL own D jC (jty j.1) A0 Z) (hI : HI D jC G A0 s.heap H locs) (k : Nat) (hk : k < 4) {index : Nat} {ref : String} {K : Int32 → Prop} (h : g2I G a k K) (he : TJ23 (k + 2) = TJ18 k) (hq : Cond.fieldLink own index ref (TJ18 k).2.1 (TJ18 k).2.2.1 ∈ lw_all) (hsame : ∀ x, s.fieldFound? (TJ18 k).1 (TJ18 k).2.1 (TJ18 k).2.2.1 = some x → s.fieldFound? ref (TJ18 k).2.1 (TJ18 k).2.2.1 = some x) (hdg : decode cc pc = .ok (.getfield index, 3))
    (kk : ∀ x : Int32, K x → W p l e R s m args below meth c H locs cells slots Q (F0 m (pc + 3) ls (.int x :: rest))) : W p l e R s m args below meth c H locs cells slots Q (F0 m pc ls (.ref a :: rest)) := by
  rcases h with h | h
  · exact hr_gtI X hI (rfl : jC.1[17]? = some (RJ18, TJ18, 4)) in_J18 k hk h hq hsame hdg kk
  · refine hr_gtI X hI (rfl : jC.1[18]? = some (RJ23, TJ23, 11)) in_J23 (k + 2) (by omega) h (ref := ref) (by rw [he]; exact hq) (by rw [he]; exact hsame) hdg kk
theorem hr_g2Q (X : XC p s m args meth c cc nL own D jC (jty j.1) A0 Z) (hI : HI D jC G A0 s.heap H locs) (k : Nat) (hk : k < 4) {index : Nat} {ref : String} {K : Option Nat → Prop} (h : g2Q G a k K) (he : TJ23 (k + 2) = TJ18 k) (hq : Cond.fieldLink own index ref (TJ18 k).2.1 (TJ18 k).2.2.1 ∈ lw_all) (hsame : ∀ x, s.fieldFound? (TJ18 k).1 (TJ18 k).2.1 (TJ18 k).2.2.1 = some x → s.fieldFound? ref (TJ18 k).2.1 (TJ18 k).2.2.1 = some x) (hdg : decode cc pc = .ok (.getfield index, 3))
    (kk : ∀ x : Option Nat, K x → W p l e R s m args below meth c H locs cells slots Q (F0 m (pc + 3) ls (va_rf x :: rest))) : W p l e R s m args below meth c H locs cells slots Q (F0 m pc ls (.ref a :: rest)) := by
  rcases h with h | h
  · exact hr_gtQ X hI (rfl : jC.1[17]? = some (RJ18, TJ18, 4)) in_J18 k hk h hq hsame hdg kk
  · refine hr_gtQ X hI (rfl : jC.1[18]? = some (RJ23, TJ23, 11)) in_J23 (k + 2) (by omega) h (ref := ref) (by rw [he]; exact hq) (by rw [he]; exact hsame) hdg kk
theorem hr_p2V (X : XC p s m args meth c cc nL own D jC (jty j.1) A0 Z) (hI : HI D jC G A0 s.heap H locs) (k : Nat) (hk : k < 4) {index : Nat} {ref : String} {v : Value} {K : HG → Prop} (h : p2V G a k v K) (he : TJ23 (k + 2) = TJ18 k) (het : tyJ23 (k + 2) = tyJ18 k) (hq : Cond.fieldLink own index ref (TJ18 k).2.1 (TJ18 k).2.2.1 ∈ lw_all) (hsame : ∀ x, s.fieldFound? (TJ18 k).1 (TJ18 k).2.1 (TJ18 k).2.2.1 = some x → s.fieldFound? ref (TJ18 k).2.1 (TJ18 k).2.2.1 = some x) (hfin : (TJ18 k).2.2.2 = false) (hn : narrow (tyJ18 k) v = v) (hfit : fits (tyJ18 k) v = true) (hdg : decode cc pc = .ok (.putfield index, 3))
    (kk : ∀ (G' : HG) (H1 : Heap) (locs1 : List Loc), K G' → HI D jC G' A0 s.heap H1 locs1 → W p l e R s m args below meth c H1 locs1 cells slots Q (F0 m (pc + 3) ls rest)) : W p l e R s m args below meth c H locs cells slots Q (F0 m pc ls (v :: .ref a :: rest)) := by
  rcases h with h | h
  · exact hr_pt X hI (rfl : jC.1[17]? = some (RJ18, TJ18, 4)) in_J18 k hk tyJ18 tyJ18_ok nmJ18 h hq hsame hfin hn hfit hdg kk
  · exact hr_pt X hI (rfl : jC.1[18]? = some (RJ23, TJ23, 11)) in_J23 (k + 2) (by omega) tyJ23 tyJ23_ok nmJ23 h (ref := ref) (by rw [he]; exact hq) (by rw [he]; exact hsame) (by rw [he]; exact hfin) (by rw [het]; exact hn) (by rw [het]; exact hfit) hdg kk
theorem hr_p2F (X : XC p s m args meth c cc nL own D jC (jty j.1) A0 Z) (hI : HI D jC G A0 s.heap H locs) (k : Nat) (hk : k < 4) {index : Nat} {ref : String} {v : Value} {K : HG → Prop} (h : p2V G a k v K) (he : TJ23 (k + 2) = TJ18 k) (het : tyJ23 (k + 2) = tyJ18 k) (hq : Cond.fieldLink own index ref (TJ18 k).2.1 (TJ18 k).2.2.1 ∈ lw_all) (hsame : ∀ x, s.fieldFound? (TJ18 k).1 (TJ18 k).2.1 (TJ18 k).2.2.1 = some x → s.fieldFound? ref (TJ18 k).2.1 (TJ18 k).2.2.1 = some x) (hfin : (TJ18 k).2.2.2 = true) (hin2 : meth.name = "<init>") (hdecl : (TJ18 k).1 = own) (hn : narrow (tyJ18 k) v = v) (hfit : fits (tyJ18 k) v = true) (hdg : decode cc pc = .ok (.putfield index, 3))
    (kk : ∀ (G' : HG) (H1 : Heap) (locs1 : List Loc), K G' → HI D jC G' A0 s.heap H1 locs1 → W p l e R s m args below meth c H1 locs1 cells slots Q (F0 m (pc + 3) ls rest)) : W p l e R s m args below meth c H locs cells slots Q (F0 m pc ls (v :: .ref a :: rest)) := by
  rcases h with h | h
  · exact hr_ptF X hI (rfl : jC.1[17]? = some (RJ18, TJ18, 4)) in_J18 k hk tyJ18 tyJ18_ok nmJ18 h hq hsame hfin hin2 hdecl hn hfit hdg kk
  · exact hr_ptF X hI (rfl : jC.1[18]? = some (RJ23, TJ23, 11)) in_J23 (k + 2) (by omega) tyJ23 tyJ23_ok nmJ23 h (ref := ref) (by rw [he]; exact hq) (by rw [he]; exact hsame) (by rw [he]; exact hfin) hin2 (by rw [he]; exact hdecl) (by rw [het]; exact hn) (by rw [het]; exact hfit) hdg kk
/-! arrays as objects -/
/-- a row of class cA (or null) stands there -/
def isA (G : HG) (v : Option Nat) (cA : ClassId) (K : Prop) : Prop := (∀ y, v = some y → ∃ (b : Bool) (x : vp_A), G y = some (b, .inl (cA, x))) ∧ K
theorem hr_castA (X : XC p s m args meth c cc nL own D jC (jty j.1) A0 Z) (hI : HI D jC G A0 s.heap H locs) (t0 : Nat) {cA : ClassId} {C nm : String} (ht : (jty j.1)[t0]? = some (cA, .object C)) (hnm : "[" ++ (FieldType.object C).toString = nm) {v : Option Nat} {index : Nat} {K : Prop} (h : isA G v cA K) (hq : Cond.classLink own index nm ∈ lw_all) (hdg : decode cc pc = .ok (.checkcast index, 3))
    (kk : K → W p l e R s m args below meth c H locs cells slots Q (F0 m (pc + 3) ls (va_rf v :: rest))) : W p l e R s m args below meth c H locs cells slots Q (F0 m pc ls (va_rf v :: rest)) := by
  cases v with
  | none => exact lv_castN X.1 X.2.1 hdg (kk h.2)
  | some y =>
    obtain ⟨b, x, g1⟩ := h.1 y rfl
    exact va_castA (D := D) (cl := jC.1) X.1 X.2.1 X.2.2.2.1 (X.2.2.2.2.1 _ hq) (hI.arr g1) 0 rfl (va_nmO (X.2.2.2.2.2.1.2 t0 _ ht).2 hnm) hdg (kk h.2)
theorem hr_castP (X : XC p s m args meth c cc nL own D jC (jty j.1) A0 Z) (hI : HI D jC G A0 s.heap H locs) (t0 : Nat) {cA : ClassId} {ty : FieldType} {nm : String} (ht : (jty j.1)[t0]? = some (cA, ty)) (hp : va_RA s cA ty = (s.vm.findClass ("[" ++ ty.toString) = some cA)) (hnm : "[" ++ ty.toString = nm) {v : Option Nat} {index : Nat} {K : Prop} (h : isA G v cA K) (hq : Cond.classLink own index nm ∈ lw_all) (hdg : decode cc pc = .ok (.checkcast index, 3))
    (kk : K → W p l e R s m args below meth c H locs cells slots Q (F0 m (pc + 3) ls (va_rf v :: rest))) : W p l e R s m args below meth c H locs cells slots Q (F0 m pc ls (va_rf v :: rest)) := by
  cases v with
  | none => exact lv_castN X.1 X.2.1 hdg (kk h.2)
  | some y =>
    obtain ⟨b, x, g1⟩ := h.1 y rfl
    have h3 := (X.2.2.2.2.2.1.2 t0 _ ht).2
    rw [hp, hnm] at h3
    exact va_castA (D := D) (cl := jC.1) X.1 X.2.1 X.2.2.2.1 (X.2.2.2.2.1 _ hq) (hI.arr g1) 0 rfl h3 hdg (kk h.2)
theorem hr_getC (E : JE l Z D j Λ fr lo) (X : XC p s m args meth c cc nL own D jC (jty j.1) A0 Z) (hI : HI D jC G A0 s.heap H locs) {index : Nat} {K : Prop} (h : isA G (some a) (j.1 10) K) (hq : Cond.methodLink own index ⟨"java/lang/Object", "getClass", "()Ljava/lang/Class;"⟩ ∈ lw_all) (hsel : Cond.selects "[Ljava/lang/Object;" ⟨"java/lang/Object", "getClass", "()Ljava/lang/Class;"⟩ ⟨"java/lang/Object", "getClass", "()Ljava/lang/Class;"⟩ ∈ lw_all) (hinst : Cond.instanceMethod ⟨"java/lang/Object", "getClass", "()Ljava/lang/Class;"⟩ ∈ lw_all) (hnat : Cond.native ⟨"java/lang/Object", "getClass", "()Ljava/lang/Class;"⟩ ∈ lw_all) (hls : ls.size = nL) (hroom : (rest.map fun v => v.category).sum ≤ 8) (hf : 1 ≤ R.frames ∧ 40 ≤ R.locals) (hdg : decode cc pc = .ok (.invokevirtual index, 3))
    (kk : K → W p l e R s m args below meth c H locs cells slots Q (F0 m (pc + 3) ls (.ref (j.2 45) :: rest))) : W p l e R s m args below meth c H locs cells slots Q (F0 m pc ls (.ref a :: rest)) := by
  obtain ⟨b, x, g1⟩ := h.1 a rfl
  have hvm0 : (vp_cell (j.1 10) x).vm = .none := by
    obtain ⟨n, f | f | f | f | f⟩ := x <;> rfl
  have hcl0 : (vp_cell (j.1 10) x).cls = j.1 10 := by
    obtain ⟨n, f | f | f | f | f⟩ := x <;> rfl
  have hnm : s.vm.findClass "[Ljava/lang/Object;" = some (j.1 10) := va_nmO (X.2.2.2.2.2.1.2 10 _ (show (jty j.1)[10]? = some (j.1 10, .object "java/lang/Object") from rfl)).2 (by decide +kernel)
  exact va_getC (C := "[Ljava/lang/Object;") X.1 X.2.1 (by rw [X.2.2.1]; exact hls.symm) X.2.2.2.1 (X.2.2.2.2.1 _ hq) ((E.w X).2.2.2.2.use) (X.2.2.2.2.1 _ hsel) (X.2.2.2.2.1 _ hinst) (X.2.2.2.2.1 _ hnat) (E.z X).2.2.2.2 ⟨_, (hI.1 a b _ g1).1, by rw [hvm0]; rfl, by rw [hcl0]; exact hnm⟩ hf.1 (by omega) hdg (kk h.2)
end HSYS2
