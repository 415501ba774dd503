/-! the model's methods: starts and ends of the walks -/
/-- a boolean answer is 0 or 1 -/
def bZ (v : Int32) : Bool := decide (narrow .boolean (.int v) = .int v)
theorem bZ_n {v : Int32} (h : bZ v = true) : narrow .boolean (.int v) = .int v := of_decide_eq_true h
/-- no division by zero -/
def nz (v : Int32) : Bool := decide (¬ v = 0)
theorem nz_n {v : Int32} (h : nz v = true) : ¬ v = 0 := of_decide_eq_true h
def nzl (v : Int64) : Bool := decide (¬ v = 0)
theorem nzl_n {v : Int64} (h : nzl v = true) : ¬ v = 0 := of_decide_eq_true h
/-- a value gets a name -/
def nxt {α β : Type} (x : α) (k : α → Option β) : Option β := k x
theorem nxt_some {α β : Type} {x : α} {k : α → Option β} {r : β} (h : nxt x k = some r) : ∃ y, y = x ∧ k y = some r := ⟨x, rfl, h⟩
/-- the loops' fuel -/
def FU : Nat := 1000000
section MOPEN
variable {l : Launch} {D : va_G} {cl : vC2} {Z : (Nat → Prop) → State → Heap → Prop} {ci : Nat} {A : Nat → Nat} {d : Nat → ClassId} {tm : List (ClassId × FieldType)} {σ σ' : MS} {y : MethodName} {cc : ByteArray} {maxL : Nat} {rm : Room} {av : List Value}
theorem m_openi (hz : ZK Z) (hy : plainName y.cls = true) {r : Int32} (hlen : (lg_sl (.ref (A 0) :: av)).length ≤ maxL)
    (body : ∀ (p : Program) (e : Env) (s : State) (m : MethodId) (args : Array Value) (below : List Frame) (meth : Method) (c : Code) (ls : Array Slot) (A0 : Nat → Prop) (Q : State → Prop), XC p s m args meth c cc maxL y.cls D cl (mty d tm) A0 Z → XI D cl (mw ci A d σ) A0 s.heap s.heap [] → lv_has ls maxL (lv_args 0 (.ref (A 0) :: av)) →
      (∀ {v : Int32} {σ1 : MS} {H : Heap} {locs : List Loc} {ls : Array Slot} {pc : Nat}, some (v, σ1) = some (r, σ') → XI D cl (mw ci A d σ1) A0 s.heap H locs → decode cc pc = .ok (.ireturn, 1) → W p l e rm s m args below meth c H locs 0 0 Q (F0 m pc ls [.int v])) →
      W p l e rm s m args below meth c s.heap [] 0 0 Q (F0 m 0 ls [])) : MMi l y (ws_ y cc maxL (some .int)) rm D cl Z ci A d tm σ av r σ' := fun sz =>
  x_openG hz hy hlen (fun p e s m args below meth c ls hs ha X hr hn hI hl => by
    subst hs
    refine body p e s m args below meth c ls _ _ X hI hl (fun {v σ1 H locs ls pc} hv hI1 hdg => ?_)
    injection hv with hv
    injection hv with h1 h2
    subst h1 h2
    exact x_iret (B := fun r' w' => r' = v ∧ w' = mw ci A d σ1) X hI1 hr ⟨rfl, rfl⟩ hdg)
theorem m_openS (hz : ZK Z) (hy : plainName y.cls = true) {r : Int32} (hlen : (lg_sl av).length ≤ maxL)
    (body : ∀ (p : Program) (e : Env) (s : State) (m : MethodId) (args : Array Value) (below : List Frame) (meth : Method) (c : Code) (ls : Array Slot) (A0 : Nat → Prop) (Q : State → Prop), XC p s m args meth c cc maxL y.cls D cl (mty d tm) A0 Z → XI D cl (mw ci A d σ) A0 s.heap s.heap [] → lv_has ls maxL (lv_args 0 av) →
      (∀ {v : Int32} {σ1 : MS} {H : Heap} {locs : List Loc} {ls : Array Slot} {pc : Nat}, some (v, σ1) = some (r, σ') → XI D cl (mw ci A d σ1) A0 s.heap H locs → decode cc pc = .ok (.ireturn, 1) → W p l e rm s m args below meth c H locs 0 0 Q (F0 m pc ls [.int v])) →
      W p l e rm s m args below meth c s.heap [] 0 0 Q (F0 m 0 ls [])) : MSi l y (ws_ y cc maxL (some .int)) rm D cl Z ci A d tm σ av r σ' := fun sz =>
  x_openG hz hy hlen (fun p e s m args below meth c ls hs ha X hr hn hI hl => by
    subst hs
    refine body p e s m args below meth c ls _ _ X hI hl (fun {v σ1 H locs ls pc} hv hI1 hdg => ?_)
    injection hv with hv
    injection hv with h1 h2
    subst h1 h2
    exact x_iret (B := fun r' w' => r' = v ∧ w' = mw ci A d σ1) X hI1 hr ⟨rfl, rfl⟩ hdg)
theorem m_openz (hz : ZK Z) (hy : plainName y.cls = true) {r : Int32} (hlen : (lg_sl (.ref (A 0) :: av)).length ≤ maxL)
    (body : ∀ (p : Program) (e : Env) (s : State) (m : MethodId) (args : Array Value) (below : List Frame) (meth : Method) (c : Code) (ls : Array Slot) (A0 : Nat → Prop) (Q : State → Prop), XC p s m args meth c cc maxL y.cls D cl (mty d tm) A0 Z → XI D cl (mw ci A d σ) A0 s.heap s.heap [] → lv_has ls maxL (lv_args 0 (.ref (A 0) :: av)) →
      (∀ {v : Int32} {σ1 : MS} {H : Heap} {locs : List Loc} {ls : Array Slot} {pc : Nat}, some (v, σ1) = some (r, σ') → bZ v = true → XI D cl (mw ci A d σ1) A0 s.heap H locs → decode cc pc = .ok (.ireturn, 1) → W p l e rm s m args below meth c H locs 0 0 Q (F0 m pc ls [.int v])) →
      W p l e rm s m args below meth c s.heap [] 0 0 Q (F0 m 0 ls [])) : MMi l y (ws_ y cc maxL (some .boolean)) rm D cl Z ci A d tm σ av r σ' := fun sz =>
  x_openG hz hy hlen (fun p e s m args below meth c ls hs ha X hr hn hI hl => by
    subst hs
    refine body p e s m args below meth c ls _ _ X hI hl (fun {v σ1 H locs ls pc} hv hb hI1 hdg => ?_)
    injection hv with hv
    injection hv with h1 h2
    subst h1 h2
    exact x_zret (B := fun r' w' => r' = v ∧ w' = mw ci A d σ1) X hI1 hr (bZ_n hb) ⟨rfl, rfl⟩ hdg)
theorem m_openl (hz : ZK Z) (hy : plainName y.cls = true) {r : Int64} (hlen : (lg_sl (.ref (A 0) :: av)).length ≤ maxL)
    (body : ∀ (p : Program) (e : Env) (s : State) (m : MethodId) (args : Array Value) (below : List Frame) (meth : Method) (c : Code) (ls : Array Slot) (A0 : Nat → Prop) (Q : State → Prop), XC p s m args meth c cc maxL y.cls D cl (mty d tm) A0 Z → XI D cl (mw ci A d σ) A0 s.heap s.heap [] → lv_has ls maxL (lv_args 0 (.ref (A 0) :: av)) →
      (∀ {v : Int64} {σ1 : MS} {H : Heap} {locs : List Loc} {ls : Array Slot} {pc : Nat}, some (v, σ1) = some (r, σ') → XI D cl (mw ci A d σ1) A0 s.heap H locs → decode cc pc = .ok (.lreturn, 1) → W p l e rm s m args below meth c H locs 0 0 Q (F0 m pc ls [.long v])) →
      W p l e rm s m args below meth c s.heap [] 0 0 Q (F0 m 0 ls [])) : MMl l y (ws_ y cc maxL (some .long)) rm D cl Z ci A d tm σ av r σ' := fun sz =>
  x_openG hz hy hlen (fun p e s m args below meth c ls hs ha X hr hn hI hl => by
    subst hs
    refine body p e s m args below meth c ls _ _ X hI hl (fun {v σ1 H locs ls pc} hv hI1 hdg => ?_)
    injection hv with hv
    injection hv with h1 h2
    subst h1 h2
    exact x_lret (B := fun r' w' => r' = v ∧ w' = mw ci A d σ1) X hI1 hr ⟨rfl, rfl⟩ hdg)
theorem m_openv (hz : ZK Z) (hy : plainName y.cls = true) (hlen : (lg_sl (.ref (A 0) :: av)).length ≤ maxL)
    (body : ∀ (p : Program) (e : Env) (s : State) (m : MethodId) (args : Array Value) (below : List Frame) (meth : Method) (c : Code) (ls : Array Slot) (A0 : Nat → Prop) (Q : State → Prop), XC p s m args meth c cc maxL y.cls D cl (mty d tm) A0 Z → XI D cl (mw ci A d σ) A0 s.heap s.heap [] → lv_has ls maxL (lv_args 0 (.ref (A 0) :: av)) →
      (∀ {σ1 : MS} {H : Heap} {locs : List Loc} {ls : Array Slot} {pc : Nat}, some σ1 = some σ' → XI D cl (mw ci A d σ1) A0 s.heap H locs → decode cc pc = .ok (.return_, 1) → W p l e rm s m args below meth c H locs 0 0 Q (F0 m pc ls [])) →
      W p l e rm s m args below meth c s.heap [] 0 0 Q (F0 m 0 ls [])) : MMv l y (ws_ y cc maxL none) rm D cl Z ci A d tm σ av σ' := fun sz =>
  x_openG hz hy hlen (fun p e s m args below meth c ls hs ha X hr hn hI hl => by
    subst hs
    refine body p e s m args below meth c ls _ _ X hI hl (fun {σ1 H locs ls pc} hv hI1 hdg => ?_)
    injection hv with h2
    subst h2
    exact x_vret (B := fun w' => w' = mw ci A d σ1) X hI1 hr rfl hdg)
theorem s_openi (hy : plainName y.cls = true) {r : Int32} (hlen : (lg_sl av).length ≤ maxL)
    (body : ∀ (p : Program) (e : Env) (s : State) (m : MethodId) (args : Array Value) (below : List Frame) (meth : Method) (c : Code) (ls : Array Slot) (A0 : Nat → Prop) (Q : State → Prop) (D : va_G) (cl : vC2) (tys : List (ClassId × FieldType)), XC p s m args meth c cc maxL y.cls D cl tys A0 ZT → XI D cl [] A0 s.heap s.heap [] → lv_has ls maxL (lv_args 0 av) →
      (∀ {v : Int32} {H : Heap} {locs : List Loc} {ls : Array Slot} {pc : Nat}, some v = some r → XI D cl [] A0 s.heap H locs → decode cc pc = .ok (.ireturn, 1) → W p l e rm s m args below meth c H locs 0 0 Q (F0 m pc ls [.int v])) →
      W p l e rm s m args below meth c s.heap [] 0 0 Q (F0 m 0 ls [])) : XPi l y (ws_ y cc maxL (some .int)) rm av r := fun D cl tys sz =>
  x_openG ZT_ok hy hlen (fun p e s m args below meth c ls hs ha X hr hn hI hl => by
    subst hs
    refine body p e s m args below meth c ls _ _ D cl tys X hI hl (fun {v H locs ls pc} hv hI1 hdg => ?_)
    injection hv with h1
    subst h1
    exact x_iret (B := fun r' w' => r' = v ∧ w' = []) X hI1 hr ⟨rfl, rfl⟩ hdg)
theorem s_openz (hy : plainName y.cls = true) {r : Int32} (hlen : (lg_sl av).length ≤ maxL)
    (body : ∀ (p : Program) (e : Env) (s : State) (m : MethodId) (args : Array Value) (below : List Frame) (meth : Method) (c : Code) (ls : Array Slot) (A0 : Nat → Prop) (Q : State → Prop) (D : va_G) (cl : vC2) (tys : List (ClassId × FieldType)), XC p s m args meth c cc maxL y.cls D cl tys A0 ZT → XI D cl [] A0 s.heap s.heap [] → lv_has ls maxL (lv_args 0 av) →
      (∀ {v : Int32} {H : Heap} {locs : List Loc} {ls : Array Slot} {pc : Nat}, some v = some r → bZ v = true → XI D cl [] A0 s.heap H locs → decode cc pc = .ok (.ireturn, 1) → W p l e rm s m args below meth c H locs 0 0 Q (F0 m pc ls [.int v])) →
      W p l e rm s m args below meth c s.heap [] 0 0 Q (F0 m 0 ls [])) : XPi l y (ws_ y cc maxL (some .boolean)) rm av r := fun D cl tys sz =>
  x_openG ZT_ok hy hlen (fun p e s m args below meth c ls hs ha X hr hn hI hl => by
    subst hs
    refine body p e s m args below meth c ls _ _ D cl tys X hI hl (fun {v H locs ls pc} hv hb hI1 hdg => ?_)
    injection hv with h1
    subst h1
    exact x_zret (B := fun r' w' => r' = v ∧ w' = []) X hI1 hr (bZ_n hb) ⟨rfl, rfl⟩ hdg)
theorem s_openl (hy : plainName y.cls = true) {r : Int64} (hlen : (lg_sl av).length ≤ maxL)
    (body : ∀ (p : Program) (e : Env) (s : State) (m : MethodId) (args : Array Value) (below : List Frame) (meth : Method) (c : Code) (ls : Array Slot) (A0 : Nat → Prop) (Q : State → Prop) (D : va_G) (cl : vC2) (tys : List (ClassId × FieldType)), XC p s m args meth c cc maxL y.cls D cl tys A0 ZT → XI D cl [] A0 s.heap s.heap [] → lv_has ls maxL (lv_args 0 av) →
      (∀ {v : Int64} {H : Heap} {locs : List Loc} {ls : Array Slot} {pc : Nat}, some v = some r → XI D cl [] A0 s.heap H locs → decode cc pc = .ok (.lreturn, 1) → W p l e rm s m args below meth c H locs 0 0 Q (F0 m pc ls [.long v])) →
      W p l e rm s m args below meth c s.heap [] 0 0 Q (F0 m 0 ls [])) : XPl l y (ws_ y cc maxL (some .long)) rm av r := fun D cl tys sz =>
  x_openG ZT_ok hy hlen (fun p e s m args below meth c ls hs ha X hr hn hI hl => by
    subst hs
    refine body p e s m args below meth c ls _ _ D cl tys X hI hl (fun {v H locs ls pc} hv hI1 hdg => ?_)
    injection hv with h1
    subst h1
    exact x_lret (B := fun r' w' => r' = v ∧ w' = []) X hI1 hr ⟨rfl, rfl⟩ hdg)
/-- Math.max, min of ints -/
theorem x_mmax {p : Program} {e : Env} {R : Room} {s : State} {m : MethodId} {args : Array Value} {below : List Frame} {meth : Method} {c : Code} {H : Heap} {locs : List Loc} {cells slots : Nat} {Q : State → Prop} {own : String} {tys : List (ClassId × FieldType)} {A0 : Nat → Prop} {pc index : Nat} {ls : Array Slot} {rest : List Value} (X : XC p s m args meth c cc maxL own D cl tys A0 Z) (hls : ls.size = maxL) (hq : Cond.methodLink own index Lib.Math.max.name ∈ lw_all) (hs : Cond.static Lib.Math.max.name ∈ lw_all) (hi : Cond.initialized "java/lang/Math" ∈ lw_all) (hk : Cond.code Lib.Math.max.name Lib.Math.max.code 2 (some .int) ∈ lw_all)
    (hR : 1 ≤ R.frames ∧ 21 ≤ R.locals) (hroom : (rest.map fun v => v.category).sum ≤ 8) (hf : cells ≤ R.cells ∧ slots ≤ R.slots) {x y : Int32} (hdg : decode cc pc = .ok (.invokestatic index, 3))
    (kk : W p l e R s m args below meth c H locs cells slots Q (F0 m (pc + 3) ls (.int (if x < y then y else x) :: rest))) : W p l e R s m args below meth c H locs cells slots Q (F0 m pc ls (.int y :: .int x :: rest)) :=
  va_mmax X.1 X.2.1 (X.2.2.1.trans hls.symm) X.2.2.2.1 (X.2.2.2.2.1 _ hq) (X.2.2.2.2.1 _ hs) (X.2.2.2.2.1 _ hi) (X.2.2.2.2.1 _ hk) hR.1 (by omega) hf.1 hf.2 hdg kk
theorem x_mmin {p : Program} {e : Env} {R : Room} {s : State} {m : MethodId} {args : Array Value} {below : List Frame} {meth : Method} {c : Code} {H : Heap} {locs : List Loc} {cells slots : Nat} {Q : State → Prop} {own : String} {tys : List (ClassId × FieldType)} {A0 : Nat → Prop} {pc index : Nat} {ls : Array Slot} {rest : List Value} (X : XC p s m args meth c cc maxL own D cl tys A0 Z) (hls : ls.size = maxL) (hq : Cond.methodLink own index Lib.Math.min.name ∈ lw_all) (hs : Cond.static Lib.Math.min.name ∈ lw_all) (hi : Cond.initialized "java/lang/Math" ∈ lw_all) (hk : Cond.code Lib.Math.min.name Lib.Math.min.code 2 (some .int) ∈ lw_all)
    (hR : 1 ≤ R.frames ∧ 21 ≤ R.locals) (hroom : (rest.map fun v => v.category).sum ≤ 8) (hf : cells ≤ R.cells ∧ slots ≤ R.slots) {x y : Int32} (hdg : decode cc pc = .ok (.invokestatic index, 3))
    (kk : W p l e R s m args below meth c H locs cells slots Q (F0 m (pc + 3) ls (.int (if y < x then y else x) :: rest))) : W p l e R s m args below meth c H locs cells slots Q (F0 m pc ls (.int y :: .int x :: rest)) :=
  va_mmin X.1 X.2.1 (X.2.2.1.trans hls.symm) X.2.2.2.1 (X.2.2.2.2.1 _ hq) (X.2.2.2.2.1 _ hs) (X.2.2.2.2.1 _ hi) (X.2.2.2.2.1 _ hk) hR.1 (by omega) hf.1 hf.2 hdg kk
theorem x_mabsl {p : Program} {e : Env} {R : Room} {s : State} {m : MethodId} {args : Array Value} {below : List Frame} {meth : Method} {c : Code} {H : Heap} {locs : List Loc} {cells slots : Nat} {Q : State → Prop} {own : String} {tys : List (ClassId × FieldType)} {A0 : Nat → Prop} {pc index : Nat} {ls : Array Slot} {rest : List Value} (X : XC p s m args meth c cc maxL own D cl tys A0 Z) (hls : ls.size = maxL) (hq : Cond.methodLink own index Lib.MathLoose.abs_long.x ∈ lw_all) (hs : Cond.static Lib.MathLoose.abs_long.x ∈ lw_all) (hi : Cond.initialized "java/lang/Math" ∈ lw_all) (hk : Cond.code Lib.MathLoose.abs_long.x Lib.MathLoose.abs_long.code 2 (some .long) ∈ lw_all)
    (hR : 1 ≤ R.frames ∧ 21 ≤ R.locals) (hroom : (rest.map fun v => v.category).sum ≤ 8) (hf : cells ≤ R.cells ∧ slots ≤ R.slots) {x : Int64} (hdg : decode cc pc = .ok (.invokestatic index, 3))
    (kk : W p l e R s m args below meth c H locs cells slots Q (F0 m (pc + 3) ls (.long (if 0 < x then x else -x) :: rest))) : W p l e R s m args below meth c H locs cells slots Q (F0 m pc ls (.long x :: rest)) :=
  va_mabs_long X.1 X.2.1 (X.2.2.1.trans hls.symm) X.2.2.2.1 (X.2.2.2.2.1 _ hq) (X.2.2.2.2.1 _ hs) (X.2.2.2.2.1 _ hi) (X.2.2.2.2.1 _ hk) hR.1 (by omega) hf.1 hf.2 hdg kk
/-- a switch's arms -/
theorem x_swIn {p : Program} {e : Env} {R : Room} {s : State} {m : MethodId} {args : Array Value} {below : List Frame} {meth : Method} {c : Code} {H : Heap} {locs : List Loc} {cells slots : Nat} {Q : State → Prop} {pc : Nat} {ls : Array Slot} {rest : List Value} (hx : p.tables.exec = Jvm.exec) (hb : c.code = cc) {dflt lo hi : Int} {offs : Array Int} {len : Nat} {x k : Int32} {off : Int} {tgt : Nat} (hk : x = k) (hdg : decode cc pc = .ok (.tableswitch dflt lo hi offs, len)) (h1 : ¬ k.toInt < lo) (h2 : ¬ hi < k.toInt) (ho : offs[(k.toInt - lo).toNat]? = some off) (ht : (pc : Int) + off = (tgt : Int))
    (kk : W p l e R s m args below meth c H locs cells slots Q (F0 m tgt ls rest)) : W p l e R s m args below meth c H locs cells slots Q (F0 m pc ls (.int x :: rest)) := by
  subst hk
  exact lv_tableIn hx hb hdg h1 h2 ho ht kk
end MOPEN
