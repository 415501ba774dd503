/-! ROWS OVER A HEAP AS A FUNCTION: making, storing references, calls, ends -/
section HROWS2
variable {p : Program} {l : Launch} {e : Env} {R : Room} {s : State} {m : MethodId} {args : Array Value} {below : List Frame} {meth : Method} {c : Code} {H : Heap} {locs : List Loc} {cells slots : Nat} {Q : State → Prop}
variable {cc : ByteArray} {nL : Nat} {own : String} {D : va_G} {cl : vC2} {tys : List (ClassId × FieldType)} {A0 : Nat → Prop} {Z : (Nat → Prop) → State → Heap → Prop} {G : HG} {pc : Nat} {ls : Array Slot} {rest : List Value} {a : Nat}
/-- an object of class C may lie in a row of E -/
def hAsg (s : State) (C E : String) : Prop := ∀ comp c0 : ClassId, s.vm.findClass E = some comp → s.vm.findClass C = some c0 → s.vm.assignable c0 comp = true
theorem hAsg.self (s : State) (C : String) : hAsg s C C := fun comp c0 h1 h2 => by
  cases h1.symm.trans h2
  exact va_asg _ _
theorem hAsg.of {s : State} {C E : String} (h : va_Nw (.castable C E) s) : hAsg s C E := fun comp c0 h1 h2 => by
  obtain ⟨c1, t1, f1, f2, f3⟩ := Cond.castable_spec (va_Nw.use (A := #[]) rfl h)
  cases h1.symm.trans f2
  cases h2.symm.trans f1
  exact f3
theorem h_qast (X : XC p s m args meth c cc nL own D cl tys A0 Z) (hI : HI D cl G A0 s.heap H locs) (t0 : Nat) {E : String} {cA : ClassId} {n v ci : Nat} {b : Bool} {r : vw_C} {vs : List Value} {f : Nat → Option Nat} (ha : G a = some (true, .inl (cA, n, .inr (.inr (.inr (.inr f)))))) (ht : tys[t0]? = some (cA, .object E)) (hv : G v = some (b, .inr (ci, vs))) (hc : cl.1[ci]? = some r) (hca : hAsg s r.1 E) {i : Int32} (hin : vp_in i n) (hdg : decode cc pc = .ok (.aastore, 1))
    (kk : ∀ (H1 : Heap) (locs1 : List Loc), HI D cl (hup G a (true, .inl (cA, n, .inr (.inr (.inr (.inr (va_up f i.toNatClampNeg (some v)))))))) A0 s.heap H1 locs1 → W p l e R s m args below meth c H1 locs1 cells slots Q (F0 m (pc + 1) ls rest)) : W p l e R s m args below meth c H locs cells slots Q (F0 m pc ls (.ref v :: .int i :: .ref a :: rest)) := by
  have hlt : i.toNatClampNeg < n := Nat.not_le.mp fun q => hin (Or.inr q)
  have h0 : ¬ i < 0 := fun q => hin (Or.inl q)
  obtain ⟨cellV, g1, g3, hcl⟩ := va_recv X.2.2.2.2.2.1 (hI.obj X.2.2.2.2.2.2.2.2.2.2 hv hc) (ci := ci) (q0 := 0) hc rfl
  obtain ⟨kC, hkC, -⟩ := Vm.findClass_spec hcl
  obtain ⟨kA, comp, k1, k2, k3, -⟩ := (X.2.2.2.2.2.1.2 t0 _ ht).2
  obtain ⟨kE, hkE, -⟩ := Vm.findClass_spec k3
  refine W.aast X.1 X.2.1 (hI.1 a true _ ha).1 (fun q h => by cases h) (fun h => by cases h) k1 k2 rfl hkE ⟨h0, by show _ < (arrV _ _ _).slots.size; rw [arrV_size]; exact hlt⟩ g1 (fun q h => by rw [h] at g3; cases g3) hkC (hca _ _ k3 hcl) rfl rfl hdg fun H1 e z oq => ?_
  refine kk H1 _ (hI.set ha ?_ oq (hI.2.put z oq ((hI.1 a true _ ha).2 rfl)))
  show H1[a]? = some (vp_cell _ _)
  rw [e]
  rw [vp_cell_q, vp_cell_q, arrV_store]
  congr 2
  funext q
  by_cases hq : q = i.toNatClampNeg
  · subst hq
    simp [updV, va_up, va_rf]
  · simp [updV, va_up, hq]
theorem h_new (X : XC p s m args meth c cc nL own D cl tys A0 Z) (hI : HI D cl G A0 s.heap H locs) {C : String} {T : u_T} {N ci : Nat} (hc : cl.1[ci]? = some (C, T, N)) (hin : ∀ w ∈ u_ws C T N, w ∈ lw_all) (ty : Nat → FieldType) (hty : ∀ k, k < N → parseFieldDescriptor (T k).2.2.1 = some (ty k)) {index : Nat} (hq : Cond.classLink own index C ∈ lw_all) (hi : Cond.instantiable C N ∈ lw_all) (hini : Cond.initialized C ∈ lw_all) {fs : List Value} (hfs : ∀ j, j < N → defaultValue (ty j) = vp_V fs j) (hcells : cells + 1 ≤ R.cells) (hslots : slots + N ≤ R.slots) (hdg : decode cc pc = .ok (.new index, 3))
    (kk : ∀ (q : Nat) (H1 : Heap), G q = none → HI D cl (hup G q (true, .inr (ci, fs))) A0 s.heap H1 locs → W p l e R s m args below meth c H1 locs (cells + 1) (slots + N) Q (F0 m (pc + 3) ls (.ref q :: rest))) : W p l e R s m args below meth c H locs cells slots Q (F0 m pc ls rest) := by
  have hKn := X.2.2.2.2.2.1.1 ci _ hc
  refine W.newcK X.1 X.2.1 X.2.2.2.1 (X.2.2.2.2.1 _ hq) (X.2.2.2.2.1 _ hi) (X.2.2.2.2.1 _ hini) rfl hdg hcells hslots hKn.2.1 rfl fun H1 kC hkC e1 z1 o1 => ?_
  exact kk H.size H1 hI.fresh (hI.push X.2.2.2.2.2.2.1 ⟨_, X.2.2.2.2.2.2.2.2.2.2 _ _ hc, (u_born ty X.2.2.2.2.1 hin hKn hkC e1 hty).to hfs⟩ o1 (by omega))
theorem h_newa (X : XC p s m args meth c cc nL own D cl tys A0 Z) (hI : HI D cl G A0 s.heap H locs) (t0 : Nat) {atype : ArrayType} {ty : FieldType} (hty : newarray.typeOf atype = ty) (harr : Cond.arrayClass (newarray.typeOf atype) ∈ lw_all) {cA : ClassId} (ht : tys[t0]? = some (cA, ty)) (hpr : va_RA s cA ty = (s.vm.findClass ("[" ++ ty.toString) = some cA)) {n : Int32} {a0 : vp_A} (ha : vp_cell cA a0 = arrV cA n.toNatClampNeg (fun _ => defaultValue ty)) (hn : ¬ n < 0) (hbytes : n.toNatClampNeg * componentBytes ty ≤ 536870912) (hcells : cells + 1 ≤ R.cells) (hslots : slots + n.toNatClampNeg ≤ R.slots) (hdg : decode cc pc = .ok (.newarray atype, 2))
    (kk : ∀ (q : Nat) (H1 : Heap), G q = none → HI D cl (hup G q (true, .inl (cA, a0))) A0 s.heap H1 locs → W p l e R s m args below meth c H1 locs (cells + 1) (slots + n.toNatClampNeg) Q (F0 m (pc + 2) ls (.ref q :: rest))) : W p l e R s m args below meth c H locs cells slots Q (F0 m pc ls (.int n :: rest)) := by
  subst hty
  refine va_newaK X.1 X.2.1 (X.2.2.2.2.1 _ harr) rfl hdg rfl hn rfl hbytes hcells hslots rfl fun H1 cA' e1 z1 o1 hAr hNm => ?_
  have hra := (X.2.2.2.2.2.1.2 t0 _ ht).2
  rw [hpr] at hra
  cases hra.symm.trans hNm
  refine kk H.size H1 hI.fresh (hI.push X.2.2.2.2.2.2.1 ?_ o1 (by omega))
  show H1[H.size]? = some (vp_cell _ _)
  rw [ha]
  exact e1
theorem h_newq (X : XC p s m args meth c cc nL own D cl tys A0 Z) (hI : HI D cl G A0 s.heap H locs) (t0 : Nat) {C : String} {index : Nat} (hq : Cond.classLink own index C ∈ lw_all) (hover : va_AO C s) {cA : ClassId} (ht : tys[t0]? = some (cA, .object C)) {n : Int32} (hn : ¬ n < 0) (hbytes : n.toNatClampNeg * 4 ≤ 536870912) (hcells : cells + 1 ≤ R.cells) (hslots : slots + n.toNatClampNeg ≤ R.slots) (hdg : decode cc pc = .ok (.anewarray index, 3))
    (kk : ∀ (q : Nat) (H1 : Heap), G q = none → HI D cl (hup G q (true, .inl (cA, n.toNatClampNeg, .inr (.inr (.inr (.inr (fun _ => none))))))) A0 s.heap H1 locs → W p l e R s m args below meth c H1 locs (cells + 1) (slots + n.toNatClampNeg) Q (F0 m (pc + 3) ls (.ref q :: rest))) : W p l e R s m args below meth c H locs cells slots Q (F0 m pc ls (.int n :: rest)) := by
  refine W.anew X.1 X.2.1 X.2.2.2.1 (X.2.2.2.2.1 _ hq) (va_AO.use hover) rfl hdg rfl hn hbytes hcells hslots fun cA' kA comp f1 f2 f3 f4 => ?_
  obtain ⟨kA', comp', k1, k2, k3, k4⟩ := (X.2.2.2.2.2.1.2 t0 _ ht).2
  have hcc : cA' = cA := by
    have h1 : s.vm.findClass ("[" ++ (FieldType.object C).toString) = some cA' := by first | exact f1 | exact f4
    exact Option.some.inj (h1.symm.trans k4)
  subst hcc
  generalize hH1 : H.push ({ cls := cA', slots := Array.replicate n.toNatClampNeg .null, vm := .none } : Cell) = H1
  have z1 : H1.size = H.size + 1 := by rw [← hH1, Array.size_push]
  have e1 : H1[H.size]? = some (arrV cA' n.toNatClampNeg (fun _ => .null)) := by rw [← hH1, Array.getElem?_push_size, ← arrV_new]
  have o1 : ∀ q : Nat, q < H.size → H1[q]? = H[q]? := fun q hq => by rw [← hH1, Array.getElem?_push, if_neg (Nat.ne_of_lt hq)]
  refine kk H.size H1 hI.fresh (hI.push X.2.2.2.2.2.2.1 ?_ o1 (by omega))
  show H1[H.size]? = some (vp_cell _ _)
  rw [vp_cell_q]
  exact e1
/-! calls: the whole heap is handed on -/
variable {y : MethodName} {bytes : ByteArray} {maxL n index : Nat} {ret : Option FieldType} {ws : List Cond} {rm : Room} {As : List Value} {C : String} {mc ms : Nat}
theorem h_look (X : XC p s m args meth c cc nL own D cl tys A0 Z) (hI : HI D cl G A0 s.heap H locs) {av : List Value} : ∀ U : State, U.heap = H → s.WarmedH U.vm → HPre D cl tys Z G av H.size av.toArray U := fun U hU hW => ⟨rfl, by rw [hU], fun a b e h => by rw [hU]; exact (hI.1 a b e h).1, va_K.moved hW.alike X.2.2.2.2.2.1, by rw [hU]; exact X.2.2.2.2.2.2.2.2.2.1.2.2 _ _ _ _ (X.2.2.2.2.2.2.2.2.2.1.2.1 _ _ _ _ (X.2.2.2.2.2.2.2.2.2.1.1 _ _ _ _ hW X.2.2.2.2.2.2.2.2.1) (fun a _ h2 => hI.2.2.1 a ‹_› h2)) (hI.free X.2.2.2.2.2.2.1), X.2.2.2.2.2.2.2.2.2.2⟩
theorem h_blind (hz : ZK Z) {av : List Value} {z : Nat} : FrameBlind (HPre D cl tys Z G av z) := fun a U g mk q => by
  obtain ⟨q0, q1, qP, qK, qZ, qC⟩ := q
  exact ⟨q0, q1, qP, va_K.moved (u := U) (U := U.calling g mk a) (Vm.Alike.refl U.vm) qK, hz.1 _ U (U.calling g mk a) _ (State.WarmedH.refl U) qZ, qC⟩
/-- the receiver's class -/
def hRecv (s : State) (H : Heap) (a : Nat) (C : String) : Prop := ∃ cell : Cell, H[a]? = some cell ∧ cell.vm.isStatics = false ∧ s.vm.findClass C = some cell.cls
theorem h_recv (X : XC p s m args meth c cc nL own D cl tys A0 Z) (hI : HI D cl G A0 s.heap H locs) {ci : Nat} {b : Bool} {fs : List Value} (he : G a = some (b, .inr (ci, fs))) {r : vw_C} (hc : cl.1[ci]? = some r) : hRecv s H a r.1 :=
  va_recv X.2.2.2.2.2.1 (hI.obj X.2.2.2.2.2.2.2.2.2.2 he hc) (ci := ci) (q0 := 0) hc rfl
variable {Qc : Array Value → State → Outcome → State → Prop}
theorem h_runV (X : XC p s m args meth c cc nL own D cl tys A0 Z) (hI : HI D cl G A0 s.heap H locs) (hr : hRecv s H a C) (hM : Met l y ws rm (HPre D cl tys Z G (.ref a :: As) H.size) Qc mc ms (hA G H.size)) (cw : CallW R s args own C index y bytes maxL ret ws rm mc ms n) (hn : As.length = n) (hls : ls.size = nL) (hroom : (rest.map fun v => v.category).sum ≤ 8) (hdg : decode cc pc = .ok (.invokevirtual index, 3)) (hf : cells + mc ≤ R.cells ∧ slots + ms ≤ R.slots) {st : List Value} (hst : st = As.reverse ++ .ref a :: rest) :
    va_Run p l e R s m args below meth c H locs cells slots mc ms (F0 m pc ls st) rest (Qc (Value.ref a :: As).toArray) (hA G H.size) := by
  subst hst
  exact va_runV (As := As) (rest := rest) ⟨X.1, X.2.1, X.2.2.1, X.2.2.2.1, X.2.2.2.2.1⟩ hM cw ⟨h_blind X.2.2.2.2.2.2.2.2.2.1, hr, h_look X hI⟩ rfl hn hls rfl (lv_room hroom) hdg hf
theorem h_runVN (X : XC p s m args meth c cc nL own D cl tys A0 Z) (hI : HI D cl G A0 s.heap H locs) {host : String} (hr : hRecv s H a C) (hM : Met l y ws rm (HPre D cl tys Z G (.ref a :: As) H.size) Qc mc ms (hA G H.size)) (cw : va_CN R s args own index y host bytes maxL ret ws rm mc ms n ∧ (Cond.instanceMethod y).before args s = true ∧ (Cond.selects C y y).before args s = true) (hn : As.length = n) (hls : ls.size = nL) (hroom : (rest.map fun v => v.category).sum ≤ 8) (hdg : decode cc pc = .ok (.invokevirtual index, 3)) (hf : cells + mc ≤ R.cells ∧ slots + ms ≤ R.slots) {st : List Value} (hst : st = As.reverse ++ .ref a :: rest) :
    va_Run p l e R s m args below meth c H locs cells slots mc ms (F0 m pc ls st) rest (Qc (Value.ref a :: As).toArray) (hA G H.size) := by
  subst hst
  exact va_runVN (As := As) (rest := rest) ⟨X.1, X.2.1, X.2.2.1, X.2.2.2.1, X.2.2.2.2.1⟩ hM cw ⟨h_blind X.2.2.2.2.2.2.2.2.2.1, hr, h_look X hI⟩ rfl hn hls rfl (lv_room hroom) hdg hf
theorem h_runS (X : XC p s m args meth c cc nL own D cl tys A0 Z) (hI : HI D cl G A0 s.heap H locs) (hM : Met l y ws rm (HPre D cl tys Z G As H.size) Qc mc ms (hA G H.size)) (cw : CallB R s args own index y bytes maxL ret ws rm mc ms n ∧ (Cond.static y).before args s = true) (hn : As.length = n) (hls : ls.size = nL) (hroom : (rest.map fun v => v.category).sum ≤ 8) (hdg : decode cc pc = .ok (.invokestatic index, 3)) (hf : cells + mc ≤ R.cells ∧ slots + ms ≤ R.slots) {st : List Value} (hst : st = As.reverse ++ rest) :
    va_Run p l e R s m args below meth c H locs cells slots mc ms (F0 m pc ls st) rest (Qc As.toArray) (hA G H.size) := by
  subst hst
  exact va_runS (As := As) (rest := rest) ⟨X.1, X.2.1, X.2.2.1, X.2.2.2.1, X.2.2.2.2.1⟩ hM cw ⟨h_blind X.2.2.2.2.2.2.2.2.2.1, h_look X hI⟩ rfl hn hls rfl (lv_room hroom) hdg hf
theorem h_runSN (X : XC p s m args meth c cc nL own D cl tys A0 Z) (hI : HI D cl G A0 s.heap H locs) {host : String} (hM : Met l y ws rm (HPre D cl tys Z G As H.size) Qc mc ms (hA G H.size)) (cw : va_CN R s args own index y host bytes maxL ret ws rm mc ms n ∧ (Cond.static y).before args s = true) (hn : As.length = n) (hls : ls.size = nL) (hroom : (rest.map fun v => v.category).sum ≤ 8) (hdg : decode cc pc = .ok (.invokestatic index, 3)) (hf : cells + mc ≤ R.cells ∧ slots + ms ≤ R.slots) {st : List Value} (hst : st = As.reverse ++ rest) :
    va_Run p l e R s m args below meth c H locs cells slots mc ms (F0 m pc ls st) rest (Qc As.toArray) (hA G H.size) := by
  subst hst
  exact va_runSN (As := As) (rest := rest) ⟨X.1, X.2.1, X.2.2.1, X.2.2.2.1, X.2.2.2.2.1⟩ hM ⟨cw.1, cw.2, trivial⟩ ⟨h_blind X.2.2.2.2.2.2.2.2.2.1, h_look X hI⟩ rfl hn hls rfl (lv_room hroom) hdg hf
theorem h_runI (X : XC p s m args meth c cc nL own D cl tys A0 Z) (hI : HI D cl G A0 s.heap H locs) (hM : Met l y ws rm (HPre D cl tys Z G (.ref a :: As) H.size) Qc mc ms (hA G H.size)) (cw : CallB R s args own index y bytes maxL none ws rm mc ms n ∧ y.name = "<init>" ∧ (Cond.instanceMethod y).before args s = true) (hn : As.length = n) (hls : ls.size = nL) (hroom : (rest.map fun v => v.category).sum ≤ 8) (hdg : decode cc pc = .ok (.invokespecial index, 3)) (hf : cells + mc ≤ R.cells ∧ slots + ms ≤ R.slots) {st : List Value} (hst : st = As.reverse ++ .ref a :: rest) :
    va_Run p l e R s m args below meth c H locs cells slots mc ms (F0 m pc ls st) rest (Qc (Value.ref a :: As).toArray) (hA G H.size) := by
  subst hst
  exact va_runI (As := As) (rest := rest) ⟨X.1, X.2.1, X.2.2.1, X.2.2.2.1, X.2.2.2.2.1⟩ hM cw ⟨h_blind X.2.2.2.2.2.2.2.2.2.1, h_look X hI⟩ rfl hn hls rfl (lv_room hroom) hdg hf
theorem h_runF (X : XC p s m args meth c cc nL own D cl tys A0 Z) (hI : HI D cl G A0 s.heap H locs) {x : MethodName} {count : Nat} {cC : ClassId} (hat : ClassAt s C cC) (hr : hRecv s H a C) (hM : Met l y ws rm (HPre D cl tys Z G (.ref a :: As) H.size) Qc mc ms (hA G H.size)) (cw : va_CI R s args own C index x y bytes maxL ret ws rm mc ms n) (hn : As.length = n) (hls : ls.size = nL) (hroom : (rest.map fun v => v.category).sum ≤ 8) (hdg : decode cc pc = .ok (.invokeinterface index count, 5)) (hf : cells + mc ≤ R.cells ∧ slots + ms ≤ R.slots) {st : List Value} (hst : st = As.reverse ++ .ref a :: rest) :
    va_Run5 p l e R s m args below meth c H locs cells slots mc ms (F0 m pc ls st) rest (Qc (Value.ref a :: As).toArray) (hA G H.size) := by
  subst hst
  exact va_runF (As := As) (rest := rest) hat ⟨X.1, X.2.1, X.2.2.1, X.2.2.2.1, X.2.2.2.2.1⟩ hM cw ⟨h_blind X.2.2.2.2.2.2.2.2.2.1, hr, h_look X hI⟩ rfl hn hls rfl (lv_room hroom) hdg hf
theorem h_ki (X : XC p s m args meth c cc nL own D cl tys A0 Z) (hI : HI D cl G A0 s.heap H locs) {post : Int32 → HG → Prop} {av : Array Value} {st : List Value} (hr : va_Run p l e R s m args below meth c H locs cells slots mc ms (F0 m pc ls st) rest (va_Qi post (HBd D cl (hA G H.size)) (hA G H.size) av) (hA G H.size))
    (kk : ∀ (r : Int32) (G' : HG) (H1 : Heap) (locs1 : List Loc), post r G' → HI D cl G' A0 s.heap H1 locs1 → W p l e R s m args below meth c H1 locs1 (cells + mc) (slots + ms) Q (F0 m (pc + 3) ls (.int r :: rest))) : W p l e R s m args below meth c H locs cells slots Q (F0 m pc ls st) := by
  have hF := hI.free X.2.2.2.2.2.2.1
  exact va_calli hr hI.2 (fun q _ h => hF q h) hF (fun r u t H1 locs1 ht hvm hw hB hz hk hS => kk r u H1 locs1 hw ⟨fun a b e h => ⟨by rw [← ht]; exact (hB a b e h).1, fun hb => hF a ((hB a b e h).2 hb)⟩, hS⟩)
theorem h_Fki (X : XC p s m args meth c cc nL own D cl tys A0 Z) (hI : HI D cl G A0 s.heap H locs) {post : Int32 → HG → Prop} {av : Array Value} {st : List Value} (hr : va_Run5 p l e R s m args below meth c H locs cells slots mc ms (F0 m pc ls st) rest (va_Qi post (HBd D cl (hA G H.size)) (hA G H.size) av) (hA G H.size))
    (kk : ∀ (r : Int32) (G' : HG) (H1 : Heap) (locs1 : List Loc), post r G' → HI D cl G' A0 s.heap H1 locs1 → W p l e R s m args below meth c H1 locs1 (cells + mc) (slots + ms) Q (F0 m (pc + 5) ls (.int r :: rest))) : W p l e R s m args below meth c H locs cells slots Q (F0 m pc ls st) := by
  have hF := hI.free X.2.2.2.2.2.2.1
  exact va_callFi hr hI.2 (fun q _ h => hF q h) hF (fun r u t H1 locs1 ht hvm hw hB hz hk hS => kk r u H1 locs1 hw ⟨fun a b e h => ⟨by rw [← ht]; exact (hB a b e h).1, fun hb => hF a ((hB a b e h).2 hb)⟩, hS⟩)
theorem h_kl (X : XC p s m args meth c cc nL own D cl tys A0 Z) (hI : HI D cl G A0 s.heap H locs) {post : Int64 → HG → Prop} {av : Array Value} {st : List Value} (hr : va_Run p l e R s m args below meth c H locs cells slots mc ms (F0 m pc ls st) rest (va_Ql post (HBd D cl (hA G H.size)) (hA G H.size) av) (hA G H.size))
    (kk : ∀ (r : Int64) (G' : HG) (H1 : Heap) (locs1 : List Loc), post r G' → HI D cl G' A0 s.heap H1 locs1 → W p l e R s m args below meth c H1 locs1 (cells + mc) (slots + ms) Q (F0 m (pc + 3) ls (.long r :: rest))) : W p l e R s m args below meth c H locs cells slots Q (F0 m pc ls st) := by
  have hF := hI.free X.2.2.2.2.2.2.1
  exact va_calll hr hI.2 (fun q _ h => hF q h) hF (fun r u t H1 locs1 ht hvm hw hB hz hk hS => kk r u H1 locs1 hw ⟨fun a b e h => ⟨by rw [← ht]; exact (hB a b e h).1, fun hb => hF a ((hB a b e h).2 hb)⟩, hS⟩)
theorem h_Fkl (X : XC p s m args meth c cc nL own D cl tys A0 Z) (hI : HI D cl G A0 s.heap H locs) {post : Int64 → HG → Prop} {av : Array Value} {st : List Value} (hr : va_Run5 p l e R s m args below meth c H locs cells slots mc ms (F0 m pc ls st) rest (va_Ql post (HBd D cl (hA G H.size)) (hA G H.size) av) (hA G H.size))
    (kk : ∀ (r : Int64) (G' : HG) (H1 : Heap) (locs1 : List Loc), post r G' → HI D cl G' A0 s.heap H1 locs1 → W p l e R s m args below meth c H1 locs1 (cells + mc) (slots + ms) Q (F0 m (pc + 5) ls (.long r :: rest))) : W p l e R s m args below meth c H locs cells slots Q (F0 m pc ls st) := by
  have hF := hI.free X.2.2.2.2.2.2.1
  exact va_callFl hr hI.2 (fun q _ h => hF q h) hF (fun r u t H1 locs1 ht hvm hw hB hz hk hS => kk r u H1 locs1 hw ⟨fun a b e h => ⟨by rw [← ht]; exact (hB a b e h).1, fun hb => hF a ((hB a b e h).2 hb)⟩, hS⟩)
theorem h_kq (X : XC p s m args meth c cc nL own D cl tys A0 Z) (hI : HI D cl G A0 s.heap H locs) {post : Option Nat → HG → Prop} {av : Array Value} {st : List Value} (hr : va_Run p l e R s m args below meth c H locs cells slots mc ms (F0 m pc ls st) rest (va_Qq post (HBd D cl (hA G H.size)) (hA G H.size) av) (hA G H.size))
    (kk : ∀ (r : Option Nat) (G' : HG) (H1 : Heap) (locs1 : List Loc), post r G' → HI D cl G' A0 s.heap H1 locs1 → W p l e R s m args below meth c H1 locs1 (cells + mc) (slots + ms) Q (F0 m (pc + 3) ls (va_rf r :: rest))) : W p l e R s m args below meth c H locs cells slots Q (F0 m pc ls st) := by
  have hF := hI.free X.2.2.2.2.2.2.1
  exact va_callq hr hI.2 (fun q _ h => hF q h) hF (fun r u t H1 locs1 ht hvm hw hB hz hk hS => kk r u H1 locs1 hw ⟨fun a b e h => ⟨by rw [← ht]; exact (hB a b e h).1, fun hb => hF a ((hB a b e h).2 hb)⟩, hS⟩)
theorem h_Fkq (X : XC p s m args meth c cc nL own D cl tys A0 Z) (hI : HI D cl G A0 s.heap H locs) {post : Option Nat → HG → Prop} {av : Array Value} {st : List Value} (hr : va_Run5 p l e R s m args below meth c H locs cells slots mc ms (F0 m pc ls st) rest (va_Qq post (HBd D cl (hA G H.size)) (hA G H.size) av) (hA G H.size))
    (kk : ∀ (r : Option Nat) (G' : HG) (H1 : Heap) (locs1 : List Loc), post r G' → HI D cl G' A0 s.heap H1 locs1 → W p l e R s m args below meth c H1 locs1 (cells + mc) (slots + ms) Q (F0 m (pc + 5) ls (va_rf r :: rest))) : W p l e R s m args below meth c H locs cells slots Q (F0 m pc ls st) := by
  have hF := hI.free X.2.2.2.2.2.2.1
  exact va_callFq hr hI.2 (fun q _ h => hF q h) hF (fun r u t H1 locs1 ht hvm hw hB hz hk hS => kk r u H1 locs1 hw ⟨fun a b e h => ⟨by rw [← ht]; exact (hB a b e h).1, fun hb => hF a ((hB a b e h).2 hb)⟩, hS⟩)
theorem h_kv (X : XC p s m args meth c cc nL own D cl tys A0 Z) (hI : HI D cl G A0 s.heap H locs) {post : HG → Prop} {av : Array Value} {st : List Value} (hr : va_Run p l e R s m args below meth c H locs cells slots mc ms (F0 m pc ls st) rest (va_Qv post (HBd D cl (hA G H.size)) (hA G H.size) av) (hA G H.size))
    (kk : ∀ (G' : HG) (H1 : Heap) (locs1 : List Loc), post G' → HI D cl G' A0 s.heap H1 locs1 → W p l e R s m args below meth c H1 locs1 (cells + mc) (slots + ms) Q (F0 m (pc + 3) ls (rest))) : W p l e R s m args below meth c H locs cells slots Q (F0 m pc ls st) := by
  have hF := hI.free X.2.2.2.2.2.2.1
  exact va_callv hr hI.2 (fun q _ h => hF q h) hF (fun u t H1 locs1 ht hvm hw hB hz hk hS => kk u H1 locs1 hw ⟨fun a b e h => ⟨by rw [← ht]; exact (hB a b e h).1, fun hb => hF a ((hB a b e h).2 hb)⟩, hS⟩)
theorem h_Fkv (X : XC p s m args meth c cc nL own D cl tys A0 Z) (hI : HI D cl G A0 s.heap H locs) {post : HG → Prop} {av : Array Value} {st : List Value} (hr : va_Run5 p l e R s m args below meth c H locs cells slots mc ms (F0 m pc ls st) rest (va_Qv post (HBd D cl (hA G H.size)) (hA G H.size) av) (hA G H.size))
    (kk : ∀ (G' : HG) (H1 : Heap) (locs1 : List Loc), post G' → HI D cl G' A0 s.heap H1 locs1 → W p l e R s m args below meth c H1 locs1 (cells + mc) (slots + ms) Q (F0 m (pc + 5) ls (rest))) : W p l e R s m args below meth c H locs cells slots Q (F0 m pc ls st) := by
  have hF := hI.free X.2.2.2.2.2.2.1
  exact va_callFv hr hI.2 (fun q _ h => hF q h) hF (fun u t H1 locs1 ht hvm hw hB hz hk hS => kk u H1 locs1 hw ⟨fun a b e h => ⟨by rw [← ht]; exact (hB a b e h).1, fun hb => hF a ((hB a b e h).2 hb)⟩, hS⟩)
/-! ends -/
variable {G0 : HG}
theorem h_iret (X : XC p s m args meth c cc nL own D cl tys (hA G0 s.heap.size) Z) {G' : HG} (hI : HI D cl G' (hA G0 s.heap.size) s.heap H locs) {post : Int32 → HG → Prop} (hr : meth.sig.returnType = some .int) {v : Int32} (hB : post v G') (hdg : decode cc pc = .ok (.ireturn, 1)) : W p l e R s m args below meth c H locs cells slots (MQ below (va_Qi post (HBd D cl (hA G0 s.heap.size)) (hA G0 s.heap.size)) args s cells slots (hA G0 s.heap.size)) (F0 m pc ls [.int v]) :=
  W.iret (v := v) X.1 X.2.1 hr (fun t ht _ => ⟨⟨v, G', rfl, hB, fun a b e h => ⟨by rw [ht]; exact (hI.1 a b e h).1, (hI.1 a b e h).2⟩⟩, hI.2.F ht⟩) hI.2.2.2 hdg X.2.2.2.2.2.2.2.1
theorem h_zret (X : XC p s m args meth c cc nL own D cl tys (hA G0 s.heap.size) Z) {G' : HG} (hI : HI D cl G' (hA G0 s.heap.size) s.heap H locs) {post : Int32 → HG → Prop} {ty : FieldType} (hr : meth.sig.returnType = some ty) {v : Int32} (hn : narrow ty (.int v) = .int v) (hB : post v G') (hdg : decode cc pc = .ok (.ireturn, 1)) : W p l e R s m args below meth c H locs cells slots (MQ below (va_Qi post (HBd D cl (hA G0 s.heap.size)) (hA G0 s.heap.size)) args s cells slots (hA G0 s.heap.size)) (F0 m pc ls [.int v]) :=
  W.zret (v := v) X.1 X.2.1 hr hn (fun t ht _ => ⟨⟨v, G', rfl, hB, fun a b e h => ⟨by rw [ht]; exact (hI.1 a b e h).1, (hI.1 a b e h).2⟩⟩, hI.2.F ht⟩) hI.2.2.2 hdg X.2.2.2.2.2.2.2.1
theorem h_lret (X : XC p s m args meth c cc nL own D cl tys (hA G0 s.heap.size) Z) {G' : HG} (hI : HI D cl G' (hA G0 s.heap.size) s.heap H locs) {post : Int64 → HG → Prop} (hr : meth.sig.returnType = some .long) {v : Int64} (hB : post v G') (hdg : decode cc pc = .ok (.lreturn, 1)) : W p l e R s m args below meth c H locs cells slots (MQ below (va_Ql post (HBd D cl (hA G0 s.heap.size)) (hA G0 s.heap.size)) args s cells slots (hA G0 s.heap.size)) (F0 m pc ls [.long v]) :=
  W.lret (v := v) X.1 X.2.1 hr (fun t ht _ => ⟨⟨v, G', rfl, hB, fun a b e h => ⟨by rw [ht]; exact (hI.1 a b e h).1, (hI.1 a b e h).2⟩⟩, hI.2.F ht⟩) hI.2.2.2 hdg X.2.2.2.2.2.2.2.1
theorem h_vret (X : XC p s m args meth c cc nL own D cl tys (hA G0 s.heap.size) Z) {G' : HG} (hI : HI D cl G' (hA G0 s.heap.size) s.heap H locs) {post : HG → Prop} (hr : meth.sig.returnType = none) (hB : post G') (hdg : decode cc pc = .ok (.return_, 1)) : W p l e R s m args below meth c H locs cells slots (MQ below (va_Qv post (HBd D cl (hA G0 s.heap.size)) (hA G0 s.heap.size)) args s cells slots (hA G0 s.heap.size)) (F0 m pc ls []) :=
  W.vret X.1 X.2.1 hr (fun t ht _ => ⟨⟨G', rfl, hB, fun a b e h => ⟨by rw [ht]; exact (hI.1 a b e h).1, (hI.1 a b e h).2⟩⟩, hI.2.F ht⟩) hI.2.2.2 hdg X.2.2.2.2.2.2.2.1
theorem h_qret (X : XC p s m args meth c cc nL own D cl tys (hA G0 s.heap.size) Z) {G' : HG} (hI : HI D cl G' (hA G0 s.heap.size) s.heap H locs) {post : Option Nat → HG → Prop} {rt : FieldType} (hr : meth.sig.returnType = some rt) (hrt : (∃ n, rt = .object n) ∨ ∃ t, rt = .array t) {v : Option Nat} (hB : post v G') (hdg : decode cc pc = .ok (.areturn, 1)) : W p l e R s m args below meth c H locs cells slots (MQ below (va_Qq post (HBd D cl (hA G0 s.heap.size)) (hA G0 s.heap.size)) args s cells slots (hA G0 s.heap.size)) (F0 m pc ls [va_rf v]) :=
  W.aret (v := va_rf v) X.1 X.2.1 hr hrt (va_rf_or v) (fun t ht _ => ⟨⟨v, G', rfl, hB, fun a b e h => ⟨by rw [ht]; exact (hI.1 a b e h).1, (hI.1 a b e h).2⟩⟩, hI.2.F ht⟩) hI.2.2.2 hdg X.2.2.2.2.2.2.2.1
/-! the start of a method's proof -/
theorem h_openG {l : Launch} {y : MethodName} {cc : ByteArray} {maxL : Nat} {ret : Option FieldType} {rm : Room} {Qc : Array Value → State → Outcome → State → Prop} {mc ms : Nat} {av : List Value} {sz : Nat} (hz : ZK Z) (hy : plainName y.cls = true) (hlen : (lg_sl av).length ≤ maxL)
    (body : ∀ (p : Program) (e : Env) (s : State) (m : MethodId) (args : Array Value) (below : List Frame) (meth : Method) (c : Code) (ls : Array Slot), s.heap.size = sz → args = av.toArray → XC p s m args meth c cc maxL y.cls D cl tys (hA G s.heap.size) Z → meth.sig.returnType = ret → meth.name = y.name → s.methodNamed? y = some m → HI D cl G (hA G s.heap.size) s.heap s.heap [] → lv_has ls maxL (lv_args 0 av) →
      W p l e rm s m args below meth c s.heap [] 0 0 (MQ below Qc args s mc ms (hA G s.heap.size)) (F0 m 0 ls [])) :
    Met l y (ws_ y cc maxL ret) rm (HPre D cl tys Z G av sz) Qc mc ms (hA G sz) := by
  refine Met.ofW (cc := cc) (maxL := maxL) (ret := ret) hy rfl ?_
  intro p e s m args below meth c s₁ B hml hv
  obtain ⟨rfl, hsz, hP, hK, hZ, hC⟩ := hv
  subst hsz
  have hts := atoms_spec (ws := ws_ y cc maxL ret) B.pre
  have hts : ∀ w ∈ lw_all, w.before av.toArray s = true := fun w h => hts w (List.mem_cons_of_mem _ h)
  have hown : s.vm.findClass y.cls = some m.cls := findClass_of_methodNamed B.named
  have hnm : meth.name = y.name := (name_of_methodNamed B.named B.method).1
  have hl := lv_entry av (n := maxL) hlen
  rw [lg_entry_eq]
  exact body p e s m av.toArray below meth c _ rfl rfl ⟨B.exec, B.bytes, hml, hown, hts, hK, fun q h => Or.inr h, B.notSynchronized, hZ, hz, hC⟩ B.returns hnm B.named ⟨fun a b e h => ⟨hP a b e h, fun hb => Or.inl ⟨e, by rw [h, hb]⟩⟩, va_S.rf⟩ hl
end HROWS2
