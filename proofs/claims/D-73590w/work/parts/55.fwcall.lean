/-! MADE OBJECTS: a call by the interface reaches the forwarder -/
section FWC
variable {p : Program} {l : Launch} {e : Env} {R : Room} {s : State} {m : MethodId} {args : Array Value} {below : List Frame} {meth : Method} {c : Code} {cells slots : Nat}
theorem fw_call {cc : ByteArray} {nL : Nat} {own : String} {D : va_G} {tys : List (ClassId × FieldType)} {A0 : Nat → Prop} {Z : (Nat → Prop) → State → Heap → Prop} {cl : vC2} (X : XC p s m args meth c cc nL own D cl tys A0 Z)
    {x : MethodName} {index count pc : Nat} {ls : Array Slot} {rest As : List Value} {q : Nat} {H : Heap} {locs : List Loc} {σ : Lambda.Shape} {cK d : ClassId} {dk : Class} {caller : String} {bytes : List UInt8} {ml mi ci nt cn : Nat} {rt : Option FieldType} {fis : List Nat} {cell : Cell}
    (hq : Cond.methodLink own index x ∈ lw_all) (hdecl : (Cond.declares x).before args s = true) (hface : (Cond.interfaceMethod x.cls x.cls x.name x.desc).before args s = true) (hx : x.cls ≠ "java/lang/invoke/MethodHandle" ∧ x.cls ≠ "java/lang/invoke/VarHandle") (hlen : ∀ sig, parseMethodDescriptor x.desc = some sig → As.length = sig.parameters.length)
    (hs1 : σ.iface = x.cls) (hs2 : σ.name = x.name) (hs3 : σ.sam.toString = x.desc) (hok : fwOk σ caller bytes ml rt mi ci nt cn fis = true) (hd : s.vm.classes[d]? = some dk) (hdn : dk.name = caller) (hpl : plainName (caller ++ "$$Lambda") = true)
    (hmade : Lambda.isMade { classPath := fun _ => none } s.vm d σ cK = true) (hcan : s.lambdaCallable σ cK = true)
    (hcell : H[q]? = some cell) (hcls : cell.cls = cK) (hvm : cell.vm = .none)
    (hls : ls.size = nL) (hroom : (rest.map fun v => v.category).sum ≤ 8) (hdg : decode cc pc = .ok (.invokeinterface index count, 5))
    {R' : Room} {mc ms : Nat} {Qc : Array Value → State → Outcome → State → Prop} {free : Addr → Prop} (hfr : R'.frames + 1 ≤ R.frames) (hlo : 8 + (ml + 11) + R'.locals ≤ R.locals) (hce : cells + R'.cells ≤ R.cells) (hsl : slots + R'.slots ≤ R.slots) (hret : ∀ st o t, Qc (Value.ref q :: As).toArray st o t → ∃ v, o = .returned v)
    (hbody : ∀ (U : State) (g : JFrame) (methk : Method) (ck : Code), U.heap = H → s.WarmedH U.vm → U.vm.method? ⟨cK, 1⟩ = some methk → ck.code.data.toList = bytes → ck.maxLocals = ml → methk.locks = false → methk.sig.returnType = rt →
      W p l e R' (U.calling g ⟨cK, 1⟩ (Value.ref q :: As).toArray) ⟨cK, 1⟩ (Value.ref q :: As).toArray (.java g :: below) methk ck H [] 0 0 (MQ (.java g :: below) Qc (Value.ref q :: As).toArray (U.calling g ⟨cK, 1⟩ (Value.ref q :: As).toArray) mc ms free) (entryFrame ⟨cK, 1⟩ (Value.ref q :: As).toArray ck.maxLocals)) :
    va_Run5 p l e R s m args below meth c H locs cells slots mc ms (F0 m pc ls (As.reverse ++ .ref q :: rest)) rest (Qc (Value.ref q :: As).toArray) free := by
  obtain ⟨co, ko, hco, hko, -, -, -, hkz⟩ := Cond.instantiable_spec (X.2.2.2.2.1 _ q3563)
  obtain ⟨k, tk, file, methk, ck, owner, iface, t, found, f1, f2, f3, f4, f5, f6, f7, f8, f9, f10, f11, f12, -, -, -, -, -, -, -, f20, f21, f22⟩ := made_gen hok hd hdn hco hko hkz hmade
  subst hcls
  intro T hT XX
  obtain ⟨r0, r, hn, hrm, hstR, hsigR⟩ := Cond.declares_spec hdecl
  obtain ⟨cL, kL, r1, hcL, hkL, hiL, hfoundL, hn1⟩ := Cond.interfaceMethod_spec hface
  cases hn.symm.trans hn1
  have hr0cls : r0.cls = cL := Option.some.inj ((findClass_of_methodNamed hn).symm.trans hcL)
  obtain ⟨hnameR, hdescR⟩ := name_of_methodNamed hn hrm
  rw [hs1] at f20
  cases hcL.symm.trans f20
  have hfr0 : found = r0 := by
    have h1 := hfoundL
    simp only [State.methodFound?, hcL, hkL, hiL, Option.bind_eq_bind, Option.bind_some] at h1
    have h2 : ((methodIn iface x.name x.desc true none).ask { classPath := fun _ => none } s.vm).1 = .ok found := by rw [← hs2, ← hs3]; exact f21
    rw [h2] at h1
    exact Option.some.inj h1
  subst hfr0
  obtain ⟨i2, hi2, hasg, hway⟩ := State.lambdaCallable_spec hcan
  rw [hs1] at hi2
  cases hcL.symm.trans hi2
  obtain ⟨vm₁, X₁, hstep₁⟩ := XX.invokeinterface X.1 X.2.2.2.1 (X.2.2.2.2.1 _ hq) hn hrm hstR (by rw [hr0cls]; exact hkL) hiL hx (a := q) (cell := cell) (kcell := k) (by rw [hT]; exact hcell) (fun z h => by rw [hvm] at h; cases h) f1 (by rw [hr0cls]; exact hasg)
    (m' := ⟨cell.cls, 1⟩) (meth' := methk) (by rw [Launch.admits_selectMethod XX.admits]; exact f22) f6 (by rw [hnameR, hdescR, ← hs2, ← hs3]; exact hway) (by rw [f11]; decide) (by simp [Method.isAbstract, f11, hasFlag, Acc.abstract])
    (g := F0 m pc ls (As.reverse ++ .ref q :: rest)) rfl (argsL := As) (rest := rest) (hlen _ hsigR) rfl (by rw [X.2.1]; exact hdg)
  have hW₁ : s.WarmedH vm₁ := X₁.warmed
  obtain ⟨dk₁, hdk₁, hde₁⟩ := hW₁.alike.2.2 _ _ hd
  obtain ⟨ko₁, hko₁, hoe₁⟩ := hW₁.alike.2.2 _ _ hko
  obtain ⟨k1, tk1, file1, methk1, ck1, owner1, iface1, t1, found1, g1, g2, g3, g4, g5, g6, g7, g8, g9, g10, g11, g12, -⟩ := made_gen hok hdk₁ (by rw [hde₁]; exact hdn) (by rw [hW₁.alike.findClass]; exact hco) hko₁ (by rw [hoe₁]; exact hkz) (Lambda.isMade_warmer hW₁ hmade)
  have hpk : (T.setVm vm₁).plainMethod ⟨cell.cls, 1⟩ := State.plainMethod.of_name (fun k' hk' => by
    have hk'' : vm₁.classes[cell.cls]? = some k' := hk'
    cases g1.symm.trans hk''
    rw [g2]; exact hpl)
  obtain ⟨v, t2, T', L, X', hL, e1, e2, hq2, hs⟩ := fw_out (Qc := Qc) (free := free) (mc := mc) (ms := ms) X₁ (g := F0 m pc ls rest) rfl (by rw [X.2.2.1]; exact hls) (by rw [X.2.1]; exact hdg) (mk := ⟨cell.cls, 1⟩) (a := (Value.ref q :: As).toArray) g6 g7 g10 hpk hfr
    (by rw [g9]; show 2 * 0 + (rest.map fun v => v.category).sum + _ + _ ≤ _; omega) hce hsl (by have hb := hbody (T.setVm vm₁) (F0 m pc ls rest) methk1 ck1 hT hW₁ g6 g8 g9 g10 g12; rw [← hT] at hb; exact hb) hret
  exact ⟨v, (T.setVm vm₁).calling (F0 m pc ls rest) ⟨cell.cls, 1⟩ (Value.ref q :: As).toArray, t2, T', L, hT, X', hL, e1, e2, hq2, fun target ht => hstep₁ _ fun acts => (hs acts).trans ht⟩
end FWC
