/-! MADE OBJECTS: static members -/
/-- in any warmer state: the class of the object, its forwarder's entries, the member -/
theorem fw_linkS {l : Launch} {e : Env} {s : State} {args : Array Value} {σ : Lambda.Shape} {caller : String} {bytes : List UInt8} {ml : Nat} {rt : Option FieldType} {mi ci nt cn : Nat} {fis : List Nat} (hok : fwOk σ caller bytes ml rt mi ci nt cn fis = true) (hts : ∀ w ∈ lw_all, w.before args s = true)
    {d cK : ClassId} {dk : Class} (hd : s.vm.classes[d]? = some dk) (hdn : dk.name = caller) (hmade : Lambda.isMade { classPath := fun _ => none } s.vm d σ cK = true)
    {y : MethodName} (hy : y = ⟨σ.implClass, σ.implName, σ.implDesc.toString⟩) (hmh : y.cls ≠ "java/lang/invoke/MethodHandle" ∧ y.cls ≠ "java/lang/invoke/VarHandle") {b0 : ByteArray} {m0 n N : Nat} {r0 : Option FieldType} (hcode : Cond.code y b0 m0 r0 ∈ lw_all) (hins : Cond.instantiable y.cls N ∈ lw_all) (hini : Cond.initialized y.cls ∈ lw_all) (hpar : (parseMethodDescriptor y.desc).map (fun d => d.parameters.length) = some n)
    {U : State} (hW : s.WarmedH U.vm) : ∃ (t : MethodId) (kt : Class) (metht : Method), s.methodNamed? y = some t ∧ U.methodNamed? y = some t ∧ plainRef U e cK mi ∧ U.vm.methodReady cK mi t ∧ U.vm.classes[t.cls]? = some kt ∧ s.vm.method? t = some metht ∧ U.vm.method? t = some metht ∧ signaturePolymorphic kt metht = false ∧ n = metht.sig.parameters.length ∧ kt.init = .initialized ∧
      (∀ i fi : Nat, fis[i]? = some fi → ∃ f : Field, U.vm.fieldReady cK fi cK f ∧ f.isStatic = false ∧ f.slot = i) := by
  obtain ⟨co, ko, hco, hko, -, -, -, hkz⟩ := Cond.instantiable_spec (hts _ q3563)
  obtain ⟨dk₁, hdk₁, hde₁⟩ := hW.alike.2.2 _ _ hd
  obtain ⟨ko₁, hko₁, hoe₁⟩ := hW.alike.2.2 _ _ hko
  obtain ⟨k1, tk1, file1, methk1, ck1, owner1, iface1, t1, found1, g1, g2, g3, g4, g5, g6, g7, g8, g9, g10, g11, g12, g13, g14, g15, g16, g17, g18, g19, -⟩ := made_gen hok hdk₁ (by rw [hde₁]; exact hdn) (by rw [hW.alike.findClass]; exact hco) hko₁ (by rw [hoe₁]; exact hkz) (Lambda.isMade_warmer hW hmade)
  obtain ⟨cY, kY, hcY, hkY, -, hab, -, -⟩ := Cond.instantiable_spec (hts _ hins)
  have hni : kY.isInterface = false := (Bool.or_eq_false_iff.mp hab).1
  cases hm : s.methodNamed? y with
  | none => have := hts _ hcode; simp [Cond.before, Cond.holds, Cond.value, hm] at this
  | some mT =>
  obtain ⟨methT, cT, hmethT, hcT, -, -, hretT, hlocksT, -, hsigT⟩ := Cond.code_spec hm (hts _ hcode)
  have hfT : s.vm.findClass y.cls = some mT.cls := findClass_of_methodNamed hm
  cases hcY.symm.trans hfT
  have hcl : y.cls = σ.implClass := by rw [hy]
  have hf1 : U.vm.findClass σ.implClass = some mT.cls := by rw [← hcl, hW.alike.findClass]; exact hfT
  cases g13.symm.trans hf1
  have ht1 : t1 = mT := by
    have h1 : (s.setVm U.vm).methodFound? y.cls y.name y.desc = some mT := by rw [State.methodFound?_setVm hW.alike]; exact State.methodFound?_of_named hm hmh
    have hf2 : U.vm.findClass y.cls = some mT.cls := by rw [hcl]; exact hf1
    simp only [State.methodFound?, State.vm_setVm, hf2, g14, Option.bind_eq_bind, Option.bind_some] at h1
    have h2 : ((methodIn mT.cls y.name y.desc tk1.isInterface none).ask { classPath := fun _ => none } U.vm).1 = .ok t1 := by rw [hy]; exact g15
    rw [h2] at h1
    exact Option.some.inj h1
  subst ht1
  obtain ⟨kT₁, hkT₁, heT₁⟩ := hW.alike.2.2 _ _ hkY
  cases g14.symm.trans hkT₁
  obtain ⟨kN, hkN, hnameN⟩ := className_of_methodNamed hm
  cases hkY.symm.trans hkN
  have hnm : tk1.name = y.cls := by rw [heT₁]; exact hnameN
  have hiY : kY.init = .initialized := Cond.initialized_spec hcY hkY (hts _ hini)
  have hsp : ∀ z : Method, signaturePolymorphic tk1 z = false := fun z => by simp [signaturePolymorphic, hnm, hmh.1, hmh.2]
  obtain ⟨b, hmem⟩ := memberRef_ask' (e := e) (vm := U.vm) (d := cK) (index := mi) g1 g4 (Or.inl (by rw [g5]; exact (fw_pool hok).1)) (by rw [g5]; exact (fw_pool hok).2)
  refine ⟨t1, tk1, methT, rfl, ?_, ⟨ci, _, _, b, t1.cls, tk1, hmem, g17, g14, by simp [hsp]⟩, g16, g14, hmethT, by rw [hW.alike.method?]; exact hmethT, ?_, ?_, by rw [heT₁]; exact hiY, g19⟩
  · have := State.methodNamed?_setVm (s := s) hW.alike y
    rw [hm] at this
    exact this
  · simp [signaturePolymorphic, hnm, hmh.1, hmh.2]
  · rw [hsigT] at hpar
    exact (Option.some.inj hpar).symm
section FWS
variable {p : Program} {l : Launch} {e : Env} {R : Room} {s : State} {m : MethodId} {args : Array Value} {below : List Frame} {meth : Method} {c : Code} {H : Heap} {locs : List Loc} {cells slots : Nat} {Q : State → Prop}
variable {D : va_G} {G : HG} {A0 : Nat → Prop} {tys : List (ClassId × FieldType)} {Z : (Nat → Prop) → State → Heap → Prop} {mc ms pc : Nat} {ls : Array Slot} {rest : List Value}
theorem fw_tailS {s0 : State} {args0 : Array Value} (h : fwCtx p s0 s args0 D tys Z G H) {y : MethodName} {bytes : ByteArray} {maxL index : Nat} {ret : Option FieldType} {rm : Room} {As : List Value} {post : Int32 → HG → Prop} {ty : FieldType} {cc : ByteArray}
    (hM : Met l y (ws_ y bytes maxL ret) rm (HPre D jC tys Z G As H.size) (va_Qi (fun r G' => narrow ty (.int r) = .int r ∧ post r G') (HBd D jC (hA G H.size)) (hA G H.size)) mc ms (hA G H.size)) (hrc : rm.cells = mc) (hrs : rm.slots = ms) (hfr : rm.frames + 1 ≤ R.frames) (hlo : 8 + (maxL + 11) + rm.locals ≤ R.locals)
    (hcode : Cond.code y bytes maxL ret ∈ lw_all) (hini : Cond.initialized y.cls ∈ lw_all)
    (hlink : ∀ U : State, s.WarmedH U.vm → ∃ (t : MethodId) (kt : Class) (metht : Method), U.methodNamed? y = some t ∧ plainRef U e m.cls index ∧ U.vm.methodReady m.cls index t ∧ U.vm.classes[t.cls]? = some kt ∧ U.vm.method? t = some metht ∧ signaturePolymorphic kt metht = false ∧ metht.isStatic = true ∧ kt.init = .initialized ∧ As.length = metht.sig.parameters.length)
    (hb : c.code = cc) (hls : ls.size = c.maxLocals) (hlk : meth.locks = false) (hty : meth.sig.returnType = some ty) (hdg : decode cc pc = .ok (.invokestatic index, 3)) (hdr : decode cc (pc + 3) = .ok (.ireturn, 1)) (hf : mc ≤ R.cells ∧ ms ≤ R.slots) :
    W p l e R s m args below meth c H [] 0 0 (MQ below (va_Qi post (HBd D jC (hA G H.size)) (hA G H.size)) args s mc ms (hA G H.size)) (F0 m pc ls (As.reverse ++ [])) := by
  refine fw_ki h.I (fun q hq => hq) (fw_runS (rest := []) h.1 hM (h_blind h.2.2.2.1) hrc hrs hfr hlo (fun w hw a' U hW => pay_in h.2.2.1 (lw_meth hcode) w hw a' U (h.2.1.trans hW)) List.mem_cons_self (fun a' U hW => pay_in h.2.2.1 (lw_good (ws := [Cond.initialized y.cls]) (fun w hw => by rw [List.mem_singleton.mp hw]; exact hini)) _ List.mem_cons_self a' U (h.2.1.trans hW)) (fun U hU hW => h.2.2.2.2.2.1 _ U hU hW) hlink hls (Nat.zero_le _) (by rw [hb]; exact hdg) (by rw [Nat.zero_add, Nat.zero_add]; exact hf)) (fun r G' H1 locs1 hp hI1 => ?_)
  exact W.widen (by omega) (by omega) (fw_iret (post := post) (mc := mc) (ms := ms) h.1 hb hI1 hlk hty hp.1 hp.2 hdr)
theorem fw_tailSv {s0 : State} {args0 : Array Value} (h : fwCtx p s0 s args0 D tys Z G H) {y : MethodName} {bytes : ByteArray} {maxL index : Nat} {ret : Option FieldType} {rm : Room} {As : List Value} {post : HG → Prop} {cc : ByteArray}
    (hM : Met l y (ws_ y bytes maxL ret) rm (HPre D jC tys Z G As H.size) (va_Qv post (HBd D jC (hA G H.size)) (hA G H.size)) mc ms (hA G H.size)) (hrc : rm.cells = mc) (hrs : rm.slots = ms) (hfr : rm.frames + 1 ≤ R.frames) (hlo : 8 + (maxL + 11) + rm.locals ≤ R.locals)
    (hcode : Cond.code y bytes maxL ret ∈ lw_all) (hini : Cond.initialized y.cls ∈ lw_all)
    (hlink : ∀ U : State, s.WarmedH U.vm → ∃ (t : MethodId) (kt : Class) (metht : Method), U.methodNamed? y = some t ∧ plainRef U e m.cls index ∧ U.vm.methodReady m.cls index t ∧ U.vm.classes[t.cls]? = some kt ∧ U.vm.method? t = some metht ∧ signaturePolymorphic kt metht = false ∧ metht.isStatic = true ∧ kt.init = .initialized ∧ As.length = metht.sig.parameters.length)
    (hb : c.code = cc) (hls : ls.size = c.maxLocals) (hlk : meth.locks = false) (hty : meth.sig.returnType = none) (hdg : decode cc pc = .ok (.invokestatic index, 3)) (hdr : decode cc (pc + 3) = .ok (.return_, 1)) (hf : mc ≤ R.cells ∧ ms ≤ R.slots) :
    W p l e R s m args below meth c H [] 0 0 (MQ below (va_Qv post (HBd D jC (hA G H.size)) (hA G H.size)) args s mc ms (hA G H.size)) (F0 m pc ls (As.reverse ++ [])) := by
  refine fw_kv h.I (fun q hq => hq) (fw_runS (rest := []) h.1 hM (h_blind h.2.2.2.1) hrc hrs hfr hlo (fun w hw a' U hW => pay_in h.2.2.1 (lw_meth hcode) w hw a' U (h.2.1.trans hW)) List.mem_cons_self (fun a' U hW => pay_in h.2.2.1 (lw_good (ws := [Cond.initialized y.cls]) (fun w hw => by rw [List.mem_singleton.mp hw]; exact hini)) _ List.mem_cons_self a' U (h.2.1.trans hW)) (fun U hU hW => h.2.2.2.2.2.1 _ U hU hW) hlink hls (Nat.zero_le _) (by rw [hb]; exact hdg) (by rw [Nat.zero_add, Nat.zero_add]; exact hf)) (fun G' H1 locs1 hp hI1 => ?_)
  exact W.widen (by omega) (by omega) (fw_vret (post := post) (mc := mc) (ms := ms) h.1 hb hI1 hlk hty hp hdr)
end FWS
