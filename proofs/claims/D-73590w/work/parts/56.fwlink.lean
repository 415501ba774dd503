/-! MADE OBJECTS: what a forwarder's call finds -/
theorem fw_pool {σ : Lambda.Shape} {caller : String} {bytes : List UInt8} {ml : Nat} {rt : Option FieldType} {mi ci nt cn : Nat} {fis : List Nat} (hok : fwOk σ caller bytes ml rt mi ci nt cn fis = true) : (fwF σ caller).constantPool[mi]? = some (.methodref ci nt) ∧ (fwF σ caller).constantPool.nameAndType? nt = some (σ.implName, σ.implDesc.toString) := by
  unfold fwOk at hok
  simp only [Bool.and_eq_true, decide_eq_true_eq] at hok
  obtain ⟨⟨⟨⟨⟨⟨⟨⟨⟨⟨⟨p1, p2⟩, p3⟩, p4⟩, p5⟩, p6⟩, p7⟩, p8⟩, p9⟩, p10⟩, p11⟩, p12⟩ := hok
  exact ⟨p6, p8⟩
/-- in any warmer state: the class of the object, its forwarder's entries, the member -/
theorem fw_link {l : Launch} {e : Env} {s : State} {args : Array Value} {σ : Lambda.Shape} {caller : String} {bytes : List UInt8} {ml : Nat} {rt : Option FieldType} {mi ci nt cn : Nat} {fis : List Nat} (hok : fwOk σ caller bytes ml rt mi ci nt cn fis = true) (hts : ∀ w ∈ lw_all, w.before args s = true)
    {d cK : ClassId} {dk : Class} (hd : s.vm.classes[d]? = some dk) (hdn : dk.name = caller) (hmade : Lambda.isMade { classPath := fun _ => none } s.vm d σ cK = true)
    {y : MethodName} (hy : y = ⟨σ.implClass, σ.implName, σ.implDesc.toString⟩) (hmh : y.cls ≠ "java/lang/invoke/MethodHandle" ∧ y.cls ≠ "java/lang/invoke/VarHandle") {b0 : ByteArray} {m0 n N : Nat} {r0 : Option FieldType} (hcode : Cond.code y b0 m0 r0 ∈ lw_all) (hins : Cond.instantiable y.cls N ∈ lw_all) (hpar : (parseMethodDescriptor y.desc).map (fun d => d.parameters.length) = some n)
    {U : State} (hW : s.WarmedH U.vm) : ∃ (t : MethodId) (kt : Class) (metht : Method), s.methodNamed? y = some t ∧ U.methodNamed? y = some t ∧ namesAClass U cK mi ∧ U.vm.methodReady cK mi t ∧ U.vm.classes[t.cls]? = some kt ∧ s.vm.method? t = some metht ∧ U.vm.method? t = some metht ∧ signaturePolymorphic kt metht = false ∧ n = metht.sig.parameters.length ∧ kt.isInterface = false ∧
      (∀ i fi : Nat, fis[i]? = some fi → ∃ f : Field, U.vm.fieldReady cK fi cK f ∧ f.isStatic = false ∧ f.slot = i) := by
  obtain ⟨co, ko, hco, hko, -, -, -, hkz⟩ := Cond.instantiable_spec (hts _ q3563)
  obtain ⟨dk₁, hdk₁, hde₁⟩ := hW.alike.2.2 _ _ hd
  obtain ⟨ko₁, hko₁, hoe₁⟩ := hW.alike.2.2 _ _ hko
  obtain ⟨k1, tk1, file1, methk1, ck1, owner1, iface1, t1, found1, g1, g2, g3, g4, g5, g6, g7, g8, g9, g10, g11, g12, g13, g14, g15, g16, g17, g18, g19, -⟩ := made_gen hok hdk₁ (by rw [hde₁]; exact hdn) (by rw [hW.alike.findClass]; exact hco) hko₁ (by rw [hoe₁]; exact hkz) (Lambda.isMade_warmer hW hmade)
  obtain ⟨cY, kY, hcY, hkY, -, hab, -, -⟩ := Cond.instantiable_spec (hts _ hins)
  have hni : kY.isInterface = false := (Bool.or_eq_false_iff.mp hab).1
  cases hm : s.methodNamed? y with
  | none => have := hts _ hcode; simp [Cond.before, Cond.holds, Cond.value, hm] at this
  | some mT =>
  obtain ⟨methT, cT, hmethT, hcT, -, -, hretT, hlocksT, -, hsigT⟩ := Cond.code_spec hm (hts _ hcode)
  have hfT : s.vm.findClass y.cls = some mT.cls := findClass_of_methodNamed hm
  cases hcY.symm.trans hfT
  have hcl : y.cls = σ.implClass := by rw [hy]
  have hf1 : U.vm.findClass σ.implClass = some mT.cls := by rw [← hcl, hW.alike.findClass]; exact hfT
  cases g13.symm.trans hf1
  have ht1 : t1 = mT := by
    have h1 : (s.setVm U.vm).methodFound? y.cls y.name y.desc = some mT := by rw [State.methodFound?_setVm hW.alike]; exact State.methodFound?_of_named hm hmh
    have hf2 : U.vm.findClass y.cls = some mT.cls := by rw [hcl]; exact hf1
    simp only [State.methodFound?, State.vm_setVm, hf2, g14, Option.bind_eq_bind, Option.bind_some] at h1
    have h2 : ((methodIn mT.cls y.name y.desc tk1.isInterface none).ask { classPath := fun _ => none } U.vm).1 = .ok t1 := by rw [hy]; exact g15
    rw [h2] at h1
    exact Option.some.inj h1
  subst ht1
  obtain ⟨kT₁, hkT₁, heT₁⟩ := hW.alike.2.2 _ _ hkY
  cases g14.symm.trans hkT₁
  obtain ⟨kN, hkN, hnameN⟩ := className_of_methodNamed hm
  cases hkY.symm.trans hkN
  have hnm : tk1.name = y.cls := by rw [heT₁]; exact hnameN
  refine ⟨t1, tk1, methT, rfl, ?_, ⟨k1, file1, ci, nt, t1.cls, tk1, g1, g4, by rw [g5]; exact (fw_pool hok).1, g17, g14, by rw [heT₁]; exact hni⟩, g16, g14, hmethT, by rw [hW.alike.method?]; exact hmethT, ?_, ?_, by rw [heT₁]; exact hni, g19⟩
  · have := State.methodNamed?_setVm (s := s) hW.alike y
    rw [hm] at this
    exact this
  · simp [signaturePolymorphic, hnm, hmh.1, hmh.2]
  · rw [hsigT] at hpar
    exact (Option.some.inj hpar).symm
