/-! MADE OBJECTS: what their classes are -/
def fwD : ClassFile := { minorVersion := 0, majorVersion := 0, constantPool := #[], accessFlags := 0, thisClass := 0, superClass := 0, interfaces := #[], fields := #[], methods := #[], attributes := #[] }
def fwF (σ : Lambda.Shape) (caller : String) : ClassFile := (σ.file caller).getD fwD
def fwM (D : ClassFile) : Method := ((layoutMethods D).bind (·[1]?)).getD default
def fwL (D : ClassFile) : Array Field × Array FieldType × Array FieldType := (layoutFields D 0).getD (#[], #[], #[])
/-- the i-th value taken along stands in the i-th field, named by the entry fi -/
def fwFld (D : ClassFile) (fi i : Nat) : Bool := match D.constantPool[fi]? with
  | some (.fieldref _ b) => match D.constantPool.nameAndType? b with
    | some (nm, _) => decide ((fwL D).1.findIdx? (fun f => f.name == nm) = some i) && decide (((fwL D).1[i]?).map (fun f => (f.slot, f.isStatic)) = some (i, false))
    | none => false
  | _ => false
def fwOk (σ : Lambda.Shape) (caller : String) (bytes : List UInt8) (ml : Nat) (rt : Option FieldType) (mi ci nt cn : Nat) (fis : List Nat) : Bool :=
  let D := fwF σ caller
  (σ.file caller).isSome && ((layoutMethods D).bind (·[1]?)).isSome && decide ((fwM D).code.map (fun c => (c.code.data.toList, c.maxLocals)) = some (bytes, ml)) && decide (((fwM D).accessFlags, (fwM D).sig.returnType) = (1, rt)) && (layoutFields D 0).isSome &&
  decide (D.constantPool[mi]? = some (.methodref ci nt)) && decide (D.constantPool.className? ci = some σ.implClass) && decide (D.constantPool.nameAndType? nt = some (σ.implName, σ.implDesc.toString)) && decide (D.constantPool[ci]? = some (.class_ cn)) && decide (D.constantPool.string? cn = some σ.implClass) && decide (ci ≠ D.thisClass) &&
  (fis.zipIdx.all fun x => fwFld D x.1 x.2)
theorem fw_sub {C : Prop} {b c : Bool} (h : (b && c) = true) (k : b = true → c = true → C) : C := by
  rw [Bool.and_eq_true] at h
  exact k h.1 h.2
theorem made_gen {σ : Lambda.Shape} {caller : String} {bytes : List UInt8} {ml : Nat} {rt : Option FieldType} {mi ci nt cn : Nat} {fis : List Nat} (hok : fwOk σ caller bytes ml rt mi ci nt cn fis = true)
    {e : Setting} {vm : Vm} {d c : ClassId} {dk : Class} (hd : vm.classes[d]? = some dk) (hname : dk.name = caller) {co : ClassId} {ko : Class} (ho : vm.findClass "java/lang/Object" = some co) (hko : vm.classes[co]? = some ko) (hz : ko.instanceTypes.size = 0) (h : Lambda.isMade e vm d σ c = true) :
    ∃ (k tk : Class) (file : ClassFile) (methk : Method) (ck : Code) (owner iface : ClassId) (t found : MethodId),
      vm.classes[c]? = some k ∧ k.name = caller ++ "$$Lambda" ∧ k.kind = .ordinary ∧ k.cf = some file ∧ file.constantPool = (fwF σ caller).constantPool ∧
      vm.method? ⟨c, 1⟩ = some methk ∧ methk.code = some ck ∧ ck.code.data.toList = bytes ∧ ck.maxLocals = ml ∧ methk.locks = false ∧ methk.accessFlags = 1 ∧ methk.sig.returnType = rt ∧
      vm.findClass σ.implClass = some owner ∧ vm.classes[owner]? = some tk ∧ ((methodIn owner σ.implName σ.implDesc.toString tk.isInterface none).ask e vm).1 = .ok t ∧
      vm.methodReady c mi t ∧ vm.classReady c ci owner ∧ k.instanceTypes = (fwL (fwF σ caller)).2.1 ∧
      (∀ i fi : Nat, fis[i]? = some fi → ∃ f : Field, vm.fieldReady c fi c f ∧ f.isStatic = false ∧ f.slot = i) ∧
      vm.findClass σ.iface = some iface ∧ ((methodIn iface σ.name σ.sam.toString true none).ask e vm).1 = .ok found ∧ selectMethod {} vm c found = .method ⟨c, 1⟩ := by
  unfold fwOk at hok
  simp only [Bool.and_eq_true, decide_eq_true_eq] at hok
  obtain ⟨⟨⟨⟨⟨⟨⟨⟨⟨⟨⟨p1, p2⟩, p3⟩, p4⟩, p5⟩, p6⟩, p7⟩, p8⟩, p9⟩, p10⟩, p11⟩, p12⟩ := hok
  obtain ⟨dk', k, ok, tk, file, cf, object, iface, owner, lay, methods, target, found, hd', hk, hfile, hcf, hob, hif, hok', hlay, hms, ht, htk, hg, hf, hrec, -, -, -, -, hpool, hmeth, hfld, hty, hres, hsel⟩ := Lambda.isMade_spec h
  cases hd.symm.trans hd'
  cases ho.symm.trans hob
  cases hko.symm.trans hok'
  rw [hname] at hcf
  have hD : cf = fwF σ caller := by unfold fwF; rw [hcf]; rfl
  subst hD
  rw [hz] at hlay
  have hL : lay = fwL (fwF σ caller) := by unfold fwL; rw [hlay]; rfl
  subst hL
  obtain ⟨fw, hfw⟩ := Option.isSome_iff_exists.mp p2
  have hM : fw = fwM (fwF σ caller) := by unfold fwM; rw [hfw]; rfl
  rw [hms] at hfw
  have hfw' : methods[1]? = some fw := hfw
  subst hM
  obtain ⟨b, hb, hsame⟩ := hmeth 1 _ hfw'
  simp only [Lambda.sameMethod, Bool.and_eq_true, decide_eq_true_eq] at hsame
  obtain ⟨⟨hn, -, hsig, hfl⟩, hcode⟩ := hsame
  simp only [Prod.mk.injEq] at p4
  cases hfc : (fwM (fwF σ caller)).code with
  | none => rw [hfc] at p3; cases p3
  | some x =>
    cases hbc : b.code with
    | none => simp [hfc, hbc] at hcode
    | some y =>
      simp only [hfc, hbc, Bool.and_eq_true, decide_eq_true_eq] at hcode
      simp only [hfc, Option.map_some, Option.some.injEq, Prod.mk.injEq] at p3
      have hko0 : ko.instanceTypes = #[] := Array.eq_empty_of_size_eq_zero hz
      refine ⟨k, tk, file, b, y, owner, iface, target, found, hk, by rw [hrec.1, hname], hrec.2.1, hfile, hpool.2.1, by simp [Vm.method?, hk, hb], hbc, ?_, by rw [← hcode.1.1.1.1.2.1]; exact p3.2, ?_, by rw [← hfl]; exact p4.1, by rw [← hsig]; exact p4.2, ht, htk, hg,
        ⟨k, hk, hres mi _ (Lambda.resolvedOf_method p6 p7 ht htk p8 hg)⟩, ⟨k, hk, hres ci _ (Lambda.resolvedOf_class p9 p11 p10 ht)⟩, by rw [hty.1, hko0]; simp, ?_, hif, hf, hsel⟩
      · rw [← hcode.1.1.1.1.2.2]
        exact p3.1
      · simp [Method.locks, Method.isSynchronized, ← hfl, p4.1, hasFlag, Acc.synchronized]
      · intro i fi hfi
        have hz1 := List.all_eq_true.mp p12 (fi, i) (by rw [List.mem_zipIdx_iff_getElem?]; simpa using hfi)
        unfold fwFld at hz1
        dsimp only at hz1
        split at hz1
        · rename_i a1 b1 hc1
          split at hz1
          · rename_i nm ds hn1
            rw [Bool.and_eq_true, decide_eq_true_eq, decide_eq_true_eq] at hz1
            obtain ⟨z1, z2⟩ := hz1
            cases hl : (fwL (fwF σ caller)).1[i]? with
            | none => rw [hl] at z2; cases z2
            | some f =>
              rw [hl] at z2
              simp only [Option.map_some, Option.some.injEq, Prod.mk.injEq] at z2
              exact ⟨f, ⟨k, i, k, hk, hres fi _ (Lambda.resolvedOf_field hc1 hn1 z1), hk, hfld i f hl⟩, z2.2, z2.1⟩
          · cases hz1
        · cases hz1
def jShOf (w : Cond) : Option Lambda.Shape := match w with
  | .lambdaSite _ _ _ sh => some sh
  | _ => none
