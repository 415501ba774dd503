/-! SYSTEM ROWS III: private members of a superclass; clones of byte rows -/
section HSYS3
variable {p : Program} {l : Launch} {e : Env} {R : Room} {s : State} {m : MethodId} {args : Array Value} {below : List Frame} {meth : Method} {c : Code} {H : Heap} {locs : List Loc} {cells slots : Nat} {Q : State → Prop}
variable {cc : ByteArray} {nL : Nat} {own : String} {D : va_G} {A0 : Nat → Prop} {Z : (Nat → Prop) → State → Heap → Prop} {G : HG} {pc : Nat} {ls : Array Slot} {rest : List Value} {a : Nat} {j : JX} {Λ : JLam} {fr lo : Nat}
theorem selP {C : String} {c0 : ClassId} {y : MethodName} {s : State} {args : Array Value} (hC : s.vm.findClass C = some c0) (hy : y.cls ≠ "java/lang/invoke/MethodHandle" ∧ y.cls ≠ "java/lang/invoke/VarHandle") (hpriv : (Cond.privateMethod y).before args s = true) (hinst : (Cond.instanceMethod y).before args s = true) (hsame : (Cond.sameMethod y.cls y.cls y.name y.desc).before args s = true) :
    (Cond.selects C y y).before args s = true := by
  obtain ⟨mk, methM, hnamed, hmethM, -, -⟩ := Cond.instanceMethod_spec hinst
  have hfound : s.methodFound? y.cls y.name y.desc = some mk := State.methodFound?_of_named hnamed hy
  have hsel : selectMethod {} s.vm c0 mk = .method mk := selectMethod_private hmethM (Cond.privateMethod_at hpriv mk methM hnamed hmethM)
  have hcls : s.vm.findClass y.cls = some mk.cls := findClass_of_methodNamed hnamed
  have hni : (s.vm.classes[mk.cls]?).any (fun k => !k.isInterface) = true := by
    simp only [Cond.before, Cond.holds, Cond.value, hcls, hfound, hnamed] at hsame
    simpa using hsame
  simp only [Cond.before, Cond.holds, Cond.value, hC, hfound, hnamed, hsel]
  simpa using hni
/-- a private member of the superclass, on an object of C -/
theorem cwP {R : Room} {s : State} {args : Array Value} {own C : String} {c0 : ClassId} {index : Nat} {y : MethodName} {bytes : ByteArray} {maxL mc ms : Nat} {ret : Option FieldType} {rm : Room} (n : Nat) (hC : s.vm.findClass C = some c0) (ht : ∀ w ∈ lw_all, w.before args s = true) (h1 : Cond.methodLink own index y ∈ lw_all) (h6 : Cond.sameMethod y.cls y.cls y.name y.desc ∈ lw_all) (hpr : va_Nw (.privateMethod y) s) (h5 : Cond.instanceMethod y ∈ lw_all) (h3 : Cond.initialized y.cls ∈ lw_all) (h4 : Cond.code y bytes maxL ret ∈ lw_all) (hrc : rm.cells = mc) (hrs : rm.slots = ms)
    (hd : y.cls ≠ "java/lang/invoke/MethodHandle" ∧ y.cls ≠ "java/lang/invoke/VarHandle" ∧ (parseMethodDescriptor y.desc).map (fun d => d.parameters.length) = some n) (hR : rm.frames + 1 ≤ R.frames ∧ 8 + (maxL + 11) + rm.locals ≤ R.locals) : va_CU R s args own C y.cls index y y bytes maxL ret (ws_ y bytes maxL ret) rm mc ms n := by
  have hG : GoodIn lw_all (ws_ y bytes maxL ret) := lw_meth h4
  have hc : Cond.code y bytes maxL ret ∈ ws_ y bytes maxL ret := List.mem_cons_self
  refine ⟨⟨hrc, hrs, hR.1, hR.2, pay_in ht hG, hc⟩, ht _ h4, ht _ h3, ⟨hd.1, hd.2.1⟩, fun sig h => ?_, ht _ h1, ht _ h6, va_Decl.of (ht _ h5) (ht _ h4), selP hC ⟨hd.1, hd.2.1⟩ (va_Nw.use rfl hpr) (ht _ h5) (ht _ h6), ht _ h5⟩
  have h2 := hd.2.2
  rw [h] at h2
  exact (Option.some.inj h2).symm
/-- an overriding member: what the reference names is another's code -/
theorem cwOv {R : Room} {s : State} {args : Array Value} {own C owner : String} {index : Nat} {x y : MethodName} {bytes : ByteArray} {maxL mc ms : Nat} {ret : Option FieldType} {rm : Room} (n : Nat) (ht : ∀ w ∈ lw_all, w.before args s = true) (h1 : Cond.methodLink own index x ∈ lw_all) (h6 : Cond.sameMethod x.cls owner x.name x.desc ∈ lw_all) (h7 : Cond.instanceMethod ⟨owner, x.name, x.desc⟩ ∈ lw_all) (h2 : Cond.selects C x y ∈ lw_all) (h5 : Cond.instanceMethod y ∈ lw_all) (h3 : Cond.initialized y.cls ∈ lw_all) (h4 : Cond.code y bytes maxL ret ∈ lw_all) {b0 : ByteArray} {m0 : Nat} {r0 : Option FieldType} (h0 : Cond.code ⟨owner, x.name, x.desc⟩ b0 m0 r0 ∈ lw_all) (hrc : rm.cells = mc) (hrs : rm.slots = ms)
    (hd : owner ≠ "java/lang/invoke/MethodHandle" ∧ owner ≠ "java/lang/invoke/VarHandle" ∧ (parseMethodDescriptor x.desc).map (fun d => d.parameters.length) = some n) (hR : rm.frames + 1 ≤ R.frames ∧ 8 + (maxL + 11) + rm.locals ≤ R.locals) : va_CU R s args own C owner index x y bytes maxL ret (ws_ y bytes maxL ret) rm mc ms n := by
  refine va_cwO n ht ?_ rfl hrc hrs h0 hd hR
  refine lw_app ?_ (lw_meth h4)
  intro w hw
  simp only [List.mem_cons, List.not_mem_nil, or_false] at hw
  rcases hw with e | e | e | e | e | e
  · rw [e]; exact h1
  · rw [e]; exact h6
  · rw [e]; exact h7
  · rw [e]; exact h2
  · rw [e]; exact h5
  · rw [e]; exact h3
/-- a clone of a row of bytes -/
def clB (G : HG) (a : Nat) (cA : ClassId) (mc ms : Nat) (K : Nat → Nat → HG → Prop) : Prop := ∃ (b : Bool) (n : Nat) (f : Nat → Int32), G a = some (b, .inl (cA, n, .inl f)) ∧ (∀ i, i < n → fits .byte (.int (f i)) = true) ∧ 1 ≤ mc ∧ n ≤ ms ∧ mkO G (.inl (cA, n, .inl f)) (K n)
theorem hr_clB (E : JE l Z D j Λ fr lo) (X : XC p s m args meth c cc nL own D jC (jty j.1) A0 Z) (hI : HI D jC G A0 s.heap H locs) {index mc ms : Nat} {K : Nat → Nat → HG → Prop} (h : clB G a (j.1 2) mc ms K) (hq : Cond.methodLink own index ⟨"[B", "clone", "()Ljava/lang/Object;"⟩ ∈ lw_all) (hls : ls.size = nL) (hroom : (rest.map fun v => v.category).sum ≤ 8) (hf : 1 ≤ R.frames ∧ 40 ≤ R.locals) (hcells : cells + mc ≤ R.cells) (hslots : slots + ms ≤ R.slots) (hw1 : Cond.sameMethod "[B" "java/lang/Object" "clone" "()Ljava/lang/Object;" ∈ lw_all) (hw2 : Cond.native ⟨"java/lang/Object", "clone", "()Ljava/lang/Object;"⟩ ∈ lw_all) (hw3 : Cond.instanceMethod ⟨"java/lang/Object", "clone", "()Ljava/lang/Object;"⟩ ∈ lw_all) (hw4 : Cond.selects "[B" ⟨"[B", "clone", "()Ljava/lang/Object;"⟩ ⟨"java/lang/Object", "clone", "()Ljava/lang/Object;"⟩ ∈ lw_all) (hw5 : Cond.castable "[B" "java/lang/Cloneable" ∈ lw_tbl) (hdg : decode cc pc = .ok (.invokevirtual index, 3))
    (kk : ∀ (n q : Nat) (G' : HG) (H1 : Heap), 1 ≤ mc → n ≤ ms → K n q G' → HI D jC G' A0 s.heap H1 locs → W p l e R s m args below meth c H1 locs (cells + 1) (slots + n) Q (F0 m (pc + 3) ls (.ref q :: rest))) : W p l e R s m args below meth c H locs cells slots Q (F0 m pc ls (.ref a :: rest)) := by
  obtain ⟨b, n, f, ha, hfit, h1, h2, hk⟩ := h
  have hra := (X.2.2.2.2.2.1.2 2 _ (show (jty j.1)[2]? = some (j.1 2, .byte) from rfl)).2
  have hnm : s.vm.findClass "[B" = some (j.1 2) := hra
  have hcell : H[a]? = some (vp_cell (j.1 2) (n, .inl f)) := (hI.1 a b _ ha).1
  obtain ⟨c0, t0', f1, f2, f3⟩ := Cond.castable_spec (va_Nw.use (A := args) rfl (E.nw X hw5 rfl))
  cases hnm.symm.trans f1
  intro T hT XX
  have hcellT : T.heap[a]? = some (vp_cell (j.1 2) (n, .inl f)) := by rw [hT]; exact hcell
  obtain ⟨-, kA, hkA, comp, hkind⟩ := State.isArrayOf_alike XX.warmed.alike ((X.2.2.2.2.2.1.2 2 _ (show (jty j.1)[2]? = some (j.1 2, .byte) from rfl)).1 0 (fun _ => .null))
  obtain ⟨-, kS, hkS, compS, hkindS⟩ := (X.2.2.2.2.2.1.2 2 _ (show (jty j.1)[2]? = some (j.1 2, .byte) from rfl)).1 0 (fun _ => .null)
  have hsz : (vp_cell (j.1 2) (n, .inl f)).slots.size = n := arrV_size _ _ _
  obtain ⟨vm', X', st⟩ := XX.cloneArray X.1 X.2.2.2.1 (X.2.2.2.2.1 _ hq) (X.2.2.2.2.1 _ hw1) (X.2.2.2.2.1 _ hw2) (X.2.2.2.2.1 _ hw3) (X.2.2.2.2.1 _ hw4) (a := a) (cell := vp_cell (j.1 2) (n, .inl f)) hcellT (fun k h => by cases h) (fun h => by cases h) hnm f2 f3
    (fun i v hv => by
      have hk' : T.vm.classes[j.1 2]? = some kA := hkA
      have hv' := va_fit (cA := j.1 2) (n := n) (F := fun j => .int (f j)) (ty := .byte) hfit i v hv
      have hcl0 : (vp_cell (j.1 2) (n, .inl f)).cls = j.1 2 := rfl
      rw [hcl0]
      simpa [State.fitsSlot, State.slotType?, hk', hkind] using hv')
    (g := F0 m pc ls (.ref a :: rest)) rfl (by rw [X.2.2.1]; exact hls) rfl (by rw [X.2.1]; exact hdg) hf.1 (by show 2 * 0 + _ + 14 ≤ _; omega) (by omega) (by rw [hsz]; omega) (hloader := Vm.clonesLoader_of_array hkS hkindS)
  rw [hsz] at X'
  have e1 := Array.getElem?_push_size (xs := H) (x := vp_cell (j.1 2) (n, .inl f))
  generalize hH1 : H.push (vp_cell (j.1 2) (n, .inl f)) = H1 at e1
  have o1 : ∀ q : Nat, q < H.size → H1[q]? = H[q]? := fun q hq => by rw [← hH1, Array.getElem?_push, if_neg (Nat.ne_of_lt hq)]
  have z1 : H.size ≤ H1.size := by rw [← hH1, Array.size_push]; omega
  obtain ⟨t, b1, b2⟩ := kk n H.size _ H1 h1 h2 (hk H.size hI.fresh _ rfl) (hI.push X.2.2.2.2.2.2.1 e1 o1 z1)
    ((T.setVm vm').pushCell (vp_cell (j.1 2) (n, .inl f))) (by rw [← hH1, ← hT]; rfl) X'
  refine ⟨t, st t ?_, b2⟩
  rw [hT]
  exact b1
end HSYS3
