/-! MADE OBJECTS: making them -/
theorem lamWords {l : Launch} {e : Env} (h : l.admits e) : e.platform.lambdaLinkWords = 3072 := by
  have := h.2.2.2.2.1
  rw [this]
def lamFree (U : State) (m : MethodId) (pc : Nat) (L : Linked) : Prop := ∃ (kc : Class) (i0 p0 : Nat), U.vm.classes[m.cls]? = some kc ∧ (kc.callSites.find? fun y => y.1 == m.idx && y.2.1 == pc) = some (i0, p0, L)
/-- the k-th site is linked: to its one object, or to its class -/
def jSite (j : JX) (D : va_G) (U : State) (k : Nat) (y : MethodName) (pc index n : Nat) : Prop := ∃ m : MethodId, U.methodNamed? y = some m ∧
  ((n = 0 ∧ lamFree U m pc (.constant (j.2 k))) ∨ (0 < n ∧ lamFree U m pc (.makes (D.1 (23 + k))) ∧ (∀ i, D.2 (23 + k) i = i) ∧
    ∃ (kc : Class) (cf : ClassFile) (bsm nt : Nat) (name desc : String) (sig : MethodDescriptor) (kK : Class) (C : String), U.vm.classes[m.cls]? = some kc ∧ kc.cf = some cf ∧ cf.constantPool[index]? = some (.invokeDynamic bsm nt) ∧ cf.constantPool.nameAndType? nt = some (name, desc) ∧ parseLongMethodDescriptor desc = some sig ∧ sig.parameters.length = n ∧ U.vm.classes[D.1 (23 + k)]? = some kK ∧ kK.instanceTypes.toList = .object C :: List.replicate (n - 1) .int ∧ kK.kind = .ordinary))
def jS (j : JX) (D : va_G) (U : State) : Prop := ∀ (k : Nat) (y : MethodName) (pc index n : Nat), jSites[k]? = some (y, pc, index, n) → jSite j D U k y pc index n
theorem lam_nar (C : String) (a : Nat) : ∀ is : List Int32, (((FieldType.object C :: List.replicate is.length FieldType.int).zip (Value.ref a :: is.map Value.int)).map fun (t, v) => narrow t v) = Value.ref a :: is.map Value.int := by
  intro is
  show narrow (.object C) (.ref a) :: _ = _
  have h : ∀ is : List Int32, (((List.replicate is.length FieldType.int).zip (is.map Value.int)).map fun (t, v) => narrow t v) = is.map Value.int := by
    intro is
    induction is with
    | nil => rfl
    | cons x xs ih => exact congrArg (fun z => Value.int x :: z) ih
  exact congrArg (fun z => Value.ref a :: z) (h is)
theorem jL_map : jL = jSites.map (fun t => jL0 t.2.2.2) := rfl
theorem jK_len : jK.length = 23 := rfl
theorem jC_made {k : Nat} {y : MethodName} {pc index n : Nat} (h : jSites[k]? = some (y, pc, index, n)) : jC.2[23 + k]? = some (jL0 n) := by
  show (jK ++ jL)[23 + k]? = _
  rw [List.getElem?_append_right (by rw [jK_len]; omega), jK_len, jL_map, List.getElem?_map, show 23 + k - 23 = k by omega, h]
  rfl
theorem HMk0_of {l : Launch} {Z : (Nat → Prop) → State → Heap → Prop} {D : va_G} {j : JX} (hZ : ∀ A U H, Z A U H → jS j D U) : HMk0 l Z D j := by
  intro k y pc index hk p e R s m args below meth c cc nL A0 H locs cells slots Q ls rest G X hI hnd hls hroom hdg hlo K
  obtain ⟨m', hm', h | h⟩ := hZ _ _ _ X.2.2.2.2.2.2.2.2.1 k y pc index 0 hk
  · cases hm'.symm.trans hnd
    obtain ⟨-, kc, i0, p0, h1, h2⟩ := h
    intro T hT XX
    obtain ⟨t, a1, b1⟩ := K T hT XX
    exact ⟨t, XX.lambdaConstant X.1 (g := F0 m pc ls rest) rfl (by rw [X.2.2.1]; exact hls) (by rw [X.2.1]; exact hdg) h1 h2 (by rw [lamWords XX.admits]; show 2 * 0 + (rest.map fun v => v.category).sum + _ ≤ _; omega) a1, b1⟩
  · exact absurd h.1 (Nat.lt_irrefl 0)
theorem HMk1_of {l : Launch} {Z : (Nat → Prop) → State → Heap → Prop} {D : va_G} {j : JX} (hZ : ∀ A U H, Z A U H → jS j D U) : HMk1 l Z D j := by
  intro k y pc index a is hk p e R s m args below meth c cc nL A0 H locs cells slots Q ls rest G K X hI hnd hls hroom hdg hlo hc1 hs1 hmk kk
  obtain ⟨m', hm', h | h⟩ := hZ _ _ _ X.2.2.2.2.2.2.2.2.1 k y pc index _ hk
  · exact absurd h.1 (Nat.succ_ne_zero _)
  · cases hm'.symm.trans hnd
    obtain ⟨-, ⟨kc, i0, p0, h1, h2⟩, hid, kc', cf, bsm, nt, name, desc, sig, kK, C, g1, g2, g3, g4, g5, g6, g7, g8, g9⟩ := h
    cases h1.symm.trans g1
    rw [show is.length + 1 - 1 = is.length by omega] at g8
    have hnar : ((kK.instanceTypes.toList.zip (Value.ref a :: is.map Value.int)).map fun (t, v) => narrow t v) = Value.ref a :: is.map Value.int := by rw [g8]; exact lam_nar C a is
    have hlen : (Value.ref a :: is.map Value.int).length = is.length + 1 := by simp
    have h34 : is.length + 1 ≤ 100 := by
      have hb : ∀ t ∈ jSites, t.2.2.2 ≤ 100 := by decide +kernel
      exact hb _ (List.mem_of_getElem? hk)
    have hsum : ((Value.ref a :: is.map Value.int).reverse.map fun v => v.category).sum = is.length + 1 := by
      rw [List.map_reverse, List.sum_reverse]
      show (1 + ((is.map Value.int).map fun v => v.category).sum) = _
      have : ∀ is : List Int32, ((is.map Value.int).map fun v => v.category).sum = is.length := by
        intro is
        induction is with
        | nil => rfl
        | cons x xs ih => rw [List.map_cons, List.map_cons, List.sum_cons, ih, List.length_cons]; show 1 + xs.length = xs.length + 1; omega
      rw [this]
      omega
    intro T hT XX
    obtain ⟨X', st⟩ := XX.lambdaMakes X.1 (g := F0 m pc ls ((Value.ref a :: is.map Value.int).reverse ++ rest)) rfl (by rw [X.2.2.1]; exact hls) (by rw [X.2.1]; exact hdg) h1 h2 g2 g3 g4 g5 (by rw [hlen, g6]) rfl g7
      (by rw [lamWords XX.admits]; show 2 * 0 + (((Value.ref a :: is.map Value.int).reverse ++ rest).map fun v => v.category).sum + _ ≤ _; rw [List.map_append, List.sum_append, hsum]; omega) hc1 (by rw [hnar, hlen]; exact hs1)
      (fun i v hv => by
        rw [hnar] at hv
        have hcell : ∃ t, kK.instanceTypes[i]? = some t ∧ fits t v = true := by
          have hz : (Value.ref a :: is.map Value.int)[i]? = some v := by simpa using hv
          have ht : kK.instanceTypes[i]? = (FieldType.object C :: List.replicate is.length FieldType.int)[i]? := by rw [← g8]; simp
          rw [ht]
          cases i with
          | zero => cases hz; exact ⟨_, rfl, rfl⟩
          | succ i =>
            have hz' : (is.map Value.int)[i]? = some v := hz
            rw [List.getElem?_map] at hz'
            cases hi : is[i]? with
            | none => rw [hi] at hz'; cases hz'
            | some x =>
              rw [hi] at hz'
              cases hz'
              have hlt : i < is.length := (List.getElem?_eq_some_iff.mp hi).1
              exact ⟨.int, by show (List.replicate is.length FieldType.int)[i]? = _; rw [List.getElem?_replicate, if_pos hlt], rfl⟩
        obtain ⟨t, ht, hf⟩ := hcell
        simp [State.fitsSlot, State.slotType?, g7, g9, ht, hf])
    rw [hnar] at X' st
    have hsz : (Value.ref a :: is.map Value.int).toArray.size = is.length + 1 := by simp
    rw [hsz] at X'
    have e1 := Array.getElem?_push_size (xs := H) (x := ({ cls := D.1 (23 + k), slots := (Value.ref a :: is.map Value.int).toArray, vm := .none } : Cell))
    generalize hcl : ({ cls := D.1 (23 + k), slots := (Value.ref a :: is.map Value.int).toArray, vm := .none } : Cell) = cell at X' st e1
    generalize hH1 : H.push cell = H1 at e1
    have o1 : ∀ q : Nat, q < H.size → H1[q]? = H[q]? := fun q hq => by rw [← hH1, Array.getElem?_push, if_neg (Nat.ne_of_lt hq)]
    have z1 : H.size ≤ H1.size := by rw [← hH1, Array.size_push]; omega
    have hat : va_at D jC.2 (H.size, .inr (23 + k, Value.ref a :: is.map Value.int)) H1 := by
      refine ⟨jL0 (is.length + 1), jC_made hk, cell, e1, by rw [← hcl], by rw [← hcl], fun i hi => ?_⟩
      have hi' : i < is.length + 1 := hi
      rw [hid i, ← hcl]
      show (Value.ref a :: is.map Value.int).toArray[i]? = some ((Value.ref a :: is.map Value.int).getD i .null)
      rw [List.getElem?_toArray, List.getD_eq_getElem?_getD]
      rw [List.getElem?_eq_getElem (by rw [hlen]; exact hi')]
      rfl
    obtain ⟨t, b1, b2⟩ := kk H.size _ H1 (hmk H.size hI.fresh _ rfl) (hI.push X.2.2.2.2.2.2.1 hat o1 z1) (T.pushCell cell) (by rw [← hH1, ← hT]; rfl) X'
    refine ⟨t, st t ?_, b2⟩
    rw [hT]
    exact b1
