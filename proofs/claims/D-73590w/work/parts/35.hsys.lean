/-! SYSTEM ROWS: copies of arrays, tests of kind, calls of inherited and overriding members -/
section HSYS
variable {p : Program} {l : Launch} {e : Env} {R : Room} {s : State} {m : MethodId} {args : Array Value} {below : List Frame} {meth : Method} {c : Code} {H : Heap} {locs : List Loc} {cells slots : Nat} {Q : State → Prop}
variable {cc : ByteArray} {nL : Nat} {own : String} {D : va_G} {A0 : Nat → Prop} {Z : (Nat → Prop) → State → Heap → Prop} {G : HG} {pc : Nat} {ls : Array Slot} {rest : List Value} {a : Nat} {j : JX} {Λ : JLam} {fr lo : Nat}
theorem h_nn : ∀ z : Int32, ¬ z < 0 → z.toInt = (z.toNatClampNeg : Int) := by
  intro z hz
  have hz0 : (0 : Int) ≤ z.toInt := by
    have := Int32.not_lt.mp hz
    simpa using Int32.le_iff_toInt_le.mp this
  show z.toInt = ((z.toInt.toNat : Nat) : Int)
  omega

def cpI (ty : FieldType) (G : HG) (a0 : Nat) (cA : ClassId) (sp : Int32) (a : Nat) (dp n : Int32) (K : HG → Prop) : Prop := ∃ (b : Bool) (n0 n1 : Nat) (f g : Nat → Int32), G a0 = some (b, .inl (cA, n0, .inl (f))) ∧ G a = some (true, .inl (cA, n1, .inl (g))) ∧ ¬ sp < 0 ∧ ¬ dp < 0 ∧ ¬ n < 0 ∧ sp.toNatClampNeg + n.toNatClampNeg ≤ n0 ∧ dp.toNatClampNeg + n.toNatClampNeg ≤ n1 ∧ (∀ i, i < n.toNatClampNeg → fits ty (.int (f (sp.toNatClampNeg + i))) = true) ∧ ∀ G' : HG, G' = hup G a (true, .inl (cA, n1, .inl (va_cpy f g sp.toNatClampNeg dp.toNatClampNeg n.toNatClampNeg))) → K G'
theorem hr_cpI (E : JE l Z D j Λ fr lo) (X : XC p s m args meth c cc nL own D jC (jty j.1) A0 Z) (hI : HI D jC G A0 s.heap H locs) (t0 : Nat) {cA : ClassId} {ty : FieldType} (ht : (jty j.1)[t0]? = some (cA, ty)) (hprim : refKind ty = false) {a0 : Nat} {sp dp n : Int32} {K : HG → Prop} (h : cpI ty G a0 cA sp a dp n K) {index : Nat} (hq : Cond.methodLink own index arraycopyName ∈ lw_all) (hls : ls.size = nL) (hroom : (rest.map fun v => v.category).sum ≤ 8) (hf : 1 ≤ R.frames ∧ 40 ≤ R.locals) (hdg : decode cc pc = .ok (.invokestatic index, 3))
    (kk : ∀ (G' : HG) (H1 : Heap) (locs1 : List Loc), K G' → HI D jC G' A0 s.heap H1 locs1 → W p l e R s m args below meth c H1 locs1 cells slots Q (F0 m (pc + 3) ls rest)) : W p l e R s m args below meth c H locs cells slots Q (F0 m pc ls (.int n :: .int dp :: .ref a :: .int sp :: .ref a0 :: rest)) := by
  obtain ⟨b, n0, n1, f, g, ha0, ha1, h1, h2, h3, h4, h5, hfit, hk⟩ := h
  intro T hT XX
  have hc0 : H[a0]? = some (vp_cell cA (n0, .inl (f))) := (hI.1 a0 b _ ha0).1
  have hc1 : H[a]? = some (vp_cell cA (n1, .inl (g))) := (hI.1 a true _ ha1).1
  obtain ⟨-, k0, hk0, cm0, hkk0⟩ := (X.2.2.2.2.2.1.2 t0 _ ht).1 n0 (fun j => .int (f j))
  obtain ⟨-, k1, hk1, cm1, hkk1⟩ := (X.2.2.2.2.2.1.2 t0 _ ht).1 n1 (fun j => .int (g j))
  obtain ⟨vm', X', step⟩ := XX.arraycopy X.1 X.2.2.2.1 (X.2.2.2.2.1 _ hq) (X.2.2.2.2.1 _ q419) (X.2.2.2.2.1 _ q418) (X.2.2.2.2.1 _ q205) (src := a0) (dst := a) (cs := (vp_cell cA (n0, .inl (f)))) (cd := (vp_cell cA (n1, .inl (g)))) (srcPos := sp) (destPos := dp) (n := n) (by rw [hT]; exact hc0) (by rw [hT]; exact hc1)
    (fun _ h => by cases h) (fun _ h => by cases h) (fun h => by cases h) (fun h => by cases h) hk0 hk1 hkk0 hkk1 (by simp [hprim]) h1 h2 h3
    (by rw [h_nn sp h1, h_nn n h3]; show ¬ _ > ((arrV cA n0 (fun j => .int (f j))).slots.size : Int); rw [arrV_size]; omega)
    (by rw [h_nn dp h2, h_nn n h3]; show ¬ _ > ((arrV cA n1 (fun j => .int (g j))).slots.size : Int); rw [arrV_size]; omega)
    (fun vm₁ hal i hi => by
      have e : (vp_cell cA (n0, .inl (f))).slots.getD (sp.toNatClampNeg + i) .null = .int (f (sp.toNatClampNeg + i)) := by
        show (arrV cA n0 (fun j => .int (f j))).slots.getD _ _ = _
        rw [Array.getD_eq_getD_getElem?, arrV_read _ _ (by omega)]
        rfl
      refine ⟨?_, ?_⟩
      · rw [e]
        exact hfit i hi
      · rw [e]
        exact trivial)
    (g := F0 m pc ls (.int n :: .int dp :: .ref a :: .int sp :: .ref a0 :: rest)) rfl (by rw [X.2.2.1]; exact hls) (rest := rest) rfl (by rw [X.2.1]; exact hdg) hf.1 (by show 2 * 0 + _ + _ ≤ _; have hw : nativeFrameWords "java/lang/System" "arraycopy" 5 ≤ 21 := (by decide); omega)
  have e1 : copied (vp_cell cA (n0, .inl (f))) (vp_cell cA (n1, .inl (g))) sp dp n = (vp_cell cA (n1, .inl (va_cpy f g sp.toNatClampNeg dp.toNatClampNeg n.toNatClampNeg))) := va_copied (fun z => .int z) cA cA f g h4
  rw [e1] at X' step
  have hl : a < H.size := (Array.getElem?_eq_some_iff.mp hc1).1
  generalize hw : (vp_cell cA (n1, .inl (va_cpy f g sp.toNatClampNeg dp.toNatClampNeg n.toNatClampNeg))) = w at X' step
  have hheap : ((T.setVm vm').setCell a w).heap = H.setIfInBounds a w := by rw [← hT]; rfl
  have oq : ∀ q : Nat, q ≠ a → (H.setIfInBounds a w)[q]? = H[q]? := fun q hq => by simp [Array.getElem?_setIfInBounds, Ne.symm hq]
  have hsS : va_S A0 s.heap (H.setIfInBounds a w) (locs ++ ((vp_cell cA (n0, .inl (f))).stretch sp.toNatClampNeg n.toNatClampNeg).zipIdx.map fun q => ⟨a, dp.toNatClampNeg + q.2⟩) := ⟨by simp; exact hI.2.1, fun q g1 g2 => by
      rw [oq q (fun e => g2 (by rw [e]; exact (hI.1 a true _ ha1).2 rfl))]
      exact hI.2.2.1 q g1 g2, fun q hq => by
      rcases List.mem_append.mp hq with h | h
      · exact hI.2.2.2 q h
      · obtain ⟨z, -, hz⟩ := List.mem_map.mp h
        rw [← hz]
        exact (hI.1 a true _ ha1).2 rfl⟩
  obtain ⟨t, a1, b1⟩ := kk _ _ _ (hk _ rfl) (hI.set ha1 (show (H.setIfInBounds a w)[a]? = some _ by simp [Array.getElem?_setIfInBounds, hl]; exact hw.symm) oq hsS) _ hheap X'
  exact ⟨t, step t a1, b1⟩
def cpL (ty : FieldType) (G : HG) (a0 : Nat) (cA : ClassId) (sp : Int32) (a : Nat) (dp n : Int32) (K : HG → Prop) : Prop := ∃ (b : Bool) (n0 n1 : Nat) (f g : Nat → Int64), G a0 = some (b, .inl (cA, n0, .inr (.inl (f)))) ∧ G a = some (true, .inl (cA, n1, .inr (.inl (g)))) ∧ ¬ sp < 0 ∧ ¬ dp < 0 ∧ ¬ n < 0 ∧ sp.toNatClampNeg + n.toNatClampNeg ≤ n0 ∧ dp.toNatClampNeg + n.toNatClampNeg ≤ n1 ∧ (∀ i, i < n.toNatClampNeg → fits ty (.long (f (sp.toNatClampNeg + i))) = true) ∧ ∀ G' : HG, G' = hup G a (true, .inl (cA, n1, .inr (.inl (va_cpy f g sp.toNatClampNeg dp.toNatClampNeg n.toNatClampNeg)))) → K G'
theorem hr_cpL (E : JE l Z D j Λ fr lo) (X : XC p s m args meth c cc nL own D jC (jty j.1) A0 Z) (hI : HI D jC G A0 s.heap H locs) (t0 : Nat) {cA : ClassId} {ty : FieldType} (ht : (jty j.1)[t0]? = some (cA, ty)) (hprim : refKind ty = false) {a0 : Nat} {sp dp n : Int32} {K : HG → Prop} (h : cpL ty G a0 cA sp a dp n K) {index : Nat} (hq : Cond.methodLink own index arraycopyName ∈ lw_all) (hls : ls.size = nL) (hroom : (rest.map fun v => v.category).sum ≤ 8) (hf : 1 ≤ R.frames ∧ 40 ≤ R.locals) (hdg : decode cc pc = .ok (.invokestatic index, 3))
    (kk : ∀ (G' : HG) (H1 : Heap) (locs1 : List Loc), K G' → HI D jC G' A0 s.heap H1 locs1 → W p l e R s m args below meth c H1 locs1 cells slots Q (F0 m (pc + 3) ls rest)) : W p l e R s m args below meth c H locs cells slots Q (F0 m pc ls (.int n :: .int dp :: .ref a :: .int sp :: .ref a0 :: rest)) := by
  obtain ⟨b, n0, n1, f, g, ha0, ha1, h1, h2, h3, h4, h5, hfit, hk⟩ := h
  intro T hT XX
  have hc0 : H[a0]? = some (vp_cell cA (n0, .inr (.inl (f)))) := (hI.1 a0 b _ ha0).1
  have hc1 : H[a]? = some (vp_cell cA (n1, .inr (.inl (g)))) := (hI.1 a true _ ha1).1
  obtain ⟨-, k0, hk0, cm0, hkk0⟩ := (X.2.2.2.2.2.1.2 t0 _ ht).1 n0 (fun j => .long (f j))
  obtain ⟨-, k1, hk1, cm1, hkk1⟩ := (X.2.2.2.2.2.1.2 t0 _ ht).1 n1 (fun j => .long (g j))
  obtain ⟨vm', X', step⟩ := XX.arraycopy X.1 X.2.2.2.1 (X.2.2.2.2.1 _ hq) (X.2.2.2.2.1 _ q419) (X.2.2.2.2.1 _ q418) (X.2.2.2.2.1 _ q205) (src := a0) (dst := a) (cs := (vp_cell cA (n0, .inr (.inl (f))))) (cd := (vp_cell cA (n1, .inr (.inl (g))))) (srcPos := sp) (destPos := dp) (n := n) (by rw [hT]; exact hc0) (by rw [hT]; exact hc1)
    (fun _ h => by cases h) (fun _ h => by cases h) (fun h => by cases h) (fun h => by cases h) hk0 hk1 hkk0 hkk1 (by simp [hprim]) h1 h2 h3
    (by rw [h_nn sp h1, h_nn n h3]; show ¬ _ > ((arrV cA n0 (fun j => .long (f j))).slots.size : Int); rw [arrV_size]; omega)
    (by rw [h_nn dp h2, h_nn n h3]; show ¬ _ > ((arrV cA n1 (fun j => .long (g j))).slots.size : Int); rw [arrV_size]; omega)
    (fun vm₁ hal i hi => by
      have e : (vp_cell cA (n0, .inr (.inl (f)))).slots.getD (sp.toNatClampNeg + i) .null = .long (f (sp.toNatClampNeg + i)) := by
        show (arrV cA n0 (fun j => .long (f j))).slots.getD _ _ = _
        rw [Array.getD_eq_getD_getElem?, arrV_read _ _ (by omega)]
        rfl
      refine ⟨?_, ?_⟩
      · rw [e]
        exact hfit i hi
      · rw [e]
        exact trivial)
    (g := F0 m pc ls (.int n :: .int dp :: .ref a :: .int sp :: .ref a0 :: rest)) rfl (by rw [X.2.2.1]; exact hls) (rest := rest) rfl (by rw [X.2.1]; exact hdg) hf.1 (by show 2 * 0 + _ + _ ≤ _; have hw : nativeFrameWords "java/lang/System" "arraycopy" 5 ≤ 21 := (by decide); omega)
  have e1 : copied (vp_cell cA (n0, .inr (.inl (f)))) (vp_cell cA (n1, .inr (.inl (g)))) sp dp n = (vp_cell cA (n1, .inr (.inl (va_cpy f g sp.toNatClampNeg dp.toNatClampNeg n.toNatClampNeg)))) := va_copied (fun z => .long z) cA cA f g h4
  rw [e1] at X' step
  have hl : a < H.size := (Array.getElem?_eq_some_iff.mp hc1).1
  generalize hw : (vp_cell cA (n1, .inr (.inl (va_cpy f g sp.toNatClampNeg dp.toNatClampNeg n.toNatClampNeg)))) = w at X' step
  have hheap : ((T.setVm vm').setCell a w).heap = H.setIfInBounds a w := by rw [← hT]; rfl
  have oq : ∀ q : Nat, q ≠ a → (H.setIfInBounds a w)[q]? = H[q]? := fun q hq => by simp [Array.getElem?_setIfInBounds, Ne.symm hq]
  have hsS : va_S A0 s.heap (H.setIfInBounds a w) (locs ++ ((vp_cell cA (n0, .inr (.inl (f)))).stretch sp.toNatClampNeg n.toNatClampNeg).zipIdx.map fun q => ⟨a, dp.toNatClampNeg + q.2⟩) := ⟨by simp; exact hI.2.1, fun q g1 g2 => by
      rw [oq q (fun e => g2 (by rw [e]; exact (hI.1 a true _ ha1).2 rfl))]
      exact hI.2.2.1 q g1 g2, fun q hq => by
      rcases List.mem_append.mp hq with h | h
      · exact hI.2.2.2 q h
      · obtain ⟨z, -, hz⟩ := List.mem_map.mp h
        rw [← hz]
        exact (hI.1 a true _ ha1).2 rfl⟩
  obtain ⟨t, a1, b1⟩ := kk _ _ _ (hk _ rfl) (hI.set ha1 (show (H.setIfInBounds a w)[a]? = some _ by simp [Array.getElem?_setIfInBounds, hl]; exact hw.symm) oq hsS) _ hheap X'
  exact ⟨t, step t a1, b1⟩
def cpQ (tys : List (ClassId × FieldType)) (G : HG) (a0 : Nat) (sp : Int32) (a : Nat) (dp n : Int32) (K : HG → Prop) : Prop := ∃ (b : Bool) (t0 t1 : Nat) (c0 c1 : ClassId) (E0 E1 : String) (n0 n1 : Nat) (f g : Nat → Option Nat), tys[t0]? = some (c0, .object E0) ∧ tys[t1]? = some (c1, .object E1) ∧ G a0 = some (b, .inl (c0, n0, .inr (.inr (.inr (.inr (f)))))) ∧ G a = some (true, .inl (c1, n1, .inr (.inr (.inr (.inr (g)))))) ∧ ¬ sp < 0 ∧ ¬ dp < 0 ∧ ¬ n < 0 ∧ sp.toNatClampNeg + n.toNatClampNeg ≤ n0 ∧ dp.toNatClampNeg + n.toNatClampNeg ≤ n1 ∧ (∀ i, i < n.toNatClampNeg → ∀ y, f (sp.toNatClampNeg + i) = some y → ∃ (b : Bool) (ci : Nat) (fs : List Value), G y = some (b, .inr (ci, fs)) ∧ jOk ci E1) ∧ ∀ G' : HG, G' = hup G a (true, .inl (c1, n1, .inr (.inr (.inr (.inr (va_cpy f g sp.toNatClampNeg dp.toNatClampNeg n.toNatClampNeg)))))) → K G'
theorem hr_cpQ (E : JE l Z D j Λ fr lo) (X : XC p s m args meth c cc nL own D jC (jty j.1) A0 Z) (hI : HI D jC G A0 s.heap H locs) {a0 : Nat} {sp dp n : Int32} {K : HG → Prop} (h : cpQ (jty j.1) G a0 sp a dp n K) {index : Nat} (hq : Cond.methodLink own index arraycopyName ∈ lw_all) (hls : ls.size = nL) (hroom : (rest.map fun v => v.category).sum ≤ 8) (hf : 1 ≤ R.frames ∧ 40 ≤ R.locals) (hdg : decode cc pc = .ok (.invokestatic index, 3))
    (kk : ∀ (G' : HG) (H1 : Heap) (locs1 : List Loc), K G' → HI D jC G' A0 s.heap H1 locs1 → W p l e R s m args below meth c H1 locs1 cells slots Q (F0 m (pc + 3) ls rest)) : W p l e R s m args below meth c H locs cells slots Q (F0 m pc ls (.int n :: .int dp :: .ref a :: .int sp :: .ref a0 :: rest)) := by
  obtain ⟨b, t0, t1, c0, c1, E0, E1, n0, n1, f, g, ht0, ht1, ha0, ha1, h1, h2, h3, h4, h5, hel, hk⟩ := h
  intro T hT XX
  have hc0 : H[a0]? = some (vp_cell c0 (n0, .inr (.inr (.inr (.inr (f)))))) := (hI.1 a0 b _ ha0).1
  have hc1 : H[a]? = some (vp_cell c1 (n1, .inr (.inr (.inr (.inr (g)))))) := (hI.1 a true _ ha1).1
  obtain ⟨-, k0, hk0, cm0, hkk0⟩ := (X.2.2.2.2.2.1.2 t0 _ ht0).1 n0 (fun j => va_rf (f j))
  obtain ⟨-, k1, hk1, cm1, hkk1⟩ := (X.2.2.2.2.2.1.2 t1 _ ht1).1 n1 (fun j => va_rf (g j))
  obtain ⟨vm', X', step⟩ := XX.arraycopy X.1 X.2.2.2.1 (X.2.2.2.2.1 _ hq) (X.2.2.2.2.1 _ q419) (X.2.2.2.2.1 _ q418) (X.2.2.2.2.1 _ q205) (src := a0) (dst := a) (cs := (vp_cell c0 (n0, .inr (.inr (.inr (.inr (f))))))) (cd := (vp_cell c1 (n1, .inr (.inr (.inr (.inr (g))))))) (srcPos := sp) (destPos := dp) (n := n) (by rw [hT]; exact hc0) (by rw [hT]; exact hc1)
    (fun _ h => by cases h) (fun _ h => by cases h) (fun h => by cases h) (fun h => by cases h) hk0 hk1 hkk0 hkk1 rfl h1 h2 h3
    (by rw [h_nn sp h1, h_nn n h3]; show ¬ _ > ((arrV c0 n0 (fun j => va_rf (f j))).slots.size : Int); rw [arrV_size]; omega)
    (by rw [h_nn dp h2, h_nn n h3]; show ¬ _ > ((arrV c1 n1 (fun j => va_rf (g j))).slots.size : Int); rw [arrV_size]; omega)
    (fun vm₁ hal i hi => by
      have e : (vp_cell c0 (n0, .inr (.inr (.inr (.inr (f)))))).slots.getD (sp.toNatClampNeg + i) .null = va_rf (f (sp.toNatClampNeg + i)) := by
        show (arrV c0 n0 (fun j => va_rf (f j))).slots.getD _ _ = _
        rw [Array.getD_eq_getD_getElem?, arrV_read _ _ (by omega)]
        rfl
      rw [e]
      cases hy : f (sp.toNatClampNeg + i) with
      | none => exact ⟨rfl, trivial⟩
      | some y =>
        obtain ⟨b', ci, fs, g0, gok⟩ := hel i hi y hy
        obtain ⟨r, gr, hasg⟩ := jOk_asg (E.w X) ci E1 gok
        obtain ⟨cellV, g1, g2, g3⟩ := h_recv X hI g0 gr
        obtain ⟨kA, comp, r1, r2, r3, -⟩ := (X.2.2.2.2.2.1.2 t1 _ ht1).2
        cases hk1.symm.trans r1
        cases hkk1.symm.trans r2
        obtain ⟨kC, hkC, -⟩ := Vm.findClass_spec g3
        obtain ⟨kE, hkE, -⟩ := Vm.findClass_spec r3
        obtain ⟨kC', hkC', -⟩ := hal.2.2 _ _ hkC
        obtain ⟨kE', hkE', -⟩ := hal.2.2 _ _ hkE
        refine ⟨rfl, cellV, (show T.heap[y]? = some cellV by rw [hT]; exact g1), (fun q h => by rw [h] at g2; cases g2), ⟨kC', hkC'⟩, ?_, ?_⟩
        · exact ⟨kE', hkE'⟩
        · show vm₁.assignable _ _ = true
          rw [hal.assignable]
          exact hasg _ _ r3 g3)
    (g := F0 m pc ls (.int n :: .int dp :: .ref a :: .int sp :: .ref a0 :: rest)) rfl (by rw [X.2.2.1]; exact hls) (rest := rest) rfl (by rw [X.2.1]; exact hdg) hf.1 (by show 2 * 0 + _ + _ ≤ _; have hw : nativeFrameWords "java/lang/System" "arraycopy" 5 ≤ 21 := (by decide); omega)
  have e1 : copied (vp_cell c0 (n0, .inr (.inr (.inr (.inr (f)))))) (vp_cell c1 (n1, .inr (.inr (.inr (.inr (g)))))) sp dp n = (vp_cell c1 (n1, .inr (.inr (.inr (.inr (va_cpy f g sp.toNatClampNeg dp.toNatClampNeg n.toNatClampNeg)))))) := va_copied (fun z => va_rf z) c0 c1 f g h4
  rw [e1] at X' step
  have hl : a < H.size := (Array.getElem?_eq_some_iff.mp hc1).1
  generalize hw : (vp_cell c1 (n1, .inr (.inr (.inr (.inr (va_cpy f g sp.toNatClampNeg dp.toNatClampNeg n.toNatClampNeg)))))) = w at X' step
  have hheap : ((T.setVm vm').setCell a w).heap = H.setIfInBounds a w := by rw [← hT]; rfl
  have oq : ∀ q : Nat, q ≠ a → (H.setIfInBounds a w)[q]? = H[q]? := fun q hq => by simp [Array.getElem?_setIfInBounds, Ne.symm hq]
  have hsS : va_S A0 s.heap (H.setIfInBounds a w) (locs ++ ((vp_cell c0 (n0, .inr (.inr (.inr (.inr (f)))))).stretch sp.toNatClampNeg n.toNatClampNeg).zipIdx.map fun q => ⟨a, dp.toNatClampNeg + q.2⟩) := ⟨by simp; exact hI.2.1, fun q g1 g2 => by
      rw [oq q (fun e => g2 (by rw [e]; exact (hI.1 a true _ ha1).2 rfl))]
      exact hI.2.2.1 q g1 g2, fun q hq => by
      rcases List.mem_append.mp hq with h | h
      · exact hI.2.2.2 q h
      · obtain ⟨z, -, hz⟩ := List.mem_map.mp h
        rw [← hz]
        exact (hI.1 a true _ ha1).2 rfl⟩
  obtain ⟨t, a1, b1⟩ := kk _ _ _ (hk _ rfl) (hI.set ha1 (show (H.setIfInBounds a w)[a]? = some _ by simp [Array.getElem?_setIfInBounds, hl]; exact hw.symm) oq hsS) _ hheap X'
  exact ⟨t, step t a1, b1⟩
/-- is it of that kind: an object's class says -/
def inO (G : HG) (v : Option Nat) (nm : String) (K : Int32 → Prop) : Prop := (v = none → K 0) ∧ ∀ y, v = some y → ∃ (b : Bool) (ci : Nat) (fs : List Value) (r : vw_C), G y = some (b, .inr (ci, fs)) ∧ jK[ci]? = some r ∧ (((r.1 = nm ∨ Cond.castable r.1 nm ∈ lw_tbl) ∧ K 1) ∨ (Cond.not (.castable r.1 nm) ∈ lw_tbl ∧ K 0))
theorem hr_inst (E : JE l Z D j Λ fr lo) (X : XC p s m args meth c cc nL own D jC (jty j.1) A0 Z) (hI : HI D jC G A0 s.heap H locs) {v : Option Nat} {nm : String} {index : Nat} {K : Int32 → Prop} (h : inO G v nm K) (hq : Cond.classLink own index nm ∈ lw_all) (hdg : decode cc pc = .ok (.instanceof index, 3))
    (kk : ∀ x, K x → W p l e R s m args below meth c H locs cells slots Q (F0 m (pc + 3) ls (.int x :: rest))) : W p l e R s m args below meth c H locs cells slots Q (F0 m pc ls (va_rf v :: rest)) := by
  cases v with
  | none => exact lv_instN X.1 X.2.1 hdg (kk _ (h.1 rfl))
  | some y =>
    obtain ⟨b, ci, fs, r, g1, g2, g3⟩ := h.2 y rfl
    have hr : hRecv s H y r.1 := h_recv X hI g1 g2
    rcases g3 with ⟨g3 | g3, k1⟩ | ⟨g3, k0⟩
    · rw [g3] at hr
      exact va_instE X.1 X.2.1 X.2.2.2.1 (X.2.2.2.2.1 _ hq) hr hdg (kk _ k1)
    · exact va_instY X.1 X.2.1 X.2.2.2.1 (X.2.2.2.2.1 _ hq) (E.nw X g3 rfl) hr hdg (kk _ k1)
    · exact va_instNo X.1 X.2.1 X.2.2.2.1 (X.2.2.2.2.1 _ hq) ((E.w X).2.2.2.1 _ _ g3) hr hdg (kk _ k0)
/-- calls of inherited and overriding members -/
theorem cwU {R : Room} {s : State} {args : Array Value} {own C owner : String} {index : Nat} {x y : MethodName} {bytes : ByteArray} {maxL mc ms : Nat} {ret : Option FieldType} {rm : Room} (n : Nat) (ht : ∀ w ∈ lw_all, w.before args s = true) (h1 : Cond.methodLink own index x ∈ lw_all) (h6 : Cond.sameMethod x.cls owner x.name x.desc ∈ lw_all) (h2 : Cond.selects C x y ∈ lw_all) (h5 : Cond.instanceMethod y ∈ lw_all) (h3 : Cond.initialized y.cls ∈ lw_all) (h4 : Cond.code y bytes maxL ret ∈ lw_all) (hyx : y = ⟨owner, x.name, x.desc⟩) (hrc : rm.cells = mc) (hrs : rm.slots = ms)
    (hd : owner ≠ "java/lang/invoke/MethodHandle" ∧ owner ≠ "java/lang/invoke/VarHandle" ∧ (parseMethodDescriptor x.desc).map (fun d => d.parameters.length) = some n) (hR : rm.frames + 1 ≤ R.frames ∧ 8 + (maxL + 11) + rm.locals ≤ R.locals) : va_CU R s args own C owner index x y bytes maxL ret (ws_ y bytes maxL ret) rm mc ms n := by
  refine va_cwU n ht ?_ rfl hrc hrs hyx hd hR
  refine lw_app ?_ (lw_meth h4)
  intro w hw
  simp only [List.mem_cons, List.not_mem_nil, or_false] at hw
  rcases hw with e | e | e | e | e
  · rw [e]; exact h1
  · rw [e]; exact h6
  · rw [e]; exact h2
  · rw [e]; exact h5
  · rw [e]; exact h3
theorem h_runU (X : XC p s m args meth c cc nL own D jC (jty j.1) A0 Z) (hI : HI D jC G A0 s.heap H locs) {x y : MethodName} {bytes : ByteArray} {maxL n index : Nat} {ret : Option FieldType} {ws : List Cond} {rm : Room} {As : List Value} {C owner : String} {mc ms : Nat} {Qc : Array Value → State → Outcome → State → Prop} (hr : hRecv s H a C) (hM : Met l y ws rm (HPre D jC (jty j.1) Z G (.ref a :: As) H.size) Qc mc ms (hA G H.size)) (cw : va_CU R s args own C owner index x y bytes maxL ret ws rm mc ms n) (hn : As.length = n) (hls : ls.size = nL) (hroom : (rest.map fun v => v.category).sum ≤ 8) (hdg : decode cc pc = .ok (.invokevirtual index, 3)) (hf : cells + mc ≤ R.cells ∧ slots + ms ≤ R.slots) {st : List Value} (hst : st = As.reverse ++ .ref a :: rest) :
    va_Run p l e R s m args below meth c H locs cells slots mc ms (F0 m pc ls st) rest (Qc (Value.ref a :: As).toArray) (hA G H.size) := by
  subst hst
  exact va_runU (As := As) (rest := rest) ⟨X.1, X.2.1, X.2.2.1, X.2.2.2.1, X.2.2.2.2.1⟩ hM cw ⟨h_blind X.2.2.2.2.2.2.2.2.2.1, hr, h_look X hI⟩ rfl hn hls rfl (lv_room hroom) hdg hf
end HSYS
