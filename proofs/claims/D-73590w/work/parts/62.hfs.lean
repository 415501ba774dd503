/-! MADE OBJECTS: calls of those that stand for static members -/
theorem HF_S {l : Launch} {Z : (Nat → Prop) → State → Heap → Prop} {D : va_G} {j : JX} {k n : Nat} {x y : MethodName} {caller : String} {cF bytes' : ByteArray} {bytes : List UInt8} {ml mi ci nt cn P maxL mc ms fr' lo' N : Nat} {ty : FieldType} {ret : Option FieldType} {fis : List Nat} {rm : Room} {G : HG} {q : Nat} {bq : Bool} {vals As Bs : List Value} {post : Int32 → HG → Prop}
    (hok : fwOk (jSh k) caller bytes ml (some ty) mi ci nt cn fis = true) (hcF : cF.data.toList = bytes) (hx : x.cls ≠ "java/lang/invoke/MethodHandle" ∧ x.cls ≠ "java/lang/invoke/VarHandle") (hlen : (parseMethodDescriptor x.desc).map (fun d => d.parameters.length) = some As.length)
    (hs1 : (jSh k).iface = x.cls) (hs2 : (jSh k).name = x.name) (hs3 : (jSh k).sam.toString = x.desc) (hpl : plainName (caller ++ "$$Lambda") = true) (hZ : ∀ A U H, Z A U H → jMade D U k caller ∧ jFace U x)
    (hy : y = ⟨(jSh k).implClass, (jSh k).implName, (jSh k).implDesc.toString⟩) (hmh : y.cls ≠ "java/lang/invoke/MethodHandle" ∧ y.cls ≠ "java/lang/invoke/VarHandle") (hcode : Cond.code y bytes' maxL ret ∈ lw_all) (hins : Cond.instantiable y.cls N ∈ lw_all) (hini : Cond.initialized y.cls ∈ lw_all) (hstat : Cond.static y ∈ lw_all) (hpar : (parseMethodDescriptor y.desc).map (fun d => d.parameters.length) = some Bs.length)
    (hGq : G q = some (bq, .inr (23 + k, vals))) (hjn : jC.2[23 + k]? = some (jL0 n)) (hvn : vals.length = n)
    (hload : fwLoad cF fis ml P q vals As (Bs.reverse ++ [])) (hwf : (lg_sl (.ref q :: As)).length ≤ ml) (hdg : decode cF P = .ok (.invokestatic mi, 3)) (hdr : decode cF (P + 3) = .ok (.ireturn, 1))
    (hM : ∀ sz : Nat, Met l y (ws_ y bytes' maxL ret) rm (HPre D jC (jty j.1) Z G Bs sz) (va_Qi (fun r G' => narrow ty (.int r) = .int r ∧ post r G') (HBd D jC (hA G sz)) (hA G sz)) mc ms (hA G sz)) (hrc : rm.cells = mc) (hrs : rm.slots = ms) (hfr : rm.frames + 2 ≤ fr') (hlo : 8 + (ml + 11) + (8 + (maxL + 11) + rm.locals) ≤ lo') :
    HF l Z D j.1 x q As G (fun A => va_Qi post (HBd D jC A) A) mc ms fr' lo' := by
  intro p e R s m args below meth c cc nL own A0 H locs cells slots pc index count ls rest X hI hq hls hroom hdg0 hf hfr0 hlo0
  have hZs := X.2.2.2.2.2.2.2.2.1
  obtain ⟨⟨⟨d, dk, hd, hdn, hmade, hcan⟩, hid⟩, hdecl, hface⟩ := hZ _ _ _ hZs
  obtain ⟨r, h1, cell, q1, q2, q3, q4⟩ := (hI.1 q bq _ hGq).1
  cases h1.symm.trans hjn
  have hslots : ∀ (i : Nat) (v : Value), vals[i]? = some v → cell.slots[i]? = some v := fun i v hv => by
    have hi : i < n := by rw [← hvn]; exact (List.getElem?_eq_some_iff.mp hv).1
    have := q4 i hi
    rw [hid i] at this
    rw [this]
    show some (vals.getD i .null) = _
    rw [List.getD_eq_getElem?_getD, hv]
    rfl
  refine fw_call X (R' := { frames := rm.frames + 1, cells := mc, slots := ms, locals := 8 + (maxL + 11) + rm.locals }) hq (va_any rfl hdecl) (va_any rfl hface) hx (fun sig hsig => by rw [hsig] at hlen; exact (Option.some.inj hlen).symm) hs1 hs2 hs3 hok hd hdn hpl hmade hcan q1 q2 q3 hls hroom hdg0 (by show rm.frames + 1 + 1 ≤ R.frames; omega) (by show 8 + (ml + 11) + (8 + (maxL + 11) + rm.locals) ≤ R.locals; omega) hf.1 hf.2 (fun st o t h => by obtain ⟨⟨v, G', h2, -⟩, -⟩ := h; exact ⟨_, h2⟩) ?_
  intro U g methk ck hU hW hmk hbytes hml hlk hret
  have hcc : ck.code = cF := ByteArray.ext (Array.ext' (by rw [hbytes, hcF]))
  have hctx : fwCtx p s (U.calling g ⟨D.1 (23 + k), 1⟩ (Value.ref q :: As).toArray) args D (jty j.1) Z G H := ⟨X.1, hW, X.2.2.2.2.1, X.2.2.2.2.2.2.2.2.2.1, hU, fun av U' hU' hW' => h_look X hI U' hU' (hW.trans hW'), fun a b x hx => (hI.1 a b x hx).1⟩
  rw [hml, lg_entry_eq]
  have hl := lv_entry (Value.ref q :: As) (n := ml) hwf
  refine hload X.1 hcc (fun i fi hfi U' hU' => ?_) cell q1 q3 hslots _ hl ?_
  · obtain ⟨-, -, -, -, -, -, -, -, -, -, -, -, -, h9⟩ := fw_linkS (l := l) (e := e) (args := args) hok X.2.2.2.2.1 hd hdn hmade hy hmh hcode hins hini hpar (hW.trans hU')
    exact h9 i fi hfi
  · refine fw_tailS hctx (hM H.size) hrc hrs (Nat.le_refl _) (Nat.le_refl _) hcode hini (fun U' hU' => ?_) hcc (by rw [hml]; exact hl.1) hlk hret hdg hdr ⟨Nat.le_refl _, Nat.le_refl _⟩
    obtain ⟨t, kt, metht, g1, g2, g3, g4, g5, g6, g7, g8, g9, g10, -⟩ := fw_linkS (l := l) (e := e) (args := args) hok X.2.2.2.2.1 hd hdn hmade hy hmh hcode hins hini hpar (hW.trans hU')
    exact ⟨t, kt, metht, g2, g3, g4, g5, g7, g8, Cond.static_spec g1 g6 (X.2.2.2.2.1 _ hstat), g10, g9⟩
theorem HF_Sv {l : Launch} {Z : (Nat → Prop) → State → Heap → Prop} {D : va_G} {j : JX} {k n : Nat} {x y : MethodName} {caller : String} {cF bytes' : ByteArray} {bytes : List UInt8} {ml mi ci nt cn P maxL mc ms fr' lo' N : Nat} {ret : Option FieldType} {fis : List Nat} {rm : Room} {G : HG} {q : Nat} {bq : Bool} {vals As Bs : List Value} {post : HG → Prop}
    (hok : fwOk (jSh k) caller bytes ml none mi ci nt cn fis = true) (hcF : cF.data.toList = bytes) (hx : x.cls ≠ "java/lang/invoke/MethodHandle" ∧ x.cls ≠ "java/lang/invoke/VarHandle") (hlen : (parseMethodDescriptor x.desc).map (fun d => d.parameters.length) = some As.length)
    (hs1 : (jSh k).iface = x.cls) (hs2 : (jSh k).name = x.name) (hs3 : (jSh k).sam.toString = x.desc) (hpl : plainName (caller ++ "$$Lambda") = true) (hZ : ∀ A U H, Z A U H → jMade D U k caller ∧ jFace U x)
    (hy : y = ⟨(jSh k).implClass, (jSh k).implName, (jSh k).implDesc.toString⟩) (hmh : y.cls ≠ "java/lang/invoke/MethodHandle" ∧ y.cls ≠ "java/lang/invoke/VarHandle") (hcode : Cond.code y bytes' maxL ret ∈ lw_all) (hins : Cond.instantiable y.cls N ∈ lw_all) (hini : Cond.initialized y.cls ∈ lw_all) (hstat : Cond.static y ∈ lw_all) (hpar : (parseMethodDescriptor y.desc).map (fun d => d.parameters.length) = some Bs.length)
    (hGq : G q = some (bq, .inr (23 + k, vals))) (hjn : jC.2[23 + k]? = some (jL0 n)) (hvn : vals.length = n)
    (hload : fwLoad cF fis ml P q vals As (Bs.reverse ++ [])) (hwf : (lg_sl (.ref q :: As)).length ≤ ml) (hdg : decode cF P = .ok (.invokestatic mi, 3)) (hdr : decode cF (P + 3) = .ok (.return_, 1))
    (hM : ∀ sz : Nat, Met l y (ws_ y bytes' maxL ret) rm (HPre D jC (jty j.1) Z G Bs sz) (va_Qv post (HBd D jC (hA G sz)) (hA G sz)) mc ms (hA G sz)) (hrc : rm.cells = mc) (hrs : rm.slots = ms) (hfr : rm.frames + 2 ≤ fr') (hlo : 8 + (ml + 11) + (8 + (maxL + 11) + rm.locals) ≤ lo') :
    HF l Z D j.1 x q As G (fun A => va_Qv post (HBd D jC A) A) mc ms fr' lo' := by
  intro p e R s m args below meth c cc nL own A0 H locs cells slots pc index count ls rest X hI hq hls hroom hdg0 hf hfr0 hlo0
  have hZs := X.2.2.2.2.2.2.2.2.1
  obtain ⟨⟨⟨d, dk, hd, hdn, hmade, hcan⟩, hid⟩, hdecl, hface⟩ := hZ _ _ _ hZs
  obtain ⟨r, h1, cell, q1, q2, q3, q4⟩ := (hI.1 q bq _ hGq).1
  cases h1.symm.trans hjn
  have hslots : ∀ (i : Nat) (v : Value), vals[i]? = some v → cell.slots[i]? = some v := fun i v hv => by
    have hi : i < n := by rw [← hvn]; exact (List.getElem?_eq_some_iff.mp hv).1
    have := q4 i hi
    rw [hid i] at this
    rw [this]
    show some (vals.getD i .null) = _
    rw [List.getD_eq_getElem?_getD, hv]
    rfl
  refine fw_call X (R' := { frames := rm.frames + 1, cells := mc, slots := ms, locals := 8 + (maxL + 11) + rm.locals }) hq (va_any rfl hdecl) (va_any rfl hface) hx (fun sig hsig => by rw [hsig] at hlen; exact (Option.some.inj hlen).symm) hs1 hs2 hs3 hok hd hdn hpl hmade hcan q1 q2 q3 hls hroom hdg0 (by show rm.frames + 1 + 1 ≤ R.frames; omega) (by show 8 + (ml + 11) + (8 + (maxL + 11) + rm.locals) ≤ R.locals; omega) hf.1 hf.2 (fun st o t h => by obtain ⟨⟨G', h2, -⟩, -⟩ := h; exact ⟨_, h2⟩) ?_
  intro U g methk ck hU hW hmk hbytes hml hlk hret
  have hcc : ck.code = cF := ByteArray.ext (Array.ext' (by rw [hbytes, hcF]))
  have hctx : fwCtx p s (U.calling g ⟨D.1 (23 + k), 1⟩ (Value.ref q :: As).toArray) args D (jty j.1) Z G H := ⟨X.1, hW, X.2.2.2.2.1, X.2.2.2.2.2.2.2.2.2.1, hU, fun av U' hU' hW' => h_look X hI U' hU' (hW.trans hW'), fun a b x hx => (hI.1 a b x hx).1⟩
  rw [hml, lg_entry_eq]
  have hl := lv_entry (Value.ref q :: As) (n := ml) hwf
  refine hload X.1 hcc (fun i fi hfi U' hU' => ?_) cell q1 q3 hslots _ hl ?_
  · obtain ⟨-, -, -, -, -, -, -, -, -, -, -, -, -, h9⟩ := fw_linkS (l := l) (e := e) (args := args) hok X.2.2.2.2.1 hd hdn hmade hy hmh hcode hins hini hpar (hW.trans hU')
    exact h9 i fi hfi
  · refine fw_tailSv hctx (hM H.size) hrc hrs (Nat.le_refl _) (Nat.le_refl _) hcode hini (fun U' hU' => ?_) hcc (by rw [hml]; exact hl.1) hlk hret hdg hdr ⟨Nat.le_refl _, Nat.le_refl _⟩
    obtain ⟨t, kt, metht, g1, g2, g3, g4, g5, g6, g7, g8, g9, g10, -⟩ := fw_linkS (l := l) (e := e) (args := args) hok X.2.2.2.2.1 hd hdn hmade hy hmh hcode hins hini hpar (hW.trans hU')
    exact ⟨t, kt, metht, g2, g3, g4, g5, g7, g8, Cond.static_spec g1 g6 (X.2.2.2.2.1 _ hstat), g10, g9⟩
