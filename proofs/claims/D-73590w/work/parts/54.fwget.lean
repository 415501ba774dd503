/-! MADE OBJECTS: steps of a forwarder -/
section FWG
variable {p : Program} {l : Launch} {e : Env} {R : Room} {s : State} {m : MethodId} {args : Array Value} {below : List Frame} {meth : Method} {c : Code} {H : Heap} {locs : List Loc} {cells slots : Nat} {Q : State → Prop}
theorem fw_get (hx : p.tables.exec = Jvm.exec) {pc index i : Nat} {ls : Array Slot} {rest : List Value} {a : Addr} {v : Value} (hr : ∀ U : State, s.WarmedH U.vm → ∃ f : Field, U.vm.fieldReady m.cls index m.cls f ∧ f.isStatic = false ∧ f.slot = i) {cell : Cell} (hcell : H[a]? = some cell) (hvm : cell.vm = .none) (hv : cell.slots[i]? = some v) (hdg : decode c.code pc = .ok (.getfield index, 3))
    (kk : W p l e R s m args below meth c H locs cells slots Q (F0 m (pc + 3) ls (v :: rest))) : W p l e R s m args below meth c H locs cells slots Q (F0 m pc ls (.ref a :: rest)) := by
  intro T hT X
  obtain ⟨t, a1, b1⟩ := kk T hT X
  obtain ⟨f, h1, h2, h3⟩ := hr T X.warmed
  refine ⟨t, ?_, b1⟩
  jvm_step X.here [X.here.top, hx, hdg, getfield.wp_ready (e := e) (s := T) (c := m.cls) (field := f) (a := a) (rest := rest) (cell := cell) (v := v)
    (f := F0 m pc ls (.ref a :: rest)) X.here.top h1 h2 rfl (by rw [hT]; exact hcell) (by rw [hvm]; exact fun h => by cases h) (by rw [h3]; exact hv)]
  exact a1
theorem fw_runS (hx : p.tables.exec = Jvm.exec) {H : Heap} {locs : List Loc} {y : MethodName} {bytes : ByteArray} {maxL mc ms index : Nat} {ret : Option FieldType} {ws : List Cond} {rm : Room} {Pc : Array Value → State → Prop} {Qc : Array Value → State → Outcome → State → Prop} {free : Addr → Prop} {As rest : List Value} {pc : Nat} {ls : Array Slot}
    (hM : Met l y ws rm Pc Qc mc ms free) (hbl : FrameBlind Pc) (hrc : rm.cells = mc) (hrs : rm.slots = ms) (hfr : rm.frames + 1 ≤ R.frames) (hlo : 8 + (maxL + 11) + rm.locals ≤ R.locals)
    (hws : ∀ w ∈ ws, ∀ (a' : Array Value) (U : State), s.WarmedH U.vm → w.before a' U = true) (hcode : Cond.code y bytes maxL ret ∈ ws) (hini : ∀ (a' : Array Value) (U : State), s.WarmedH U.vm → (Cond.initialized y.cls).before a' U = true)
    (hP : ∀ U : State, U.heap = H → s.WarmedH U.vm → Pc As.toArray U)
    (hlink : ∀ U : State, s.WarmedH U.vm → ∃ (t : MethodId) (kt : Class) (metht : Method), U.methodNamed? y = some t ∧ plainRef U e m.cls index ∧ U.vm.methodReady m.cls index t ∧ U.vm.classes[t.cls]? = some kt ∧ U.vm.method? t = some metht ∧ signaturePolymorphic kt metht = false ∧ metht.isStatic = true ∧ kt.init = .initialized ∧ As.length = metht.sig.parameters.length)
    (hls : ls.size = c.maxLocals) (hroom : (rest.map fun v => v.category).sum ≤ 8) (hdg : decode c.code pc = .ok (.invokestatic index, 3)) (hf : cells + mc ≤ R.cells ∧ slots + ms ≤ R.slots) :
    va_Run p l e R s m args below meth c H locs cells slots mc ms (F0 m pc ls (As.reverse ++ rest)) rest (Qc As.toArray) free := by
  intro T hT X
  have hK : Back l R p e below s args y 3 8 (PreOf R mc ms Pc) (PostOf Qc mc ms free) := back_of (bytes := bytes) (maxL := maxL) (ret := ret) hM hbl hrc hrs hfr hlo hws hcode hini
  obtain ⟨t, kt, metht, h1, h2, h3, h4, h5, h6, h7, h8, h9⟩ := hlink T X.warmed
  obtain ⟨v, ⟨U', l2, c2, s2⟩, X', ⟨g', mk, t', L, e1, e2, hq, g1, hL, g2, g3⟩, hsteps⟩ := hK m meth c ⟨T, locs, cells, slots⟩ (F0 m pc ls rest) (.invokestatic index) t As.toArray X rfl hls hdg (by show 2 * 0 + (rest.map fun v => v.category).sum ≤ 8; omega) h1 ⟨hf.1, hf.2, hP T hT X.warmed⟩
  dsimp only [Pt.U, Pt.locs, Pt.cells, Pt.slots] at X' e1 e2 hq g1 g2 g3 hsteps
  subst g1; subst g2; subst g3
  refine ⟨v, T.calling g' mk As.toArray, t', U', L, hT, X', hL, e1, e2, hq, fun target ht => ?_⟩
  jvm_step X.here [X.here.top, hx, hdg, invokestatic.wp_ready (e := e) (s := T) (m := t) (k := kt) (meth := metht) (args := As) (rest := rest)
    (f := F0 m pc ls (As.reverse ++ rest)) X.here.top h2 h3 h4 h5 h6 h7 h8 h9 rfl]
  intro acts
  rw [doInvoke_state]
  exact hsteps.trans ht
/-- what a forwarder's int answer is: the member's own -/
theorem fw_iret (hx : p.tables.exec = Jvm.exec) {cc : ByteArray} (hb : c.code = cc) {D : va_G} {G' : HG} {A0 : Nat → Prop} {mc ms : Nat} (hI : HI D jC G' A0 s.heap H locs) {post : Int32 → HG → Prop} {ty : FieldType} (hlk : meth.locks = false) (hr : meth.sig.returnType = some ty) {v : Int32} (hn : narrow ty (.int v) = .int v) (hB : post v G') {pc : Nat} {ls : Array Slot} (hdg : decode cc pc = .ok (.ireturn, 1)) : W p l e R s m args below meth c H locs cells slots (MQ below (va_Qi post (HBd D jC A0) A0) args s cells slots A0) (F0 m pc ls [.int v]) :=
  W.zret (v := v) hx hb hr hn (fun t ht _ => ⟨⟨v, G', rfl, hB, fun a b e h => ⟨by rw [ht]; exact (hI.1 a b e h).1, (hI.1 a b e h).2⟩⟩, hI.2.F ht⟩) hI.2.2.2 hdg hlk
theorem fw_vret (hx : p.tables.exec = Jvm.exec) {cc : ByteArray} (hb : c.code = cc) {D : va_G} {G' : HG} {A0 : Nat → Prop} {mc ms : Nat} (hI : HI D jC G' A0 s.heap H locs) {post : HG → Prop} (hlk : meth.locks = false) (hr : meth.sig.returnType = none) (hB : post G') {pc : Nat} {ls : Array Slot} (hdg : decode cc pc = .ok (.return_, 1)) : W p l e R s m args below meth c H locs cells slots (MQ below (va_Qv post (HBd D jC A0) A0) args s cells slots A0) (F0 m pc ls []) :=
  W.vret hx hb hr (fun t ht _ => ⟨⟨G', rfl, hB, fun a b e h => ⟨by rw [ht]; exact (hI.1 a b e h).1, (hI.1 a b e h).2⟩⟩, hI.2.F ht⟩) hI.2.2.2 hdg hlk
end FWG
