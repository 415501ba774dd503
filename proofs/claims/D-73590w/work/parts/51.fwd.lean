/-! MADE OBJECTS: calling them -/
section FWD
variable {p : Program} {l : Launch} {e : Env} {R : Room} {s : State} {m : MethodId} {args : Array Value} {below : List Frame} {meth : Method} {c : Code} {cells slots : Nat}
/-- the forwarder's body, run: the caller goes on -/
theorem fw_out {T : State} {locs : List Loc} (X : Stand p l e R s m args below meth c T locs cells slots) {g : JFrame} (hg : g.method = m) (hsize : g.locals.size = c.maxLocals) {ig : Instr} {len : Nat} (hdg : decode c.code g.pc = .ok (ig, len))
    {mk : MethodId} {methk : Method} {ck : Code} {a : Array Value} {R' : Room} {Qc : Array Value → State → Outcome → State → Prop} {mc ms : Nat} {free : Addr → Prop} (hmk : T.vm.method? mk = some methk) (hck : methk.code = some ck) (hlk : methk.locks = false) (hpk : T.plainMethod mk)
    (hframes : R'.frames + 1 ≤ R.frames) (hlocals : 2 * g.monitorRoom + (g.stack.map fun v => v.category).sum + (ck.maxLocals + 11) + R'.locals ≤ R.locals) (hcells : cells + R'.cells ≤ R.cells) (hslots : slots + R'.slots ≤ R.slots)
    (hbody : W p l e R' (T.calling g mk a) mk a (.java g :: below) methk ck T.heap [] 0 0 (MQ (.java g :: below) Qc a (T.calling g mk a) mc ms free) (entryFrame mk a ck.maxLocals)) (hret : ∀ st o t, Qc a st o t → ∃ v, o = .returned v) :
    ∃ (v : Option Value) (t T' : State) (L : List Loc), Stand p l e R s m args below meth c T' (locs ++ L) (cells + mc) (slots + ms) ∧ (∀ q ∈ L, free q.base) ∧ T'.heap = t.heap ∧ T'.vm = t.vm ∧ Qc a (T.calling g mk a) (.returned v) t ∧
      ∀ acts, Steps p.tables e below (doInvoke e (T.setTop g) acts mk a).1 (T'.setTop { g with pc := g.pc + len, stack := v.toList ++ g.stack }) := by
  obtain ⟨Y, hin⟩ := X.into hg hsize hdg a (R' := R') hmk hck hlk hpk hframes hlocals hcells hslots
  obtain ⟨t, hst, o, hrun, hended, hq, L, ⟨⟨v, hv⟩, hW, hsame⟩, hL⟩ := hbody ((T.setTop g).pushFrame (.java (entryFrame mk a ck.maxLocals))) rfl Y
  subst hv
  obtain ⟨T', X', hW', -, ht⟩ := X.outOf hg hdg hended hW hsame
  refine ⟨v, t, T', L, X', hL, ?_, ?_, hq, fun acts => ?_⟩
  · rw [ht]; rfl
  · rw [ht]; rfl
  · rw [hin acts, ← ht]
    exact Steps.weaken (mid := [.java g]) hst
/-- the forwarder's call of the member that it stands for -/
theorem fw_runV (hx : p.tables.exec = Jvm.exec) {H : Heap} {locs : List Loc} {y : MethodName} {bytes : ByteArray} {maxL mc ms index : Nat} {ret : Option FieldType} {ws : List Cond} {rm : Room} {Pc : Array Value → State → Prop} {Qc : Array Value → State → Outcome → State → Prop} {free : Addr → Prop} {b : Addr} {As rest : List Value} {pc : Nat} {ls : Array Slot}
    (hM : Met l y ws rm Pc Qc mc ms free) (hbl : FrameBlind Pc) (hrc : rm.cells = mc) (hrs : rm.slots = ms) (hfr : rm.frames + 1 ≤ R.frames) (hlo : 8 + (maxL + 11) + rm.locals ≤ R.locals)
    (hws : ∀ w ∈ ws, ∀ (a' : Array Value) (U : State), s.WarmedH U.vm → w.before a' U = true) (hcode : Cond.code y bytes maxL ret ∈ ws) (hini : ∀ (a' : Array Value) (U : State), s.WarmedH U.vm → (Cond.initialized y.cls).before a' U = true)
    (hP : ∀ U : State, U.heap = H → s.WarmedH U.vm → Pc (Value.ref b :: As).toArray U)
    (hlink : ∀ U : State, s.WarmedH U.vm → ∃ (t : MethodId) (kt : Class) (metht : Method) (cell : Cell), U.methodNamed? y = some t ∧ namesAClass U m.cls index ∧ U.vm.methodReady m.cls index t ∧ U.vm.classes[t.cls]? = some kt ∧ U.vm.method? t = some metht ∧ signaturePolymorphic kt metht = false ∧ metht.isStatic = false ∧ As.length = metht.sig.parameters.length ∧ H[b]? = some cell ∧ (∀ k, cell.vm ≠ .statics k) ∧ selectMethod {} U.vm cell.cls t = .method t ∧ metht.isAbstract = false ∧ kt.isInterface = false)
    (hls : ls.size = c.maxLocals) (hroom : (rest.map fun v => v.category).sum ≤ 8) (hdg : decode c.code pc = .ok (.invokevirtual index, 3)) (hf : cells + mc ≤ R.cells ∧ slots + ms ≤ R.slots) :
    va_Run p l e R s m args below meth c H locs cells slots mc ms (F0 m pc ls (As.reverse ++ .ref b :: rest)) rest (Qc (Value.ref b :: As).toArray) free := by
  intro T hT X
  have hK : Back l R p e below s args y 3 8 (PreOf R mc ms Pc) (PostOf Qc mc ms free) := back_of (bytes := bytes) (maxL := maxL) (ret := ret) hM hbl hrc hrs hfr hlo hws hcode hini
  obtain ⟨t, kt, metht, cell, h1, h2, h3, h4, h5, h6, h7, h8, h9, h10, h11, h12, h13⟩ := hlink T X.warmed
  obtain ⟨v, ⟨U', l2, c2, s2⟩, X', ⟨g', mk, t', L, e1, e2, hq, g1, hL, g2, g3⟩, hsteps⟩ := hK m meth c ⟨T, locs, cells, slots⟩ (F0 m pc ls rest) (.invokevirtual index) t (Value.ref b :: As).toArray X rfl hls hdg (by show 2 * 0 + (rest.map fun v => v.category).sum ≤ 8; omega) h1 ⟨hf.1, hf.2, hP T hT X.warmed⟩
  dsimp only [Pt.U, Pt.locs, Pt.cells, Pt.slots] at X' e1 e2 hq g1 g2 g3 hsteps
  subst g1; subst g2; subst g3
  refine ⟨v, T.calling g' mk (Value.ref b :: As).toArray, t', U', L, hT, X', hL, e1, e2, hq, fun target ht => ?_⟩
  jvm_step X.here [X.here.top, hx, hdg, invokevirtual.wp_ready (e := e) (s := T) (r := t) (m := t) (k := kt) (mk := kt) (rmeth := metht) (meth := metht) (a := b) (args := As) (rest := rest) (cell := cell)
    (f := F0 m pc ls (As.reverse ++ .ref b :: rest)) X.here.top h2 h3 h4 h5 h6 h7 h8 rfl (by rw [hT]; exact h9) h10 (by rw [Launch.admits_selectMethod X.admits]; exact h11) h5 h12 h4 h13]
  intro acts
  rw [doInvoke_state]
  exact hsteps.trans ht
end FWD
