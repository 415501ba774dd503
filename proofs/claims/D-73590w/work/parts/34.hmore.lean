/-! MORE ROWS: final fields in constructors; what a call asks -/
section HMORE
variable {p : Program} {l : Launch} {e : Env} {R : Room} {s : State} {m : MethodId} {args : Array Value} {below : List Frame} {meth : Method} {c : Code} {H : Heap} {locs : List Loc} {cells slots : Nat} {Q : State → Prop}
variable {cc : ByteArray} {nL : Nat} {own : String} {D : va_G} {cl : vC2} {tys : List (ClassId × FieldType)} {A0 : Nat → Prop} {Z : (Nat → Prop) → State → Heap → Prop} {G : HG} {pc : Nat} {ls : Array Slot} {rest : List Value} {a : Nat}
theorem hr_ptF (X : XC p s m args meth c cc nL own D cl tys A0 Z) (hI : HI D cl G A0 s.heap H locs) {C : String} {T : u_T} {N ci : Nat} (hc : cl.1[ci]? = some (C, T, N)) (hin : ∀ w ∈ u_ws C T N, w ∈ lw_all) (k : Nat) (hk : k < N) {ref : String} {index : Nat} (ty0 : Nat → FieldType) (hty : ∀ k, k < N → parseFieldDescriptor (T k).2.2.1 = some (ty0 k)) (hnm : ∀ a, a < N → ∀ b, b < N → a ≠ b → (T a).2.1 ≠ (T b).2.1) {v : Value} {K : HG → Prop} (h : ptV G a ci k v K) (hq : Cond.fieldLink own index ref (T k).2.1 (T k).2.2.1 ∈ lw_all) (hsame : ∀ x, s.fieldFound? (T k).1 (T k).2.1 (T k).2.2.1 = some x → s.fieldFound? ref (T k).2.1 (T k).2.2.1 = some x) (hfin : (T k).2.2.2 = true) (hin2 : meth.name = "<init>") (hdecl : (T k).1 = own) (hn : narrow (ty0 k) v = v) (hfit : fits (ty0 k) v = true) (hdg : decode cc pc = .ok (.putfield index, 3))
    (kk : ∀ (G' : HG) (H1 : Heap) (locs1 : List Loc), K G' → HI D cl G' A0 s.heap H1 locs1 → W p l e R s m args below meth c H1 locs1 cells slots Q (F0 m (pc + 3) ls rest)) : W p l e R s m args below meth c H locs cells slots Q (F0 m pc ls (v :: .ref a :: rest)) := by
  obtain ⟨fs, he, hl, h3⟩ := h
  have hpre := X.2.2.2.2.2.2.2.2.2.2
  have hap := va_apart (own := own) X.2.2.2.2.1 hin ty0 hty hnm X.2.2.2.2.2.1 hc
  obtain ⟨r, h1, cell, q1, q2, q3, q4⟩ := (hI.1 a true _ he).1
  have hr : r = (C, T, N) := Option.some.inj (h1.symm.trans (hpre _ _ hc))
  subst hr
  obtain ⟨hS, hfc, kC, hkC, hkind⟩ := X.2.2.2.2.2.1.1 ci _ hc
  obtain ⟨cf, kf, fi, f, hi, hsl⟩ := hS k hk
  have hlay := X.2.2.2.2.1 _ (hin _ (u_in_lay hk))
  unfold u_lay at hlay
  rw [if_pos hfin] at hlay
  have hst := (u_facts hfc hkC (u_lays X.2.2.2.2.1 hin hk) hi).1
  have hcf : m.cls = cf := by
    obtain ⟨_, _, c', _, _, _, -, -, hf', -, -, -, hown2, -⟩ := Cond.laysFinal_spec hlay
    have e1 : c' = cf := by have := hi.symm.trans hf'; simp at this; exact this.1.symm
    rw [hdecl] at hown2
    rw [← e1]; exact Option.some.inj (X.2.2.2.1.symm.trans hown2)
  have h6 := u_fits hfc hkC hkind (Or.inr hlay) hi (hty k hk) hn hfit
  refine W.putFinK X.1 X.2.1 X.2.2.2.1 (X.2.2.2.2.1 _ hq) (hsame _ hi) hst hcf hin2 (by rw [q2]; exact h6) q1 q3 (by rw [hsl]; exact k2_hasslot (q4 k hk)) rfl rfl hdg fun H' e1 e2 e3 => ?_
  rw [hsl] at e1 ⊢
  exact kk _ H' _ (h3 _ rfl) (hI.set he ⟨_, hpre _ _ hc, t_OB.to (V := updV (vp_V fs) k v) ⟨_, e1, q2, q3, t_set q4 hap hk v⟩ (fun j _ => vp_updV_set hl v j)⟩ e3 (hI.2.put e2 e3 ((hI.1 a true _ he).2 rfl)))
theorem hsame_of {s : State} {args : Array Value} {ref owner name desc : String} (h : (Cond.sameField ref owner name desc).before args s = true) : ∀ x, s.fieldFound? owner name desc = some x → s.fieldFound? ref name desc = some x := by
  intro x hi
  cases hr : s.fieldFound? ref name desc with
  | none => simp [Cond.before, Cond.holds, Cond.value, hr] at h
  | some q' =>
    obtain ⟨c, k, i, f⟩ := q'
    rw [← hi, Cond.sameField_spec hr h]
theorem nar_o (o : Option Nat) (C : String) : narrow (.object C) (va_rf o) = va_rf o := by cases o <;> rfl
theorem nar_a (o : Option Nat) (t : FieldType) : narrow (.array t) (va_rf o) = va_rf o := by cases o <;> rfl
theorem fit_o (o : Option Nat) (C : String) : fits (.object C) (va_rf o) = true := by cases o <;> rfl
theorem fit_a (o : Option Nat) (t : FieldType) : fits (.array t) (va_rf o) = true := by cases o <;> rfl
def zB (v : Int32) : Prop := v = 0 ∨ v = 1
theorem zB_n {v : Int32} (h : zB v) : narrow .boolean (.int v) = .int v := by rcases h with h | h <;> subst h <;> rfl
/-- what a call of a constructor asks -/
theorem cwIn {R : Room} {s : State} {args : Array Value} {own : String} {index : Nat} {y : MethodName} {bytes : ByteArray} {maxL mc ms : Nat} {rm : Room} (n : Nat) (ht : ∀ w ∈ lw_all, w.before args s = true) (h1 : Cond.methodLink own index y ∈ lw_all) (h2 : Cond.instanceMethod y ∈ lw_all) (h3 : Cond.initialized y.cls ∈ lw_all) (h4 : Cond.code y bytes maxL none ∈ lw_all) (hin : y.name = "<init>") (hrc : rm.cells = mc) (hrs : rm.slots = ms)
    (hd : y.cls ≠ "java/lang/invoke/MethodHandle" ∧ y.cls ≠ "java/lang/invoke/VarHandle" ∧ (parseMethodDescriptor y.desc).map (fun d => d.parameters.length) = some n) (hR : rm.frames + 1 ≤ R.frames ∧ 8 + (maxL + 11) + rm.locals ≤ R.locals) : CallB R s args own index y bytes maxL none (ws_ y bytes maxL none) rm mc ms n ∧ y.name = "<init>" ∧ (Cond.instanceMethod y).before args s = true :=
  ⟨callB_of n ht (lw_meth h4) rfl hrc hrs (ht _ h3) (ht _ h1) hd hR, hin, ht _ h2⟩
theorem cwInn {R : Room} {s : State} {args : Array Value} {own host : String} {index : Nat} {y : MethodName} {bytes : ByteArray} {maxL mc ms : Nat} {rm : Room} (n : Nat) (ht : ∀ w ∈ lw_all, w.before args s = true) (h1 : va_Nw (.methodLinkNest own index y host) s) (h2 : Cond.instanceMethod y ∈ lw_all) (h3 : Cond.initialized y.cls ∈ lw_all) (h4 : Cond.code y bytes maxL none ∈ lw_all) (hin : y.name = "<init>") (hrc : rm.cells = mc) (hrs : rm.slots = ms)
    (hd : y.cls ≠ "java/lang/invoke/MethodHandle" ∧ y.cls ≠ "java/lang/invoke/VarHandle" ∧ (parseMethodDescriptor y.desc).map (fun d => d.parameters.length) = some n) (hR : rm.frames + 1 ≤ R.frames ∧ 8 + (maxL + 11) + rm.locals ≤ R.locals) : va_CN R s args own index y host bytes maxL none (ws_ y bytes maxL none) rm mc ms n ∧ y.name = "<init>" ∧ (Cond.instanceMethod y).before args s = true :=
  ⟨va_cnB n ht (lw_meth h4) rfl hrc hrs h1 (ht _ h3) hd hR, hin, ht _ h2⟩
theorem h_runIN (X : XC p s m args meth c cc nL own D cl tys A0 Z) (hI : HI D cl G A0 s.heap H locs) {y : MethodName} {bytes : ByteArray} {maxL n index : Nat} {ws : List Cond} {rm : Room} {As : List Value} {mc ms : Nat} {Qc : Array Value → State → Outcome → State → Prop} {host : String} (hM : Met l y ws rm (HPre D cl tys Z G (.ref a :: As) H.size) Qc mc ms (hA G H.size)) (cw : va_CN R s args own index y host bytes maxL none ws rm mc ms n ∧ y.name = "<init>" ∧ (Cond.instanceMethod y).before args s = true) (hn : As.length = n) (hls : ls.size = nL) (hroom : (rest.map fun v => v.category).sum ≤ 8) (hdg : decode cc pc = .ok (.invokespecial index, 3)) (hf : cells + mc ≤ R.cells ∧ slots + ms ≤ R.slots) {st : List Value} (hst : st = As.reverse ++ .ref a :: rest) :
    va_Run p l e R s m args below meth c H locs cells slots mc ms (F0 m pc ls st) rest (Qc (Value.ref a :: As).toArray) (hA G H.size) := by
  subst hst
  exact va_runIN (As := As) (rest := rest) ⟨X.1, X.2.1, X.2.2.1, X.2.2.2.1, X.2.2.2.2.1⟩ hM cw ⟨h_blind X.2.2.2.2.2.2.2.2.2.1, h_look X hI⟩ rfl hn hls rfl (lv_room hroom) hdg hf
/-- a call of a list's member by its interface -/
theorem cwF {R : Room} {s : State} {args : Array Value} {own C : String} {index : Nat} {x y : MethodName} {bytes : ByteArray} {maxL mc ms : Nat} {ret : Option FieldType} {rm : Room} (n : Nat) (ht : ∀ w ∈ lw_all, w.before args s = true) (h1 : Cond.methodLink own index x ∈ lw_all) (h2 : Cond.selects C x y ∈ lw_all) (h5 : Cond.instanceMethod y ∈ lw_all) (h3 : Cond.initialized y.cls ∈ lw_all) (h4 : Cond.code y bytes maxL ret ∈ lw_all) (hF : va_Fw C x y s) (hrc : rm.cells = mc) (hrs : rm.slots = ms)
    (hd : x.cls ≠ "java/lang/invoke/MethodHandle" ∧ x.cls ≠ "java/lang/invoke/VarHandle" ∧ (parseMethodDescriptor x.desc).map (fun d => d.parameters.length) = some n) (hR : rm.frames + 1 ≤ R.frames ∧ 8 + (maxL + 11) + rm.locals ≤ R.locals) : va_CI R s args own C index x y bytes maxL ret (ws_ y bytes maxL ret) rm mc ms n := by
  refine va_cwF n ht ?_ rfl hrc hrs hF hd hR
  refine lw_app ?_ (lw_meth h4)
  intro w hw
  simp only [List.mem_cons, List.not_mem_nil, or_false] at hw
  rcases hw with e | e | e | e
  · rw [e]; exact h1
  · rw [e]; exact h2
  · rw [e]; exact h5
  · rw [e]; exact h3
/-- what a call through a private link asks -/
theorem cwVn {R : Room} {s : State} {args : Array Value} {own host : String} {index : Nat} {y : MethodName} {bytes : ByteArray} {maxL mc ms : Nat} {ret : Option FieldType} {rm : Room} (n : Nat) (ht : ∀ w ∈ lw_all, w.before args s = true) (h1 : va_Nw (.methodLinkNest own index y host) s) (h2 : Cond.instanceMethod y ∈ lw_all) (h5 : Cond.selects y.cls y y ∈ lw_all) (h3 : Cond.initialized y.cls ∈ lw_all) (h4 : Cond.code y bytes maxL ret ∈ lw_all) (hrc : rm.cells = mc) (hrs : rm.slots = ms)
    (hd : y.cls ≠ "java/lang/invoke/MethodHandle" ∧ y.cls ≠ "java/lang/invoke/VarHandle" ∧ (parseMethodDescriptor y.desc).map (fun d => d.parameters.length) = some n) (hR : rm.frames + 1 ≤ R.frames ∧ 8 + (maxL + 11) + rm.locals ≤ R.locals) : va_CN R s args own index y host bytes maxL ret (ws_ y bytes maxL ret) rm mc ms n ∧ (Cond.instanceMethod y).before args s = true ∧ (Cond.selects y.cls y y).before args s = true :=
  ⟨va_cnB n ht (lw_meth h4) rfl hrc hrs h1 (ht _ h3) hd hR, ht _ h2, ht _ h5⟩
theorem cwSn {R : Room} {s : State} {args : Array Value} {own host : String} {index : Nat} {y : MethodName} {bytes : ByteArray} {maxL mc ms : Nat} {ret : Option FieldType} {rm : Room} (n : Nat) (ht : ∀ w ∈ lw_all, w.before args s = true) (h1 : va_Nw (.methodLinkNest own index y host) s) (h2 : Cond.static y ∈ lw_all) (h3 : Cond.initialized y.cls ∈ lw_all) (h4 : Cond.code y bytes maxL ret ∈ lw_all) (hrc : rm.cells = mc) (hrs : rm.slots = ms)
    (hd : y.cls ≠ "java/lang/invoke/MethodHandle" ∧ y.cls ≠ "java/lang/invoke/VarHandle" ∧ (parseMethodDescriptor y.desc).map (fun d => d.parameters.length) = some n) (hR : rm.frames + 1 ≤ R.frames ∧ 8 + (maxL + 11) + rm.locals ≤ R.locals) : va_CN R s args own index y host bytes maxL ret (ws_ y bytes maxL ret) rm mc ms n ∧ (Cond.static y).before args s = true :=
  ⟨va_cnB n ht (lw_meth h4) rfl hrc hrs h1 (ht _ h3) hd hR, ht _ h2⟩
/-- a cast: null, or an object that may stand under that name -/
def csO (G : HG) (v : Option Nat) (nm : String) (K : Prop) : Prop := (∀ y, v = some y → ∃ (b : Bool) (ci : Nat) (fs : List Value), G y = some (b, .inr (ci, fs)) ∧ jOk ci nm) ∧ K
theorem hr_cast {j : JX} {Λ : JLam} {fr lo : Nat} (E : JE l Z D j Λ fr lo) (X : XC p s m args meth c cc nL own D jC (jty j.1) A0 Z) (hI : HI D jC G A0 s.heap H locs) {v : Option Nat} {nm : String} {index : Nat} {K : Prop} (h : csO G v nm K) (hq : Cond.classLink own index nm ∈ lw_all) (hdg : decode cc pc = .ok (.checkcast index, 3))
    (kk : K → W p l e R s m args below meth c H locs cells slots Q (F0 m (pc + 3) ls (va_rf v :: rest))) : W p l e R s m args below meth c H locs cells slots Q (F0 m pc ls (va_rf v :: rest)) := by
  cases v with
  | none => exact lv_castN X.1 X.2.1 hdg (kk h.2)
  | some y =>
    obtain ⟨b, ci, fs, g1, r, g2, g3⟩ := h.1 y rfl
    have hr : hRecv s H y r.1 := h_recv X hI g1 g2
    rcases g3 with g3 | g3
    · obtain ⟨cell, h1, h2, h3⟩ := hr
      rw [g3] at h3
      intro T hT XX
      obtain ⟨vm', X', st⟩ := XX.checkcastYes X.1 X.2.2.2.1 (X.2.2.2.2.1 _ hq) (by rw [hT]; exact h1) h2 h3 (va_asg _ _) (g := F0 m pc ls (va_rf (some y) :: rest)) rfl rfl (by rw [X.2.1]; exact hdg)
      obtain ⟨t, a1, b1⟩ := kk h.2 (T.setVm vm') hT X'
      exact ⟨t, st t a1, b1⟩
    · exact va_castY X.1 X.2.1 X.2.2.2.1 (X.2.2.2.2.1 _ hq) (E.nw X g3 rfl) hr hdg (kk h.2)
theorem hmA {a b c d : Nat} (h : a + b ≤ d) (h2 : c ≤ b) : a + c ≤ d := by omega
theorem hmB {a b c d : Nat} (h : a + b ≤ d) (h2 : c ≤ b) : a + c + (b - c) ≤ d := by omega
theorem hmC {a b d : Nat} (h : a + b ≤ d) : a ≤ d := by omega
theorem hm0 {a b d : Nat} (h : a + b ≤ d) : a + 0 ≤ d := by omega
end HMORE
