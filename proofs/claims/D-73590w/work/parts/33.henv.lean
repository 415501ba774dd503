/-! THE COMPONENT: its classes, the made ones, what is given of tables (printed by gen/mkenv.py) -/
def jK : List vw_C := [(RX0, TX0, 20), (RX1, TX1, 1), (RX2, TX2, 11), (RX3, TX3, 5), (RX4, TX4, 6), (RX5, TX5, 3), (RX6, TX6, 1), (RX7, TX7, 42), (RX8, TX8, 12), (RX9, TX9, 8), (RX10, TX10, 2), (RX11, TX11, 1), (RX12, TX12, 1), (RX13, TX13, 2), (RX14, TX14, 1), (RJ2, TJ2, 3), (RJ5, TJ5, 8), (RJ18, TJ18, 4), (RJ23, TJ23, 11), (RJ7, TJ7, 4), (RJ8, TJ8, 4), (RJ15, TJ15, 1), (RJ30, TJ30, 1)]
def jL0 (n : Nat) : vw_C := ("", fun _ => ("", "", "", true), n)
def jL : List vw_C := [jL0 0, jL0 0, jL0 0, jL0 0, jL0 0, jL0 0, jL0 1, jL0 1, jL0 3, jL0 3, jL0 3, jL0 4, jL0 3, jL0 5, jL0 3, jL0 3, jL0 3, jL0 4, jL0 1, jL0 1, jL0 1, jL0 1, jL0 1, jL0 1, jL0 1, jL0 1, jL0 2, jL0 1, jL0 1, jL0 1, jL0 1, jL0 1, jL0 1, jL0 3]
def jC : vC2 := (jK, jK ++ jL)
theorem jC_pre : ∀ (i : Nat) (q : vw_C), jC.1[i]? = some q → jC.2[i]? = some q := fun i q h => by
  have hl : i < jK.length := (List.getElem?_eq_some_iff.mp h).1
  show (jK ++ jL)[i]? = some q
  rw [List.getElem?_append_left hl]
  exact h
/-- the sites: the method, where, the entry, how many values it takes along -/
def jSites : List (MethodName × Nat × Nat × Nat) := [(⟨"MergeJudge", "clashOf", "(I)LMergeJudge$Merge;"⟩, 28, 66, 0), (⟨"MergeJudge", "clashOf", "(I)LMergeJudge$Merge;"⟩, 34, 69, 0), (⟨"MergeJudge", "clashOf", "(I)LMergeJudge$Merge;"⟩, 40, 70, 0), (⟨"MergeJudge", "clashOf", "(I)LMergeJudge$Merge;"⟩, 46, 71, 0), (⟨"MergeJudge", "<init>", "()V"⟩, 195, 70, 0), (⟨"MergeJudge", "<init>", "()V"⟩, 213, 183, 0), (⟨"MergeJudge", "<init>", "()V"⟩, 232, 184, 1), (⟨"MergeJudge", "<init>", "()V"⟩, 251, 187, 1), (⟨"MergeJudge", "ruleOf", "(LMergeJudge$Told;)LMergeJudge$Rule;"⟩, 67, 80, 3), (⟨"MergeJudge", "ruleOf", "(LMergeJudge$Told;)LMergeJudge$Rule;"⟩, 76, 84, 3), (⟨"MergeJudge", "ruleOf", "(LMergeJudge$Told;)LMergeJudge$Rule;"⟩, 85, 85, 3), (⟨"MergeJudge", "ruleOf", "(LMergeJudge$Told;)LMergeJudge$Rule;"⟩, 96, 86, 4), (⟨"MergeJudge", "ruleOf", "(LMergeJudge$Told;)LMergeJudge$Rule;"⟩, 105, 89, 3), (⟨"MergeJudge", "ruleOf", "(LMergeJudge$Told;)LMergeJudge$Rule;"⟩, 118, 90, 5), (⟨"MergeJudge", "stepOf", "(LMergeJudge$Told;)LMergeJudge$Step;"⟩, 51, 93, 3), (⟨"MergeJudge", "stepOf", "(LMergeJudge$Told;)LMergeJudge$Step;"⟩, 60, 97, 3), (⟨"MergeJudge", "stepOf", "(LMergeJudge$Told;)LMergeJudge$Step;"⟩, 69, 98, 3), (⟨"MergeJudge", "stepOf", "(LMergeJudge$Told;)LMergeJudge$Step;"⟩, 80, 99, 4), (⟨"MergeJudge", "bad", "(II)I"⟩, 21, 391, 1), (⟨"MergeJudge", "spare", "(I)I"⟩, 23, 337, 1), (⟨"MergeJudge", "allIn", "(I)I"⟩, 3, 368, 1), (⟨"MergeJudge", "pairs", "(I)I"⟩, 22, 398, 1), (⟨"MergeJudge", "isSafe", "(I)Z"⟩, 14, 375, 1), (⟨"MergeJudge$Least", "of", "(I)LMergeJudge$Least;"⟩, 12, 20, 1), (⟨"MergeJudge", "laysHits", "(I)V"⟩, 11, 420, 1), (⟨"MergeJudge", "blame", "()I"⟩, 51, 446, 1), (⟨"MergeJudge", "laws", "(I)I"⟩, 29, 467, 2), (⟨"MergeJudge", "by", "(I)I"⟩, 20, 476, 1), (⟨"MergeJudge", "worth", "(I)I"⟩, 27, 480, 1), (⟨"MergeJudge", "chance", "(I)J"⟩, 19, 521, 1), (⟨"MergeJudge", "mean", "(I)J"⟩, 19, 337, 1), (⟨"MergeJudge", "drawn", "(II)I"⟩, 52, 547, 1), (⟨"MergeJudge", "luck", "(II)I"⟩, 63, 550, 1), (⟨"MergeJudge", "acts", "(II)I"⟩, 52, 556, 3)]
abbrev jtq (d : Nat → ClassId) : List (ClassId × FieldType) := [(d 4, .short), (d 5, .object "MergeJudge$Slot"), (d 6, .object "MergeJudge$Base"), (d 7, .object "MergeJudge$Merging"), (d 8, .object "MergeJudge$Ruling"), (d 9, .object "MergeJudge$Stepping"), (d 10, .object "java/lang/Object"), (d 11, .object "java/util/HashMap$Node"), (d 12, .object "java/lang/String"), (d 13, .object "java/lang/Integer")]
abbrev jty (d : Nat → ClassId) : List (ClassId × FieldType) := mty d (jtq d)
abbrev JX : Type := (Nat → ClassId) × (Nat → Nat)
theorem nw_priv {x : MethodName} {s U : State} (hW : s.WarmedH U.vm) (hZ : va_Nw (.privateMethod x) s) : va_Nw (.privateMethod x) U := va_tabs rfl (rfl : (s.setVm U.vm).vm = U.vm) (by rw [Cond.privateMethod_setVm hW.alike]; exact hZ)
def nwok : Cond → Bool
  | .fieldLinkNest .. => true
  | .methodLinkNest .. => true
  | .castable .. => true
  | .declares .. => true
  | .privateMethod .. => true
  | _ => false
theorem nwok_warm : ∀ (w : Cond), nwok w = true → ∀ {s U : State}, s.WarmedH U.vm → va_Nw w s → va_Nw w U
  | .fieldLinkNest .., _, _, _, hW, hZ => va_Nw.warmF hW hZ
  | .methodLinkNest .., _, _, _, hW, hZ => va_Nw.warmM hW hZ
  | .castable .., _, _, _, hW, hZ => va_Nw.warmC hW hZ
  | .declares .., _, _, _, hW, hZ => va_Nw.warmD hW hZ
  | .privateMethod .., _, _, _, hW, hZ => nw_priv hW hZ
def jFw : List (String × MethodName × MethodName) := [("java/util/ArrayList", ⟨"java/util/List", "size", "()I"⟩, ⟨"java/util/ArrayList", "size", "()I"⟩), ("java/util/ArrayList", ⟨"java/util/List", "add", "(Ljava/lang/Object;)Z"⟩, ⟨"java/util/ArrayList", "add", "(Ljava/lang/Object;)Z"⟩), ("java/util/ArrayList", ⟨"java/util/List", "get", "(I)Ljava/lang/Object;"⟩, ⟨"java/util/ArrayList", "get", "(I)Ljava/lang/Object;"⟩), ("java/util/ArrayList", ⟨"java/util/List", "isEmpty", "()Z"⟩, ⟨"java/util/ArrayList", "isEmpty", "()Z"⟩), ("java/util/ArrayList", ⟨"java/util/List", "remove", "(I)Ljava/lang/Object;"⟩, ⟨"java/util/ArrayList", "remove", "(I)Ljava/lang/Object;"⟩), ("java/util/ArrayList", ⟨"java/util/List", "addAll", "(Ljava/util/Collection;)Z"⟩, ⟨"java/util/ArrayList", "addAll", "(Ljava/util/Collection;)Z"⟩), ("java/util/ArrayList", ⟨"java/util/Collection", "toArray", "()[Ljava/lang/Object;"⟩, ⟨"java/util/ArrayList", "toArray", "()[Ljava/lang/Object;"⟩)]
/-- what the tables say beside the steady words -/
def jW (U : State) : Prop := (∀ w ∈ lw_tbl, nwok w = true → va_Nw w U) ∧ (∀ C : String, Cond.arrayOver (.object C) ∈ lw_tbl → va_AO C U) ∧ (∀ t ∈ jFw, va_Fw t.1 t.2.1 t.2.2 U) ∧ (∀ C T : String, Cond.not (.castable C T) ∈ lw_tbl → va_Nc C T U) ∧ va_Dc U
theorem jW_warm {s U : State} (hW : s.WarmedH U.vm) (h : jW s) : jW U := by
  refine ⟨fun w hw hn => nwok_warm w hn hW (h.1 w hw hn), fun C hC => va_AO.moved hW.alike (h.2.1 C hC), fun t ht => va_Fw.moved ?_ hW.alike (h.2.2.1 t ht), fun C T hC => va_Nc.moved hW.alike (h.2.2.2.1 C T hC), va_Dc.moved hW.alike h.2.2.2.2⟩
  have hk : ∀ t ∈ jFw, t.2.1.cls ≠ "java/lang/invoke/MethodHandle" ∧ t.2.1.cls ≠ "java/lang/invoke/VarHandle" := by decide +kernel
  exact hk t ht
/-- an object of the class may lie in a row of E -/
def jOk (ci : Nat) (E : String) : Prop := ∃ r : vw_C, jK[ci]? = some r ∧ (r.1 = E ∨ Cond.castable r.1 E ∈ lw_tbl)
theorem jOk_asg {s : State} (h : jW s) : ∀ (ci : Nat) (E : String), jOk ci E → ∃ r : vw_C, jC.1[ci]? = some r ∧ hAsg s r.1 E := by
  intro ci E ⟨r, h1, h2⟩
  refine ⟨r, h1, ?_⟩
  rcases h2 with h2 | h2
  · rw [h2]; exact hAsg.self s E
  · exact hAsg.of (h.1 _ h2 rfl)
/-- static fields, constants; where their objects lie: j.2 -/
def jStI : List (String × String × String × Int32) := [("java/lang/String", "COMPACT_STRINGS", "Z", 1), ("java/lang/Integer$IntegerCache", "high", "I", 127), ("java/util/HashMap$TreeNode", "$assertionsDisabled", "Z", 1)]
def jStR : List (String × String × String × Nat) := [("java/util/ArrayList", "EMPTY_ELEMENTDATA", "[Ljava/lang/Object;", 40), ("java/util/ArrayList", "DEFAULTCAPACITY_EMPTY_ELEMENTDATA", "[Ljava/lang/Object;", 41), ("java/util/HashSet", "PRESENT", "Ljava/lang/Object;", 42), ("java/lang/Integer$IntegerCache", "cache", "[Ljava/lang/Integer;", 43), ("jdk/internal/util/Preconditions", "SIOOBE_FORMATTER", "Ljava/util/function/BiFunction;", 44)]
def jStx : List (String × Nat × String × Nat) := [("MergeJudgeModel", 172, "base", 60), ("MergeJudgeModel", 174, "top", 61), ("MergeJudgeModel", 180, "law", 62), ("MergeJudgeModel", 182, "odds", 63), ("MergeJudgeModel", 222, "cell", 64), ("MergeJudgeModel", 224, "rule", 65), ("MergeJudgeModel", 226, "op", 66), ("MergeJudgeModel", 231, "max", 67), ("MergeJudgeModel", 232, "min", 68), ("MergeJudgeModel", 233, "add", 69), ("MergeJudgeModel", 235, "late", 70), ("MergeJudgeModel", 220, "", 71), ("MergeJudgeModel", 194, "most", 72), ("MergeJudgeModel", 196, "least", 73), ("MergeJudgeModel", 198, "unlike", 74), ("MergeJudgeModel", 200, "sum", 75), ("MergeJudgeModel", 202, "order", 76), ("MergeJudgeModel", 204, "if", 77), ("MergeJudgeModel", 212, "more", 78), ("MergeJudgeModel", 214, "less", 79), ("MergeJudgeModel", 216, "set", 80), ("MergeJudgeModel", 218, "move", 81), ("MergeJudge$Reader", 38, "", 71), ("MergeJudge$Reader", 54, "max", 67), ("MergeJudge$Reader", 56, "min", 68), ("MergeJudge$Reader", 58, "add", 69), ("MergeJudge$Reader", 60, "late", 70), ("MergeJudge$Reader", 66, "most", 72), ("MergeJudge$Reader", 68, "least", 73), ("MergeJudge$Reader", 70, "unlike", 74), ("MergeJudge$Reader", 72, "sum", 75), ("MergeJudge$Reader", 74, "order", 76), ("MergeJudge$Reader", 76, "if", 77), ("MergeJudge$Reader", 78, "more", 78), ("MergeJudge$Reader", 80, "less", 79), ("MergeJudge$Reader", 82, "set", 80), ("MergeJudge$Reader", 84, "move", 81), ("MergeJudge$Reader", 213, "base", 60), ("MergeJudge$Reader", 215, "top", 61), ("MergeJudge$Reader", 219, "law", 62), ("MergeJudge$Reader", 223, "odds", 63), ("MergeJudge$Reader", 183, "cell", 64), ("MergeJudge$Reader", 192, "rule", 65), ("MergeJudge$Reader", 207, "op", 66)]
def jZ (j : JX) (A : Nat → Prop) (U : State) (H : Heap) : Prop := jW U ∧ (∀ t ∈ jStI, va_Z t.1 t.2.1 t.2.2.1 (.int t.2.2.2) A U H) ∧ (∀ t ∈ jStR, va_Z t.1 t.2.1 t.2.2.1 (.ref (j.2 t.2.2.2)) A U H) ∧ (∀ t ∈ jStx, vk_R t.1 t.2.1 t.2.2.1 (j.2 t.2.2.2) U) ∧ va_Mi "[Ljava/lang/Object;" (j.2 45) U
/-- callbacks: what a call of a made object (by its interface) asks; per interface: Merge, Rule, Step, Break, Answer, Undo -/
abbrev JLam : Type := (Nat → Int32 → Int32 → Int32 → HG → (Int32 → HG → Prop) → Prop) × (Nat → Int32 → HG → (Int32 → HG → Prop) → Prop) × (Nat → Int32 → HG → (Int32 → HG → Prop) → Prop) × (Nat → Int32 → Int32 → Int32 → Int32 → Nat → Nat → HG → (HG → Prop) → Prop) × (Nat → Nat → Nat → HG → (Int32 → HG → Prop) → Prop) × (Nat → Nat → Nat → HG → (HG → Prop) → Prop)
/-- a call of a made object runs: at any place of any method -/
def HF (l : Launch) (Z : (Nat → Prop) → State → Heap → Prop) (D : va_G) (d : Nat → ClassId) (x : MethodName) (q : Nat) (As : List Value) (G : HG) (Qc : ((Nat → Prop) → Array Value → State → Outcome → State → Prop)) (mc ms fr lo : Nat) : Prop :=
  ∀ {p : Program} {e : Env} {R : Room} {s : State} {m : MethodId} {args : Array Value} {below : List Frame} {meth : Method} {c : Code} {cc : ByteArray} {nL : Nat} {own : String} {A0 : Nat → Prop} {H : Heap} {locs : List Loc} {cells slots pc index count : Nat} {ls : Array Slot} {rest : List Value}, XC p s m args meth c cc nL own D jC (jty d) A0 Z → HI D jC G A0 s.heap H locs → Cond.methodLink own index x ∈ lw_all → ls.size = nL → (rest.map fun v => v.category).sum ≤ 8 → decode cc pc = .ok (.invokeinterface index count, 5) → cells + mc ≤ R.cells ∧ slots + ms ≤ R.slots → fr ≤ R.frames → lo ≤ R.locals →
    va_Run5 p l e R s m args below meth c H locs cells slots mc ms (F0 m pc ls (As.reverse ++ .ref q :: rest)) rest (Qc (hA G H.size) (Value.ref q :: As).toArray) (hA G H.size)
def xMerge : MethodName := ⟨"MergeJudge$Merge", "of", "(III)I"⟩
def xRule : MethodName := ⟨"MergeJudge$Rule", "holds", "(I)Z"⟩
def xStep : MethodName := ⟨"MergeJudge$Step", "from", "(I)I"⟩
def xBreak : MethodName := ⟨"MergeJudge$Break", "of", "(IIII)V"⟩
def xAnswer : MethodName := ⟨"MergeJudge$Answer", "now", "()I"⟩
def xUndo : MethodName := ⟨"MergeJudge$Undo", "back", "()V"⟩
/-- a made object that takes nothing along is there already; one that takes values along is made -/
def HMk0 (l : Launch) (Z : (Nat → Prop) → State → Heap → Prop) (D : va_G) (j : JX) : Prop :=
  ∀ (k : Nat) (y : MethodName) (pc index : Nat), jSites[k]? = some (y, pc, index, 0) → ∀ {p : Program} {e : Env} {R : Room} {s : State} {m : MethodId} {args : Array Value} {below : List Frame} {meth : Method} {c : Code} {cc : ByteArray} {nL : Nat} {A0 : Nat → Prop} {H : Heap} {locs : List Loc} {cells slots : Nat} {Q : State → Prop} {ls : Array Slot} {rest : List Value} {G : HG}, XC p s m args meth c cc nL y.cls D jC (jty j.1) A0 Z → HI D jC G A0 s.heap H locs → s.methodNamed? y = some m → ls.size = nL → (rest.map fun v => v.category).sum ≤ 8 → decode cc pc = .ok (.invokedynamic index, 5) → 3200 ≤ R.locals →
    W p l e R s m args below meth c H locs cells slots Q (F0 m (pc + 5) ls (.ref (j.2 k) :: rest)) → W p l e R s m args below meth c H locs cells slots Q (F0 m pc ls rest)
def HMk1 (l : Launch) (Z : (Nat → Prop) → State → Heap → Prop) (D : va_G) (j : JX) : Prop :=
  ∀ (k : Nat) (y : MethodName) (pc index a : Nat) (is : List Int32), jSites[k]? = some (y, pc, index, is.length + 1) → ∀ {p : Program} {e : Env} {R : Room} {s : State} {m : MethodId} {args : Array Value} {below : List Frame} {meth : Method} {c : Code} {cc : ByteArray} {nL : Nat} {A0 : Nat → Prop} {H : Heap} {locs : List Loc} {cells slots : Nat} {Q : State → Prop} {ls : Array Slot} {rest : List Value} {G : HG} {K : Nat → HG → Prop}, XC p s m args meth c cc nL y.cls D jC (jty j.1) A0 Z → HI D jC G A0 s.heap H locs → s.methodNamed? y = some m → ls.size = nL → (rest.map fun v => v.category).sum ≤ 8 → decode cc pc = .ok (.invokedynamic index, 5) → 3200 ≤ R.locals → cells + 1 ≤ R.cells → slots + (is.length + 1) ≤ R.slots → mkO G (.inr (23 + k, .ref a :: is.map .int)) K →
    (∀ (q : Nat) (G' : HG) (H1 : Heap), K q G' → HI D jC G' A0 s.heap H1 locs → W p l e R s m args below meth c H1 locs (cells + 1) (slots + (is.length + 1)) Q (F0 m (pc + 5) ls (.ref q :: rest))) → W p l e R s m args below meth c H locs cells slots Q (F0 m pc ls ((Value.ref a :: is.map .int).reverse ++ rest))
/-- the environment of the component's methods -/
def JE (l : Launch) (Z : (Nat → Prop) → State → Heap → Prop) (D : va_G) (j : JX) (Λ : JLam) (fr lo : Nat) : Prop :=
  ZK Z ∧ (∀ (A : Nat → Prop) (U : State) (H : Heap), Z A U H → jZ j A U H) ∧ HMk0 l Z D j ∧ HMk1 l Z D j ∧
  (∀ (q : Nat) (a b c : Int32) (G : HG) (post : Int32 → HG → Prop), Λ.1 q a b c G post → HF l Z D j.1 xMerge q [.int a, .int b, .int c] G (fun A => va_Qi post (HBd D jC A) A) 0 0 fr lo) ∧
  (∀ (q : Nat) (a : Int32) (G : HG) (post : Int32 → HG → Prop), Λ.2.1 q a G post → HF l Z D j.1 xRule q [.int a] G (fun A => va_Qi post (HBd D jC A) A) 0 0 fr lo) ∧
  (∀ (q : Nat) (a : Int32) (G : HG) (post : Int32 → HG → Prop), Λ.2.2.1 q a G post → HF l Z D j.1 xStep q [.int a] G (fun A => va_Qi post (HBd D jC A) A) 0 0 fr lo) ∧
  (∀ (q : Nat) (a b c m : Int32) (mc ms : Nat) (G : HG) (post : HG → Prop), Λ.2.2.2.1 q a b c m mc ms G post → HF l Z D j.1 xBreak q [.int a, .int b, .int c, .int m] G (fun A => va_Qv post (HBd D jC A) A) mc ms fr lo) ∧
  (∀ (q : Nat) (mc ms : Nat) (G : HG) (post : Int32 → HG → Prop), Λ.2.2.2.2.1 q mc ms G post → HF l Z D j.1 xAnswer q [] G (fun A => va_Qi post (HBd D jC A) A) mc ms fr lo) ∧
  (∀ (q : Nat) (mc ms : Nat) (G : HG) (post : HG → Prop), Λ.2.2.2.2.2 q mc ms G post → HF l Z D j.1 xUndo q [] G (fun A => va_Qv post (HBd D jC A) A) mc ms fr lo)
section HENV
variable {p : Program} {l : Launch} {e : Env} {R : Room} {s : State} {m : MethodId} {args : Array Value} {below : List Frame} {meth : Method} {c : Code} {H : Heap} {locs : List Loc} {cells slots : Nat} {Q : State → Prop}
variable {cc : ByteArray} {nL : Nat} {own : String} {D : va_G} {A0 : Nat → Prop} {Z : (Nat → Prop) → State → Heap → Prop} {G : HG} {pc : Nat} {ls : Array Slot} {rest : List Value} {j : JX} {Λ : JLam} {fr lo : Nat}
theorem JE.w {l : Launch} (E : JE l Z D j Λ fr lo) (X : XC p s m args meth c cc nL own D jC (jty j.1) A0 Z) : jW s := (E.2.1 _ _ _ X.2.2.2.2.2.2.2.2.1).1
theorem JE.z {l : Launch} (E : JE l Z D j Λ fr lo) (X : XC p s m args meth c cc nL own D jC (jty j.1) A0 Z) : jZ j A0 s s.heap := E.2.1 _ _ _ X.2.2.2.2.2.2.2.2.1
theorem JE.nw {l : Launch} (E : JE l Z D j Λ fr lo) (X : XC p s m args meth c cc nL own D jC (jty j.1) A0 Z) {w : Cond} (h : w ∈ lw_tbl) (hn : nwok w = true) : va_Nw w s := (E.w X).1 w h hn
theorem hr_merge (E : JE l Z D j Λ fr lo) (X : XC p s m args meth c cc nL own D jC (jty j.1) A0 Z) (hI : HI D jC G A0 s.heap H locs) {q : Nat} {i1 i2 i3 : Int32} {K : Int32 → HG → Prop} (h : Λ.1 q i1 i2 i3 G K) {index count : Nat} (hq : Cond.methodLink own index xMerge ∈ lw_all) (hls : ls.size = nL) (hroom : (rest.map fun v => v.category).sum ≤ 8) (hR : fr ≤ R.frames ∧ lo ≤ R.locals) (hf : cells ≤ R.cells ∧ slots ≤ R.slots) (hdg : decode cc pc = .ok (.invokeinterface index count, 5))
    (kk : ∀ (r : Int32) (G' : HG) (H1 : Heap) (locs1 : List Loc), K r G' → HI D jC G' A0 s.heap H1 locs1 → W p l e R s m args below meth c H1 locs1 cells slots Q (F0 m (pc + 5) ls (.int r :: rest))) : W p l e R s m args below meth c H locs cells slots Q (F0 m pc ls (.int i3 :: .int i2 :: .int i1 :: .ref q :: rest)) :=
  h_Fki X hI (E.2.2.2.2.1 _ _ _ _ _ _ h X hI hq hls hroom hdg ⟨hf.1, hf.2⟩ hR.1 hR.2) kk
theorem hr_rule (E : JE l Z D j Λ fr lo) (X : XC p s m args meth c cc nL own D jC (jty j.1) A0 Z) (hI : HI D jC G A0 s.heap H locs) {q : Nat} {i1 : Int32} {K : Int32 → HG → Prop} (h : Λ.2.1 q i1 G K) {index count : Nat} (hq : Cond.methodLink own index xRule ∈ lw_all) (hls : ls.size = nL) (hroom : (rest.map fun v => v.category).sum ≤ 8) (hR : fr ≤ R.frames ∧ lo ≤ R.locals) (hf : cells ≤ R.cells ∧ slots ≤ R.slots) (hdg : decode cc pc = .ok (.invokeinterface index count, 5))
    (kk : ∀ (r : Int32) (G' : HG) (H1 : Heap) (locs1 : List Loc), K r G' → HI D jC G' A0 s.heap H1 locs1 → W p l e R s m args below meth c H1 locs1 cells slots Q (F0 m (pc + 5) ls (.int r :: rest))) : W p l e R s m args below meth c H locs cells slots Q (F0 m pc ls (.int i1 :: .ref q :: rest)) :=
  h_Fki X hI (E.2.2.2.2.2.1 _ _ _ _ h X hI hq hls hroom hdg ⟨hf.1, hf.2⟩ hR.1 hR.2) kk
theorem hr_step (E : JE l Z D j Λ fr lo) (X : XC p s m args meth c cc nL own D jC (jty j.1) A0 Z) (hI : HI D jC G A0 s.heap H locs) {q : Nat} {i1 : Int32} {K : Int32 → HG → Prop} (h : Λ.2.2.1 q i1 G K) {index count : Nat} (hq : Cond.methodLink own index xStep ∈ lw_all) (hls : ls.size = nL) (hroom : (rest.map fun v => v.category).sum ≤ 8) (hR : fr ≤ R.frames ∧ lo ≤ R.locals) (hf : cells ≤ R.cells ∧ slots ≤ R.slots) (hdg : decode cc pc = .ok (.invokeinterface index count, 5))
    (kk : ∀ (r : Int32) (G' : HG) (H1 : Heap) (locs1 : List Loc), K r G' → HI D jC G' A0 s.heap H1 locs1 → W p l e R s m args below meth c H1 locs1 cells slots Q (F0 m (pc + 5) ls (.int r :: rest))) : W p l e R s m args below meth c H locs cells slots Q (F0 m pc ls (.int i1 :: .ref q :: rest)) :=
  h_Fki X hI (E.2.2.2.2.2.2.1 _ _ _ _ h X hI hq hls hroom hdg ⟨hf.1, hf.2⟩ hR.1 hR.2) kk
theorem hr_break (E : JE l Z D j Λ fr lo) (X : XC p s m args meth c cc nL own D jC (jty j.1) A0 Z) (hI : HI D jC G A0 s.heap H locs) {q : Nat} {i1 i2 i3 i4 : Int32} {mc ms : Nat} {K : HG → Prop} (h : Λ.2.2.2.1 q i1 i2 i3 i4 mc ms G K) {index count : Nat} (hq : Cond.methodLink own index xBreak ∈ lw_all) (hls : ls.size = nL) (hroom : (rest.map fun v => v.category).sum ≤ 8) (hR : fr ≤ R.frames ∧ lo ≤ R.locals) (hf : cells + mc ≤ R.cells ∧ slots + ms ≤ R.slots) (hdg : decode cc pc = .ok (.invokeinterface index count, 5))
    (kk : ∀ (G' : HG) (H1 : Heap) (locs1 : List Loc), K G' → HI D jC G' A0 s.heap H1 locs1 → W p l e R s m args below meth c H1 locs1 (cells + mc) (slots + ms) Q (F0 m (pc + 5) ls (rest))) : W p l e R s m args below meth c H locs cells slots Q (F0 m pc ls (.int i4 :: .int i3 :: .int i2 :: .int i1 :: .ref q :: rest)) :=
  h_Fkv X hI (E.2.2.2.2.2.2.2.1 _ _ _ _ _ _ _ _ _ h X hI hq hls hroom hdg hf hR.1 hR.2) kk
theorem hr_answer (E : JE l Z D j Λ fr lo) (X : XC p s m args meth c cc nL own D jC (jty j.1) A0 Z) (hI : HI D jC G A0 s.heap H locs) {q : Nat} {mc ms : Nat} {K : Int32 → HG → Prop} (h : Λ.2.2.2.2.1 q mc ms G K) {index count : Nat} (hq : Cond.methodLink own index xAnswer ∈ lw_all) (hls : ls.size = nL) (hroom : (rest.map fun v => v.category).sum ≤ 8) (hR : fr ≤ R.frames ∧ lo ≤ R.locals) (hf : cells + mc ≤ R.cells ∧ slots + ms ≤ R.slots) (hdg : decode cc pc = .ok (.invokeinterface index count, 5))
    (kk : ∀ (r : Int32) (G' : HG) (H1 : Heap) (locs1 : List Loc), K r G' → HI D jC G' A0 s.heap H1 locs1 → W p l e R s m args below meth c H1 locs1 (cells + mc) (slots + ms) Q (F0 m (pc + 5) ls (.int r :: rest))) : W p l e R s m args below meth c H locs cells slots Q (F0 m pc ls (.ref q :: rest)) :=
  h_Fki X hI (E.2.2.2.2.2.2.2.2.1 _ _ _ _ _ h X hI hq hls hroom hdg hf hR.1 hR.2) kk
theorem hr_undo (E : JE l Z D j Λ fr lo) (X : XC p s m args meth c cc nL own D jC (jty j.1) A0 Z) (hI : HI D jC G A0 s.heap H locs) {q : Nat} {mc ms : Nat} {K : HG → Prop} (h : Λ.2.2.2.2.2 q mc ms G K) {index count : Nat} (hq : Cond.methodLink own index xUndo ∈ lw_all) (hls : ls.size = nL) (hroom : (rest.map fun v => v.category).sum ≤ 8) (hR : fr ≤ R.frames ∧ lo ≤ R.locals) (hf : cells + mc ≤ R.cells ∧ slots + ms ≤ R.slots) (hdg : decode cc pc = .ok (.invokeinterface index count, 5))
    (kk : ∀ (G' : HG) (H1 : Heap) (locs1 : List Loc), K G' → HI D jC G' A0 s.heap H1 locs1 → W p l e R s m args below meth c H1 locs1 (cells + mc) (slots + ms) Q (F0 m (pc + 5) ls (rest))) : W p l e R s m args below meth c H locs cells slots Q (F0 m pc ls (.ref q :: rest)) :=
  h_Fkv X hI (E.2.2.2.2.2.2.2.2.2 _ _ _ _ _ h X hI hq hls hroom hdg hf hR.1 hR.2) kk
theorem h_openi {y : MethodName} {maxL mc ms : Nat} {rm : Room} {av : List Value} {post : Int32 → HG → Prop} {tys : List (ClassId × FieldType)} {cl : vC2} (hz : ZK Z) (hy : plainName y.cls = true) (hlen : (lg_sl av).length ≤ maxL)
    (body : ∀ (p : Program) (e : Env) (s : State) (m : MethodId) (args : Array Value) (below : List Frame) (meth : Method) (c : Code) (ls : Array Slot) (A0 : Nat → Prop) (Q : State → Prop), XC p s m args meth c cc maxL y.cls D cl tys A0 Z → HI D cl G A0 s.heap s.heap [] → s.methodNamed? y = some m → meth.name = y.name → lv_has ls maxL (lv_args 0 av) →
      (∀ {v : Int32} {G' : HG} {H : Heap} {locs : List Loc} {ls : Array Slot} {pc cells slots : Nat}, post v G' → HI D cl G' A0 s.heap H locs → decode cc pc = .ok (.ireturn, 1) → cells ≤ mc → slots ≤ ms → W p l e rm s m args below meth c H locs cells slots Q (F0 m pc ls [.int v])) →
      W p l e rm s m args below meth c s.heap [] 0 0 Q (F0 m 0 ls [])) : HMi l y (ws_ y cc maxL (some .int)) rm D cl tys Z G av post mc ms := fun sz =>
  h_openG hz hy hlen (fun p e s m args below meth c ls hs ha X hr hn hnd hI hl => by
    subst hs
    refine body p e s m args below meth c ls _ _ X hI hnd hn hl (fun {v G' H locs ls pc cells slots} hv hI1 hdg h1 h2 => ?_)
    exact W.widen h1 h2 (h_iret (post := post) X hI1 hr hv hdg))
theorem h_openl {y : MethodName} {maxL mc ms : Nat} {rm : Room} {av : List Value} {post : Int64 → HG → Prop} {tys : List (ClassId × FieldType)} {cl : vC2} (hz : ZK Z) (hy : plainName y.cls = true) (hlen : (lg_sl av).length ≤ maxL)
    (body : ∀ (p : Program) (e : Env) (s : State) (m : MethodId) (args : Array Value) (below : List Frame) (meth : Method) (c : Code) (ls : Array Slot) (A0 : Nat → Prop) (Q : State → Prop), XC p s m args meth c cc maxL y.cls D cl tys A0 Z → HI D cl G A0 s.heap s.heap [] → s.methodNamed? y = some m → meth.name = y.name → lv_has ls maxL (lv_args 0 av) →
      (∀ {v : Int64} {G' : HG} {H : Heap} {locs : List Loc} {ls : Array Slot} {pc cells slots : Nat}, post v G' → HI D cl G' A0 s.heap H locs → decode cc pc = .ok (.lreturn, 1) → cells ≤ mc → slots ≤ ms → W p l e rm s m args below meth c H locs cells slots Q (F0 m pc ls [.long v])) →
      W p l e rm s m args below meth c s.heap [] 0 0 Q (F0 m 0 ls [])) : HMl l y (ws_ y cc maxL (some .long)) rm D cl tys Z G av post mc ms := fun sz =>
  h_openG hz hy hlen (fun p e s m args below meth c ls hs ha X hr hn hnd hI hl => by
    subst hs
    refine body p e s m args below meth c ls _ _ X hI hnd hn hl (fun {v G' H locs ls pc cells slots} hv hI1 hdg h1 h2 => ?_)
    exact W.widen h1 h2 (h_lret (post := post) X hI1 hr hv hdg))
theorem h_openv {y : MethodName} {maxL mc ms : Nat} {rm : Room} {av : List Value} {post : HG → Prop} {tys : List (ClassId × FieldType)} {cl : vC2} (hz : ZK Z) (hy : plainName y.cls = true) (hlen : (lg_sl av).length ≤ maxL)
    (body : ∀ (p : Program) (e : Env) (s : State) (m : MethodId) (args : Array Value) (below : List Frame) (meth : Method) (c : Code) (ls : Array Slot) (A0 : Nat → Prop) (Q : State → Prop), XC p s m args meth c cc maxL y.cls D cl tys A0 Z → HI D cl G A0 s.heap s.heap [] → s.methodNamed? y = some m → meth.name = y.name → lv_has ls maxL (lv_args 0 av) →
      (∀ {G' : HG} {H : Heap} {locs : List Loc} {ls : Array Slot} {pc cells slots : Nat}, post G' → HI D cl G' A0 s.heap H locs → decode cc pc = .ok (.return_, 1) → cells ≤ mc → slots ≤ ms → W p l e rm s m args below meth c H locs cells slots Q (F0 m pc ls [])) →
      W p l e rm s m args below meth c s.heap [] 0 0 Q (F0 m 0 ls [])) : HMv l y (ws_ y cc maxL none) rm D cl tys Z G av post mc ms := fun sz =>
  h_openG hz hy hlen (fun p e s m args below meth c ls hs ha X hr hn hnd hI hl => by
    subst hs
    refine body p e s m args below meth c ls _ _ X hI hnd hn hl (fun {G' H locs ls pc cells slots} hv hI1 hdg h1 h2 => ?_)
    exact W.widen h1 h2 (h_vret (post := post) X hI1 hr hv hdg))
theorem h_openz {y : MethodName} {maxL mc ms : Nat} {rm : Room} {av : List Value} {post : Int32 → HG → Prop} {ty : FieldType} {tys : List (ClassId × FieldType)} {cl : vC2} (hz : ZK Z) (hy : plainName y.cls = true) (hlen : (lg_sl av).length ≤ maxL)
    (body : ∀ (p : Program) (e : Env) (s : State) (m : MethodId) (args : Array Value) (below : List Frame) (meth : Method) (c : Code) (ls : Array Slot) (A0 : Nat → Prop) (Q : State → Prop), XC p s m args meth c cc maxL y.cls D cl tys A0 Z → HI D cl G A0 s.heap s.heap [] → s.methodNamed? y = some m → meth.name = y.name → lv_has ls maxL (lv_args 0 av) →
      (∀ {v : Int32} {G' : HG} {H : Heap} {locs : List Loc} {ls : Array Slot} {pc cells slots : Nat}, narrow ty (.int v) = .int v → post v G' → HI D cl G' A0 s.heap H locs → decode cc pc = .ok (.ireturn, 1) → cells ≤ mc → slots ≤ ms → W p l e rm s m args below meth c H locs cells slots Q (F0 m pc ls [.int v])) →
      W p l e rm s m args below meth c s.heap [] 0 0 Q (F0 m 0 ls [])) : HMi l y (ws_ y cc maxL (some ty)) rm D cl tys Z G av post mc ms := fun sz =>
  h_openG hz hy hlen (fun p e s m args below meth c ls hs ha X hr hn hnd hI hl => by
    subst hs
    refine body p e s m args below meth c ls _ _ X hI hnd hn hl (fun {v G' H locs ls pc cells slots} hnv hv hI1 hdg h1 h2 => ?_)
    exact W.widen h1 h2 (h_zret (post := post) X hI1 hr hnv hv hdg))
theorem h_openq {y : MethodName} {maxL mc ms : Nat} {rm : Room} {av : List Value} {post : Option Nat → HG → Prop} {rt : FieldType} {tys : List (ClassId × FieldType)} {cl : vC2} (hrt : (∃ n, rt = .object n) ∨ ∃ t, rt = .array t) (hz : ZK Z) (hy : plainName y.cls = true) (hlen : (lg_sl av).length ≤ maxL)
    (body : ∀ (p : Program) (e : Env) (s : State) (m : MethodId) (args : Array Value) (below : List Frame) (meth : Method) (c : Code) (ls : Array Slot) (A0 : Nat → Prop) (Q : State → Prop), XC p s m args meth c cc maxL y.cls D cl tys A0 Z → HI D cl G A0 s.heap s.heap [] → s.methodNamed? y = some m → meth.name = y.name → lv_has ls maxL (lv_args 0 av) →
      (∀ {v : Option Nat} {G' : HG} {H : Heap} {locs : List Loc} {ls : Array Slot} {pc cells slots : Nat}, post v G' → HI D cl G' A0 s.heap H locs → decode cc pc = .ok (.areturn, 1) → cells ≤ mc → slots ≤ ms → W p l e rm s m args below meth c H locs cells slots Q (F0 m pc ls [va_rf v])) →
      W p l e rm s m args below meth c s.heap [] 0 0 Q (F0 m 0 ls [])) : HMq l y (ws_ y cc maxL (some rt)) rm D cl tys Z G av post mc ms := fun sz =>
  h_openG hz hy hlen (fun p e s m args below meth c ls hs ha X hr hn hnd hI hl => by
    subst hs
    refine body p e s m args below meth c ls _ _ X hI hnd hn hl (fun {v G' H locs ls pc cells slots} hv hI1 hdg h1 h2 => ?_)
    exact W.widen h1 h2 (h_qret (post := post) X hI1 hr hrt hv hdg))
end HENV
