/-! Z: what is given of tables and static fields, at any place of the run -/
def jZZ (j : JX) (D : va_G) (A : Nat → Prop) (U : State) (H : Heap) : Prop := jZ j A U H ∧ jS j D U ∧ jSt D U
theorem lamFree_warm {s U : State} (hW : s.WarmedH U.vm) {m : MethodId} {pc : Nat} {L : Linked} (h : lamFree s m pc L) : lamFree U m pc L := by
  obtain ⟨kc, i0, p0, h1, h2⟩ := h
  obtain ⟨k', hk', he⟩ := hW.alike.2.2 _ _ h1
  exact ⟨k', i0, p0, hk', by rw [he]; exact h2⟩
theorem named_warm {s U : State} (hW : s.WarmedH U.vm) {y : MethodName} {m : MethodId} (h : s.methodNamed? y = some m) : U.methodNamed? y = some m := by
  have := State.methodNamed?_setVm (s := s) hW.alike y
  rw [h] at this
  exact this
theorem jS_warm {j : JX} {D : va_G} {s U : State} (hW : s.WarmedH U.vm) (h : jS j D s) : jS j D U := by
  intro k y pc index n hk
  obtain ⟨m, hm, h1 | h1⟩ := h k y pc index n hk
  · exact ⟨m, named_warm hW hm, Or.inl ⟨h1.1, lamFree_warm hW h1.2⟩⟩
  · obtain ⟨hn, hf, hid, kc, cf, bsm, nt, name, desc, sig, kK, C, g1, g2, g3, g4, g5, g6, g7, g8, g9⟩ := h1
    obtain ⟨kc', hkc', he⟩ := hW.alike.2.2 _ _ g1
    obtain ⟨kK', hkK', hee⟩ := hW.alike.2.2 _ _ g7
    exact ⟨m, named_warm hW hm, Or.inr ⟨hn, lamFree_warm hW hf, hid, kc', cf, bsm, nt, name, desc, sig, kK', C, hkc', by rw [he]; exact g2, g3, g4, g5, g6, hkK', by rw [hee]; exact g8, by rw [hee]; exact g9⟩⟩
theorem jMade_warm {D : va_G} {s U : State} (hW : s.WarmedH U.vm) {k : Nat} {caller : String} (h : jMade D s k caller) : jMade D U k caller := by
  obtain ⟨⟨d, dk, h1, h2, h3, h4⟩, hid⟩ := h
  obtain ⟨dk', hdk', he⟩ := hW.alike.2.2 _ _ h1
  refine ⟨⟨d, dk', hdk', by rw [he]; exact h2, Lambda.isMade_warmer hW h3, ?_⟩, hid⟩
  have hA := hW.alike
  simp only [State.lambdaCallable, hA.findClass, hA.assignable, hA.superclasses, hA.declaredIn] at h4 ⊢
  exact h4
theorem jFace_warm {s U : State} (hW : s.WarmedH U.vm) {x : MethodName} (hx : x.cls ≠ "java/lang/invoke/MethodHandle" ∧ x.cls ≠ "java/lang/invoke/VarHandle") (h : jFace s x) : jFace U x := by
  obtain ⟨h1, h2⟩ := h
  obtain ⟨r, meth, hn, -⟩ := Cond.declares_spec h1
  have tr : ∀ {c : Cond}, c.onTables = true → c.before #[] (s.setVm U.vm) = true → c.before #[] U = true := by
    intro c hc h
    have e := Cond.onTables_vm (A := #[]) (A' := #[]) (U := s) (U' := U) U.vm c hc
    have hU : U.setVm U.vm = U := rfl
    rw [hU] at e
    rw [← e]
    exact h
  exact ⟨tr rfl (by rw [Cond.declares_setVm hW.alike]; exact h1), tr rfl (by rw [Cond.interfaceMethod_setVm hW.alike (r := r) hn hx]; exact h2)⟩
theorem jSt_warm {D : va_G} {s U : State} (hW : s.WarmedH U.vm) (h : jSt D s) : jSt D U :=
  ⟨fun k hk => jMade_warm hW (h.1 k hk), jFace_warm hW (by decide) h.2.1, jFace_warm hW (by decide) h.2.2.1, jFace_warm hW (by decide) h.2.2.2.1, jFace_warm hW (by decide) h.2.2.2.2.1, jFace_warm hW (by decide) h.2.2.2.2.2.1, jFace_warm hW (by decide) h.2.2.2.2.2.2⟩
theorem jZZ_ok (j : JX) (D : va_G) : ZK (jZZ j D) := by
  refine ⟨fun A u U H hW h => ?_, fun A U H H1 h hq => ?_, fun A B U H h hAB => ?_⟩
  · obtain ⟨⟨h1, h2, h3, h4, h5⟩, h6, h7⟩ := h
    exact ⟨⟨jW_warm hW h1, fun t ht => va_Z.moved hW.alike (h2 t ht), fun t ht => va_Z.moved hW.alike (h3 t ht), fun t ht => vk_R.warm hW (h4 t ht), va_Mi.moved hW.alike h5⟩, jS_warm hW h6, jSt_warm hW h7⟩
  · obtain ⟨⟨h1, h2, h3, h4, h5⟩, h6, h7⟩ := h
    exact ⟨⟨h1, fun t ht => va_Z.kept (h2 t ht) hq, fun t ht => va_Z.kept (h3 t ht) hq, h4, h5⟩, h6, h7⟩
  · obtain ⟨⟨h1, h2, h3, h4, h5⟩, h6, h7⟩ := h
    exact ⟨⟨h1, fun t ht => va_Z.narrow (h2 t ht) hAB, fun t ht => va_Z.narrow (h3 t ht) hAB, h4, h5⟩, h6, h7⟩
/-- lambdas of depth n -/
def jLam (j : JX) : Nat → JLam
  | 0 => jLam0
  | n + 1 => jLamS j (jLam j n)
theorem JE_n {l : Launch} {D : va_G} {j : JX} (fr lo : Nat) : ∀ n : Nat, JE l (jZZ j D) D j (jLam j n) (fr + n * lamF) (lo + n * lamL)
  | 0 => by
    rw [Nat.zero_mul, Nat.zero_mul]
    exact JE_0 (jZZ_ok j D) (fun _ _ _ h => h.1) (fun _ _ _ h => h.2.1) fr lo
  | n + 1 => by
    rw [Nat.succ_mul, Nat.succ_mul, ← Nat.add_assoc, ← Nat.add_assoc]
    exact JE_succ (JE_n fr lo n) (fun _ _ _ h => h.2.2)
