/-! THE COMPONENT's HEAP: cells that change stand by number (k says where), frozen ones by address -/
abbrev CE : Type := Nat → Option va_E
def cup (c : CE) (i : Nat) (e : va_E) : CE := fun j => if j = i then some e else c j
def cdn (c : CE) (i : Nat) : CE := fun j => if j = i then none else c j
def kup (k : Nat → Nat) (i q : Nat) : Nat → Nat := fun j => if j = i then q else k j
theorem cup_s (c : CE) (i : Nat) (e : va_E) : cup c i e i = some e := if_pos rfl
theorem cup_n (c : CE) {i j : Nat} (e : va_E) (h : j ≠ i) : cup c i e j = c j := if_neg h
theorem kup_n (k : Nat → Nat) {i j : Nat} (q : Nat) (h : j ≠ i) : kup k i q j = k j := if_neg h
theorem kup_s (k : Nat → Nat) (i q : Nat) : kup k i q i = q := if_pos rfl
def Rp (k : Nat → Nat) (F c : CE) (G : HG) : Prop :=
  (∀ i e, c i = some e → G (k i) = some (true, e) ∧ F (k i) = none) ∧ (∀ i j e e', c i = some e → c j = some e' → k i = k j → i = j) ∧ ∀ a x, F a = some x → ∃ b, G a = some (b, x)
section RPS
variable {k : Nat → Nat} {F c : CE} {G G' : HG} {i a q : Nat} {e e0 x : va_E} {b : Bool}
theorem Rp.at (h : Rp k F c G) (hc : c i = some e) : G (k i) = some (true, e) := (h.1 i e hc).1
theorem Rp.fz (h : Rp k F c G) (hf : F a = some x) : ∃ b, G a = some (b, x) := h.2.2 a x hf
theorem Rp.ne (h : Rp k F c G) (hc : c i = some e) (hq : G q = none) : k i ≠ q := fun r => by rw [← r, h.at hc] at hq; cases hq
theorem Rp.nf (h : Rp k F c G) (hq : G q = none) : F q = none := by
  cases hf : F q with
  | none => rfl
  | some x => obtain ⟨b, hb⟩ := h.fz hf; rw [hb] at hq; cases hq
theorem Rp.set (h : Rp k F c G) (hc : c i = some e0) (hG : G' = hup G (k i) (true, e)) : Rp k F (cup c i e) G' := by
  subst hG
  refine ⟨fun j x hj => ?_, fun j l x y hj hl hk => ?_, fun a x hf => ?_⟩
  · unfold cup at hj
    by_cases hji : j = i
    · rw [if_pos hji] at hj
      injection hj with hj
      subst hj hji
      exact ⟨hup_s _ _ _, (h.1 j e0 hc).2⟩
    · rw [if_neg hji] at hj
      refine ⟨?_, (h.1 j x hj).2⟩
      rw [hup_n _ _ (fun r => hji (h.2.1 j i x e0 hj hc r))]
      exact h.at hj
  · have hj' : ∃ x, c j = some x := by
      unfold cup at hj
      by_cases q : j = i
      · exact ⟨e0, q ▸ hc⟩
      · rw [if_neg q] at hj; exact ⟨x, hj⟩
    have hl' : ∃ x, c l = some x := by
      unfold cup at hl
      by_cases q : l = i
      · exact ⟨e0, q ▸ hc⟩
      · rw [if_neg q] at hl; exact ⟨y, hl⟩
    obtain ⟨x', hx'⟩ := hj'
    obtain ⟨y', hy'⟩ := hl'
    exact h.2.1 j l x' y' hx' hy' hk
  · obtain ⟨b, hb⟩ := h.fz hf
    refine ⟨b, ?_⟩
    rw [hup_n _ _ (fun r => by rw [r, (h.1 i e0 hc).2] at hf; cases hf)]
    exact hb
theorem Rp.junk {y : Bool × va_E} (h : Rp k F c G) (hq : G q = none) (hG : G' = hup G q y) : Rp k F c G' := by
  subst hG
  refine ⟨fun j x hj => ⟨?_, (h.1 j x hj).2⟩, h.2.1, fun a x hf => ?_⟩
  · rw [hup_n _ _ (h.ne hj hq)]; exact h.at hj
  · obtain ⟨b, hb⟩ := h.fz hf
    refine ⟨b, ?_⟩
    rw [hup_n _ _ (fun r => by rw [r, h.nf hq] at hf; cases hf)]
    exact hb
theorem Rp.frz (h : Rp k F c G) (hq : G q = none) (hG : G' = hup G q (b, e)) : Rp k (cup F q e) c G' := by
  have h1 := h.junk hq hG
  refine ⟨fun j x hj => ⟨h1.at hj, ?_⟩, h1.2.1, fun a x hf => ?_⟩
  · rw [cup_n _ _ (h.ne hj hq)]; exact (h.1 j x hj).2
  · unfold cup at hf
    by_cases r : a = q
    · rw [if_pos r] at hf
      injection hf with hf
      subst hf r hG
      exact ⟨b, hup_s _ _ _⟩
    · rw [if_neg r] at hf; exact h1.fz hf
theorem Rp.born (h : Rp k F c G) (hq : G q = none) (hi : c i = none) (hG : G' = hup G q (true, e)) : Rp (kup k i q) F (cup c i e) G' := by
  have h1 := h.junk hq hG
  refine ⟨fun j x hj => ?_, fun j l x y hj hl hk => ?_, h1.2.2⟩
  · unfold cup at hj
    by_cases r : j = i
    · rw [if_pos r] at hj
      injection hj with hj
      subst hj r
      rw [kup_s]
      subst hG
      exact ⟨hup_s _ _ _, h.nf hq⟩
    · rw [if_neg r] at hj
      rw [kup_n _ _ r]
      exact h1.1 j x hj
  · unfold cup at hj hl
    by_cases r : j = i
    · by_cases r2 : l = i
      · rw [r, r2]
      · rw [if_neg r2] at hl
        rw [r, kup_s, kup_n _ _ r2] at hk
        exact absurd hk.symm (h.ne hl hq)
    · rw [if_neg r] at hj
      by_cases r2 : l = i
      · rw [r2, kup_s, kup_n _ _ r] at hk
        exact absurd hk (h.ne hj hq)
      · rw [if_neg r2] at hl
        rw [kup_n _ _ r, kup_n _ _ r2] at hk
        exact h.2.1 j l x y hj hl hk
/-- a thing made is done: it is frozen -/
theorem Rp.ice (h : Rp k F c G) (hc : c i = some e) : Rp k (cup F (k i) e) (cdn c i) G := by
  refine ⟨fun j x hj => ?_, fun j l x y hj hl hk => ?_, fun a x hf => ?_⟩
  · unfold cdn at hj
    by_cases r : j = i
    · rw [if_pos r] at hj; cases hj
    · rw [if_neg r] at hj
      refine ⟨h.at hj, ?_⟩
      rw [cup_n _ _ (fun s => r (h.2.1 j i x e hj hc s))]
      exact (h.1 j x hj).2
  · unfold cdn at hj hl
    by_cases r : j = i
    · rw [if_pos r] at hj; cases hj
    · rw [if_neg r] at hj
      by_cases r2 : l = i
      · rw [if_pos r2] at hl; cases hl
      · rw [if_neg r2] at hl
        exact h.2.1 j l x y hj hl hk
  · unfold cup at hf
    by_cases r : a = k i
    · rw [if_pos r] at hf
      injection hf with hf
      subst hf
      exact ⟨true, by rw [r]; exact h.at hc⟩
    · rw [if_neg r] at hf; exact h.fz hf
theorem Rp.drop (h : Rp k F c G) (i : Nat) : Rp k F (cdn c i) G := by
  refine ⟨fun j x hj => ?_, fun j l x y hj hl hk => ?_, h.2.2⟩
  · unfold cdn at hj
    by_cases r : j = i
    · rw [if_pos r] at hj; cases hj
    · rw [if_neg r] at hj; exact h.1 j x hj
  · unfold cdn at hj hl
    by_cases r : j = i
    · rw [if_pos r] at hj; cases hj
    · rw [if_neg r] at hj
      by_cases r2 : l = i
      · rw [if_pos r2] at hl; cases hl
      · rw [if_neg r2] at hl
        exact h.2.1 j l x y hj hl hk
end RPS
/-- more is frozen than before -/
def CLe (F F' : CE) : Prop := ∀ a x, F a = some x → F' a = some x
theorem CLe.rfl' (F : CE) : CLe F F := fun _ _ h => h
theorem CLe.trans {F F' F'' : CE} (h : CLe F F') (g : CLe F' F'') : CLe F F'' := fun a x q => g a x (h a x q)
theorem CLe.up {F : CE} {q : Nat} (e : va_E) (h : F q = none) : CLe F (cup F q e) := fun a x hf => by
  rw [cup_n _ _ (fun r => by rw [r, h] at hf; cases hf)]
  exact hf
/-! what a step asks, out of what stands there -/
section RPC
variable {k : Nat → Nat} {F c : CE} {G : HG} {i a ci n : Nat} {fs : List Value}
theorem gI_c (h : Rp k F c G) (hc : c i = some (.inr (ci, fs))) {x : Int32} (hk : fs[n]? = some (.int x)) {K : Int32 → Prop} (kk : K x) : gtI G (k i) ci n K := ⟨true, fs, x, h.at hc, hk, kk⟩
theorem gR_c (h : Rp k F c G) (hc : c i = some (.inr (ci, fs))) {q : Nat} (hk : fs[n]? = some (.ref q)) {K : Option Nat → Prop} (kk : K (some q)) : gtQ G (k i) ci n K := ⟨true, fs, some q, h.at hc, hk, kk⟩
theorem gN_c (h : Rp k F c G) (hc : c i = some (.inr (ci, fs))) (hk : fs[n]? = some .null) {K : Option Nat → Prop} (kk : K none) : gtQ G (k i) ci n K := ⟨true, fs, none, h.at hc, hk, kk⟩
theorem gI_f (h : Rp k F c G) (hf : F a = some (.inr (ci, fs))) {x : Int32} (hk : fs[n]? = some (.int x)) {K : Int32 → Prop} (kk : K x) : gtI G a ci n K := by
  obtain ⟨b, hb⟩ := h.fz hf
  exact ⟨b, fs, x, hb, hk, kk⟩
theorem gR_f (h : Rp k F c G) (hf : F a = some (.inr (ci, fs))) {q : Nat} (hk : fs[n]? = some (.ref q)) {K : Option Nat → Prop} (kk : K (some q)) : gtQ G a ci n K := by
  obtain ⟨b, hb⟩ := h.fz hf
  exact ⟨b, fs, some q, hb, hk, kk⟩
theorem gN_f (h : Rp k F c G) (hf : F a = some (.inr (ci, fs))) (hk : fs[n]? = some .null) {K : Option Nat → Prop} (kk : K none) : gtQ G a ci n K := by
  obtain ⟨b, hb⟩ := h.fz hf
  exact ⟨b, fs, none, hb, hk, kk⟩
theorem isO_c (h : Rp k F c G) (hc : c i = some (.inr (ci, fs))) {K : Prop} (kk : K) : isO G (k i) ci K := ⟨true, fs, h.at hc, kk⟩
theorem isO_f (h : Rp k F c G) (hf : F a = some (.inr (ci, fs))) {K : Prop} (kk : K) : isO G a ci K := by
  obtain ⟨b, hb⟩ := h.fz hf
  exact ⟨b, fs, hb, kk⟩
theorem nnq_i {q : Nat} {K : Nat → Prop} (kk : K q) : nnq (some q) K := ⟨q, rfl, kk⟩
theorem pt_c (h : Rp k F c G) (hc : c i = some (.inr (ci, fs))) (hn : n < fs.length) {v : Value} {K : HG → Prop} (kk : ∀ G', Rp k F (cup c i (.inr (ci, fs.set n v))) G' → K G') : ptV G (k i) ci n v K :=
  ⟨fs, h.at hc, hn, fun G' hG => kk G' (h.set hc hG)⟩
theorem ldI_c (h : Rp k F c G) {t : ClassId} {N : Nat} {f : Nat → Int32} (hc : c i = some (.inl (t, N, .inl f))) {j : Nat} (hj : j < N) (hN : N < 2 ^ 31) {K : Int32 → Prop} (kk : K (f j)) : ldI G (k i) t (nI j) K :=
  ⟨true, N, f, h.at hc, vp_in_nI hj hN, by rw [nI_clamp (by omega)]; exact kk⟩
theorem ldI_f (h : Rp k F c G) {t : ClassId} {N : Nat} {f : Nat → Int32} (hf : F a = some (.inl (t, N, .inl f))) {j : Nat} (hj : j < N) (hN : N < 2 ^ 31) {K : Int32 → Prop} (kk : K (f j)) : ldI G a t (nI j) K := by
  obtain ⟨b, hb⟩ := h.fz hf
  exact ⟨b, N, f, hb, vp_in_nI hj hN, by rw [nI_clamp (by omega)]; exact kk⟩
theorem stI_c (h : Rp k F c G) {t : ClassId} {N : Nat} {f : Nat → Int32} (hc : c i = some (.inl (t, N, .inl f))) {j : Nat} (hj : j < N) (hN : N < 2 ^ 31) {v : Int32} {K : HG → Prop} (kk : ∀ G', Rp k F (cup c i (.inl (t, N, .inl (upd f j v)))) G' → K G') : stI G (k i) t (nI j) v K :=
  ⟨N, f, h.at hc, vp_in_nI hj hN, fun G' hG => kk G' (by rw [nI_clamp (by omega)] at hG; exact h.set hc hG)⟩
theorem ldQ_c {tys : List (ClassId × FieldType)} (h : Rp k F c G) {t0 : Nat} {cA : ClassId} {C : String} (ht : tys[t0]? = some (cA, .object C)) {N : Nat} {f : Nat → Option Nat} (hc : c i = some (.inl (cA, N, .inr (.inr (.inr (.inr f)))))) {j : Nat} (hj : j < N) (hN : N < 2 ^ 31) {K : Option Nat → Prop} (kk : K (f j)) : ldQ tys G (k i) (nI j) K :=
  ⟨true, t0, cA, C, N, f, ht, h.at hc, vp_in_nI hj hN, fun o ho => by rw [nI_clamp (by omega)] at ho; rw [ho]; exact kk⟩
theorem ldQ_f {tys : List (ClassId × FieldType)} (h : Rp k F c G) {t0 : Nat} {cA : ClassId} {C : String} (ht : tys[t0]? = some (cA, .object C)) {N : Nat} {f : Nat → Option Nat} (hf : F a = some (.inl (cA, N, .inr (.inr (.inr (.inr f)))))) {j : Nat} (hj : j < N) (hN : N < 2 ^ 31) {K : Option Nat → Prop} (kk : K (f j)) : ldQ tys G a (nI j) K := by
  obtain ⟨b, hb⟩ := h.fz hf
  exact ⟨b, t0, cA, C, N, f, ht, hb, vp_in_nI hj hN, fun o ho => by rw [nI_clamp (by omega)] at ho; rw [ho]; exact kk⟩
end RPC
/-- a loop of the component: by how often it goes on -/
theorem lpH {A : Type} (L : Nat → A → Prop) (B : (A → Prop) → A → Prop) (hL : ∀ n a, L (n + 1) a = B (L n) a) (P : Nat → A → Prop)
    (hz : ∀ K a, P 0 a → B K a) (hs : ∀ r K a, P (r + 1) a → (∀ a', P r a' → K a') → B K a) : ∀ r a, P r a → L (r + 1) a
  | 0, a, h => by rw [hL]; exact hz _ a h
  | r + 1, a, h => by rw [hL]; exact hs r _ a h (fun a' h' => lpH L B hL P hz hs r a' h')
