/-! THE COMPONENT: breaks, and what is done with each -/
/-- what may have changed: cells of the list, what was told last, cells past 60; more is frozen -/
def XT (L : List Nat) (k : Nat → Nat) (F c : CE) (k' : Nat → Nat) (F' c' : CE) : Prop :=
  (∀ i, i < 60 → k' i = k i) ∧ CLe F F' ∧ (∀ i, i < 60 → i ≠ 0 → i ∉ L → c' i = c i) ∧
  ∀ cl tp fk fp dr lk lt, c 0 = some (.inr (0, X0f k cl tp fk fp dr lk lt)) → ∃ lt', c' 0 = some (.inr (0, X0f k cl tp fk fp dr lk lt'))
theorem XT.rfl' (L : List Nat) (k : Nat → Nat) (F c : CE) : XT L k F c k F c := ⟨fun _ _ => rfl, CLe.rfl' F, fun _ _ _ _ => rfl, fun _ _ _ _ _ _ lt h => ⟨lt, h⟩⟩
theorem X0f_k {k k' : Nat → Nat} (h : ∀ i, i < 60 → k' i = k i) : X0f k' = X0f k := by
  funext cl tp fk fp dr lk lt
  unfold X0f
  rw [h 17 (by decide), h 27 (by decide), h 26 (by decide), h 15 (by decide), h 16 (by decide), h 13 (by decide), h 14 (by decide), h 11 (by decide), h 1 (by decide), h 2 (by decide), h 9 (by decide), h 12 (by decide), h 10 (by decide)]
theorem X2f_k {k k' : Nat → Nat} (h : ∀ i, i < 60 → k' i = k i) : X2f k' = X2f k := by
  funext rl ol top law odds cells dr lk lines
  unfold X2f
  rw [h 29 (by decide), h 28 (by decide)]
theorem XT.trans {L : List Nat} {k k' k'' : Nat → Nat} {F F' F'' c c' c'' : CE} (h : XT L k F c k' F' c') (g : XT L k' F' c' k'' F'' c'') : XT L k F c k'' F'' c'' :=
  ⟨fun i hi => (g.1 i hi).trans (h.1 i hi), h.2.1.trans g.2.1, fun i h1 h2 h3 => (g.2.2.1 i h1 h2 h3).trans (h.2.2.1 i h1 h2 h3), fun cl tp fk fp dr lk lt e => by
    obtain ⟨lt', e'⟩ := h.2.2.2 cl tp fk fp dr lk lt e
    rw [← X0f_k h.1] at e'
    obtain ⟨lt'', e''⟩ := g.2.2.2 cl tp fk fp dr lk lt' e'
    rw [X0f_k h.1] at e''
    exact ⟨lt'', e''⟩⟩
theorem XT.mono {L L' : List Nat} {k k' : Nat → Nat} {F F' c c' : CE} (h : XT L k F c k' F' c') (hs : ∀ i, i ∈ L → i ∈ L') : XT L' k F c k' F' c' :=
  ⟨h.1, h.2.1, fun i h1 h2 h3 => h.2.2.1 i h1 h2 (fun q => h3 (hs i q)), h.2.2.2⟩
theorem XT.froz {L : List Nat} {k : Nat → Nat} {F F' c : CE} (h : CLe F F') : XT L k F c k F' c := ⟨fun _ _ => rfl, h, fun _ _ _ _ => rfl, fun _ _ _ _ _ _ lt h => ⟨lt, h⟩⟩
section CBREAK
variable {j : JX} {Λ : JLam} {k k' : Nat → Nat} {F F' c c' : CE} {G : HG} {w : WV} {v : NV} {N : Nat} {L : List Nat}
theorem FRule.up {x r l : Nat} (h : FRule F x w r l) (hF : CLe F F') : FRule F' x w r l := hF _ _ h
theorem FStep.up {x r l : Nat} (h : FStep F x w r l) (hF : CLe F F') : FStep F' x w r l := hF _ _ h
theorem FMerge.up {x m l : Nat} (h : FMerge F x m l) (hF : CLe F F') : FMerge F' x m l := hF _ _ h
theorem FL.up {l n : Nat} {f : Nat → Option Nat} (h : FL j F l n f) (hF : CLe F F') : FL j F' l n f := by
  obtain ⟨m, a, cap, h1, h2, h3⟩ := h
  exact ⟨m, a, cap, hF _ _ h1, hF _ _ h2, h3⟩
theorem FTold.up {t kd n : Nat} {g : Nat → Nat} (h : FTold j F t kd n g) (hF : CLe F F') : FTold j F' t kd n g := by
  obtain ⟨a, h1, f, h2, h3⟩ := h
  exact ⟨a, hF _ _ h1, f, hF _ _ h2, h3⟩
theorem CO.xt (C : CO j k F c w v) (h : XT L k F c k' F' c') (h13 : 13 ∉ L) (h14 : 14 ∉ L) (h27 : 27 ∉ L) (h28 : 28 ∉ L) : CO j k' F' c' w v := by
  obtain ⟨⟨cl, tp, fk, fp, lt, g0, gcl⟩, ⟨rl, ol, bdr, blk, g27, ⟨f, f1, f2⟩, ⟨f', f3, f4⟩⟩, C3, ⟨mg, m1, m2⟩, ⟨ru, r1, r2⟩, ⟨su, s1, s2⟩⟩ := C
  obtain ⟨hk, hF, hc, h0⟩ := h
  have e0 := hk 0 (by decide)
  obtain ⟨lt', g0'⟩ := h0 _ _ _ _ _ _ _ g0
  refine ⟨⟨cl, tp, fk, fp, lt', by rw [X0f_k hk]; exact g0', hF _ _ gcl⟩, ⟨rl, ol, bdr, blk, by rw [X2f_k hk, hc 27 (by decide) (by decide) h27]; exact g27, ⟨f, f1.up hF, fun r hr => ?_⟩, ⟨f', f3.up hF, fun r hr => ?_⟩⟩, ?_, ⟨mg, by rw [hk 15 (by decide)]; exact hF _ _ m1, fun m hm => ?_⟩, ⟨ru, by rw [hc 13 (by decide) (by decide) h13]; exact r1, fun r hr => ?_⟩, ⟨su, by rw [hc 14 (by decide) (by decide) h14]; exact s1, fun r hr => ?_⟩⟩
  · obtain ⟨t, t1, t2⟩ := f2 r hr
    exact ⟨t, t1, t2.up hF⟩
  · obtain ⟨t, t1, t2⟩ := f4 r hr
    exact ⟨t, t1, t2.up hF⟩
  · rw [hc 28 (by decide) (by decide) h28]; exact C3
  · obtain ⟨a, l, a1, a2, a3⟩ := m2 m hm
    exact ⟨a, l, a1, hF _ _ a2, by rw [e0]; exact a3.up hF⟩
  · obtain ⟨a, l, a1, a2, a3⟩ := r2 r hr
    exact ⟨a, l, a1, hF _ _ a2, by rw [e0]; exact a3.up hF⟩
  · obtain ⟨a, l, a1, a2, a3⟩ := s2 r hr
    exact ⟨a, l, a1, hF _ _ a2, by rw [e0]; exact a3.up hF⟩
theorem CV.xt {dr : Nat} (V : CV j c w dr) (h : XT L k F c k' F' c') (h11 : 11 ∉ L) : CV j c' w dr := V.of (h.2.2.1 11 (by decide) (by decide) h11)
theorem SX1.xt (S : SX1 j k c) (h : XT L k F c k' F' c') (hL : 1 ∉ L ∧ 3 ∉ L ∧ 4 ∉ L ∧ 5 ∉ L) : SX1 j k' c' := by
  have S' := S.of (h.2.2.1 1 (by decide) (by decide) hL.1) (h.2.2.1 3 (by decide) (by decide) hL.2.1) (h.2.2.1 4 (by decide) (by decide) hL.2.2.1) (h.2.2.1 5 (by decide) (by decide) hL.2.2.2)
  unfold SX1 SD1 at S' ⊢
  rw [h.1 3 (by decide), h.1 4 (by decide), h.1 5 (by decide), h.1 0 (by decide)]
  exact S'
theorem SX2.xt (S : SX2 j k c) (h : XT L k F c k' F' c') (hL : 2 ∉ L ∧ 6 ∉ L ∧ 7 ∉ L ∧ 8 ∉ L) : SX2 j k' c' := by
  have S' := S.of (h.2.2.1 2 (by decide) (by decide) hL.1) (h.2.2.1 6 (by decide) (by decide) hL.2.1) (h.2.2.1 7 (by decide) (by decide) hL.2.2.1) (h.2.2.1 8 (by decide) (by decide) hL.2.2.2)
  unfold SX2 SD2 at S' ⊢
  rw [h.1 6 (by decide), h.1 7 (by decide), h.1 8 (by decide), h.1 0 (by decide)]
  exact S'
theorem SR1.xt {dr wo b d : Nat} (S : SR1 j k c w dr wo b d) (h : XT L k F c k' F' c') (hL : 1 ∉ L ∧ 3 ∉ L ∧ 4 ∉ L ∧ 5 ∉ L) : SR1 j k' c' w dr wo b d := by
  have S' := S.of (h.2.2.1 1 (by decide) (by decide) hL.1) (h.2.2.1 3 (by decide) (by decide) hL.2.1) (h.2.2.1 4 (by decide) (by decide) hL.2.2.1) (h.2.2.1 5 (by decide) (by decide) hL.2.2.2)
  unfold SR1 SD1 at S' ⊢
  rw [h.1 3 (by decide), h.1 4 (by decide), h.1 5 (by decide), h.1 0 (by decide)]
  exact S'
theorem SR2.xt {dr wo b d : Nat} (S : SR2 j k c w dr wo b d) (h : XT L k F c k' F' c') (hL : 2 ∉ L ∧ 6 ∉ L ∧ 7 ∉ L ∧ 8 ∉ L) : SR2 j k' c' w dr wo b d := by
  have S' := S.of (h.2.2.1 2 (by decide) (by decide) hL.1) (h.2.2.1 6 (by decide) (by decide) hL.2.1) (h.2.2.1 7 (by decide) (by decide) hL.2.2.1) (h.2.2.1 8 (by decide) (by decide) hL.2.2.2)
  unfold SR2 SD2 at S' ⊢
  rw [h.1 6 (by decide), h.1 7 (by decide), h.1 8 (by decide), h.1 0 (by decide)]
  exact S'
theorem a_side (h : Rp k F c G) (C : CO j k F c w v) {dr b d : Nat} (S : SR1 j k c w dr 0 b d) {x : Nat} (hx : x < 64) {K : Int32 → Prop} (kk : K (if zlev w dr 0 b d x = true then nI (zfar w dr 0 b x 3) else -1)) : gtQ G (k 0) 0 14 fun q16 => nnq q16 fun a17 => gtQ G a17 3 0 fun q18 => nnq q18 fun a19 => ldI G a19 (j.1 0) (nI x) K := by
  obtain ⟨⟨cl, tp, fk, fp, lt, h0, _⟩, _⟩ := C
  obtain ⟨fa, fi, ro, ⟨s1, s2, s3, s4⟩, r1, r2⟩ := S
  refine gR_c h h0 rfl (nnq_i (gR_c h s1 rfl (nnq_i (ldI_c h s2 hx (by decide) ?_))))
  rw [r1 x hx]; exact kk
theorem a_free (h : Rp k F c G) (C : CO j k F c w v) {dr wo b d : Nat} (S : SR2 j k c w dr wo b d) {x : Nat} (hx : x < 64) {K : Int32 → Prop} (kk : K (if zlev w dr wo b d x = true then nI (zfar w dr wo b x 3) else -1)) : gtQ G (k 0) 0 15 fun q16 => nnq q16 fun a17 => gtQ G a17 3 0 fun q18 => nnq q18 fun a19 => ldI G a19 (j.1 0) (nI x) K := by
  obtain ⟨⟨cl, tp, fk, fp, lt, h0, _⟩, _⟩ := C
  obtain ⟨fa, fi, ro, ⟨s1, s2, s3, s4⟩, r1, r2⟩ := S
  refine gR_c h h0 rfl (nnq_i (gR_c h s1 rfl (nnq_i (ldI_c h s2 hx (by decide) ?_))))
  rw [r1 x hx]; exact kk
theorem far_c {dr wo b d x : Nat} {P Q : Prop} (p : zlev w dr wo b d x = false → P) (q : zlev w dr wo b d x = true → Q) : ((if zlev w dr wo b d x = true then nI (zfar w dr wo b x 3) else -1) = ((-1) : Int32) → P) ∧ (¬ (if zlev w dr wo b d x = true then nI (zfar w dr wo b x 3) else -1) = ((-1) : Int32) → Q) := by
  have hb := zfar_bd w dr wo b x (k := 3) (by omega)
  unfold zFAR at hb
  cases hz : zlev w dr wo b d x with
  | false => exact ⟨fun _ => p hz, fun h => absurd rfl h⟩
  | true => exact ⟨fun h => absurd h (nI_nm1 (by omega)), fun _ => q hz⟩
theorem itf_mono {α : Type} {f : Nat → α → α} (g : α → Nat) (h : ∀ k a, g a ≤ g (f k a)) : ∀ (n i : Nat) (a : α), g a ≤ g (itf f i n a)
  | 0, _, _ => Nat.le_refl _
  | n + 1, i, a => Nat.le_trans (h i a) (itf_mono g h n (i + 1) (f i a))
/-- what is done with a break -/
def CBk (j : JX) (N : Nat) (w : WV) (v : NV) (d p : Nat) {α : Type} (R : α → (Nat → Nat) → CE → CE → Prop) (Fa : Nat → Nat → Nat → α → α) (B : α → Nat × Nat) : Prop :=
  ∀ b x y (a : α) (k : Nat → Nat) (F c : CE) (G : HG) (post : HG → Prop), b < zN w → x < zN w → y < zN w → zbr w v d b x y = true → Rp k F c G → CO j k F c w v → CV j c w v.2.2.1 → SR1 j k c w v.2.2.1 0 b d → R a k F c →
    (∀ k' F' c' G', XT [9, 12] k F c k' F' c' → Rp k' F' c' G' → R (Fa b x y a) k' F' c' → post G') →
    (jLam j (N + 2)).2.2.2.1 p (nI b) (nI x) (nI y) (nI (zmg w v.1 v.2.1 b x y)) ((B (Fa b x y a)).1 - (B a).1) ((B (Fa b x y a)).2 - (B a).2) G post
end CBREAK
