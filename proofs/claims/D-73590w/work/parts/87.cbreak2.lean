/-! THE COMPONENT: all breaks from a base -/
section CBREAK2
variable {j : JX} {w : WV} {v : NV} {N d p : Nat} {α : Type} {R : α → (Nat → Nat) → CE → CE → Prop} {Fa : Nat → Nat → Nat → α → α} {B : α → Nat × Nat}
/-- counted along -/
def zpF (Fa : Nat → Nat → Nat → α → α) (b x y : Nat) (a : α × Nat) : α × Nat := (Fa b x y a.1, a.2 + 1)
theorem zpF_fst (b : Nat) (a : α) (n : Nat) : (zbF w v d (zpF Fa) b (a, n)).1 = zbF w v d Fa b a := zbF_map (fun q : α × Nat => q.1) (fun _ _ _ _ => rfl) b (a, n)
theorem zcF_n (b n : Nat) : zbF w v d (fun _ _ _ n => n + 1) b n = n + zcF w v d b := by
  have := zbF_map (w := w) (v := v) (d := d) (fun m : Nat => n + m) (F := fun _ _ _ n => n + 1) (F' := fun _ _ _ n => n + 1) (fun _ _ _ m => by omega) b 0
  rw [Nat.add_zero] at this
  exact this.symm
theorem zpF_snd (b : Nat) (a : α) (n : Nat) : (zbF w v d (zpF Fa) b (a, n)).2 = n + zcF w v d b := by
  rw [← zcF_n]
  exact zbF_map (fun q : α × Nat => q.2) (fun _ _ _ _ => rfl) b (a, n)
/-- where one stands in the midst -/
def BST (R : α → (Nat → Nat) → CE → CE → Prop) (a0 : Nat) (k0 : Nat → Nat) (F0 c0 : CE) (k : Nat → Nat) (F c : CE) (G : HG) (a : α) : Prop := k 0 = a0 ∧ XT [9, 12] k0 F0 c0 k F c ∧ Rp k F c G ∧ R a k F c
def BBS (j : JX) (w : WV) (v : NV) (b d : Nat) (k0 : Nat → Nat) (F0 c0 : CE) : Prop := CO j k0 F0 c0 w v ∧ CV j c0 w v.2.2.1 ∧ SR1 j k0 c0 w v.2.2.1 0 b d ∧ SR2 j k0 c0 w v.2.2.1 v.2.2.2 b d
theorem BBS.xt {b : Nat} {k0 k : Nat → Nat} {F0 c0 F c : CE} (h : BBS j w v b d k0 F0 c0) (g : XT [9, 12] k0 F0 c0 k F c) : BBS j w v b d k F c :=
  ⟨h.1.xt g (by decide) (by decide) (by decide) (by decide), h.2.1.xt g (by decide), h.2.2.1.xt g (by decide), h.2.2.2.xt g (by decide)⟩
theorem c_bf44 (hg : GW w) (hvg : VG v) (K : CBk j N w v d p R Fa B) (hB : ∀ b x y a, (B a).1 ≤ (B (Fa b x y a)).1 ∧ (B a).2 ≤ (B (Fa b x y a)).2) {b x : Nat} (hb : b < zN w) (hx : x < zN w) (hlx : zlev w v.2.2.1 0 b d x = true) {a0 : Nat} {k0 : Nat → Nat} {F0 c0 : CE} (H0 : BBS j w v b d k0 F0 c0) {post : Int32 → HG → Prop} {K31 : Int32 → Int32 → Nat → Nat → HG → Prop} {M1 M2 : Nat} {fin : α × Nat}
    (kk : ∀ k F c G, BST R a0 k0 F0 c0 k F c G fin.1 → K31 (nI fin.2) (nI (x + 1)) (M1 - (B fin.1).1) (M2 - (B fin.1).2) G) (hM : (B fin.1).1 ≤ M1 ∧ (B fin.1).2 ≤ M2) {p2 : Int32} :
    ∀ r y k F c G a n, y + r = zN w → BST R a0 k0 F0 c0 k F c G a → itf (fun y a => if zbr w v d b x y = true then zpF Fa b x y a else a) y r (a, n) = fin →
      hX0_breaksFrom_l44 j (jLam j (N + 2)) a0 (nI b) p2 p post K31 (r + 1) (nI n) (nI x) (nI y) (M1 - (B a).1) (M2 - (B a).2) G
  | 0, y, k, F, c, G, a, n, h1, S, hf => by
    have hN := zN_le hg
    obtain ⟨e0, hX, h, hR⟩ := S
    obtain ⟨C, V, S1, S2⟩ := H0.xt hX
    subst e0
    show hX0_breaksFrom_b44 _ _ _ _ _ _ _ _ _ _ _ _ _ _ _
    refine a_0 h C (c_states0 h C hg (le_c (by omega) (by omega) (fun _ => ?_) (fun q => by omega)))
    unfold hX0_breaksFrom_b158
    have hf' : (a, n) = fin := hf
    subst hf'
    rw [nI_1]
    exact kk k F c G ⟨rfl, hX, h, hR⟩
  | r + 1, y, k, F, c, G, a, n, h1, S, hf => by
    have hN := zN_le hg
    have S' := S
    obtain ⟨e0, hX, h, hR⟩ := S
    obtain ⟨C, V, S1, S2⟩ := H0.xt hX
    subst e0
    rw [itf_s] at hf
    have hmono : ∀ a n, (B a).1 ≤ (B (itf (fun y a => if zbr w v d b x y = true then zpF Fa b x y a else a) (y + 1) r (a, n)).1).1 ∧ (B a).2 ≤ (B (itf (fun y a => if zbr w v d b x y = true then zpF Fa b x y a else a) (y + 1) r (a, n)).1).2 := fun a n =>
      ⟨itf_mono (fun q : α × Nat => (B q.1).1) (fun y a => by split <;> first | exact (hB _ _ _ _).1 | exact Nat.le_refl _) r (y + 1) (a, n), itf_mono (fun q : α × Nat => (B q.1).2) (fun y a => by split <;> first | exact (hB _ _ _ _).2 | exact Nat.le_refl _) r (y + 1) (a, n)⟩
    have skip : zbr w v d b x y = false → hX0_breaksFrom_b152 j (jLam j (N + 2)) (k 0) (nI b) p2 p post K31 (hX0_breaksFrom_l44 j (jLam j (N + 2)) (k 0) (nI b) p2 p post K31 (r + 1)) (nI n) (nI x) (nI y) (M1 - (B a).1) (M2 - (B a).2) G := fun hz => by
      unfold hX0_breaksFrom_b152
      rw [nI_1]
      rw [if_neg (by rw [hz]; decide)] at hf
      exact c_bf44 hg hvg K hB hb hx hlx H0 kk hM r (y + 1) k F c G a n (by omega) S' hf
    have hit : zlev w v.2.2.1 0 b d y = true → (zlev w v.2.2.1 v.2.2.2 b d x || zlev w v.2.2.1 v.2.2.2 b d y) = true → hX0_breaksFrom_b112 j (jLam j (N + 2)) (k 0) (nI b) p2 p post K31 (hX0_breaksFrom_l44 j (jLam j (N + 2)) (k 0) (nI b) p2 p post K31 (r + 1)) (nI n) (nI x) (nI y) (M1 - (B a).1) (M2 - (B a).2) G := fun hy hor => by
      unfold hX0_breaksFrom_b112
      refine a_0 h C (c_mergeOf h C hg hvg hb hx (by omega) (a_valid h C hg V (zmg_lt w v.1 v.2.1 b x y) (zb_0 (fun hz => ?_) (fun hz => ?_))))
      · have hbr : zbr w v d b x y = true := by unfold zbr; rw [hlx, hy, hor, hz]; rfl
        rw [if_pos hbr] at hf
        have hm := hmono (Fa b x y a) (n + 1)
        have hfin : (itf (fun y a => if zbr w v d b x y = true then zpF Fa b x y a else a) (y + 1) r (Fa b x y a, n + 1)) = fin := hf
        rw [hfin] at hm
        have hB1 := hB b x y a
        refine ⟨(B (Fa b x y a)).1 - (B a).1, (B (Fa b x y a)).2 - (B a).2, by omega, by omega, K b x y a k F c G _ hb hx (by omega) hbr h C V S1 hR (fun k' F' c' G' hX' h' hR' => ?_)⟩
        unfold hX0_breaksFrom_b152
        rw [nI_1, nI_1, show M1 - (B a).1 - ((B (Fa b x y a)).1 - (B a).1) = M1 - (B (Fa b x y a)).1 by omega, show M2 - (B a).2 - ((B (Fa b x y a)).2 - (B a).2) = M2 - (B (Fa b x y a)).2 by omega]
        exact c_bf44 hg hvg K hB hb hx hlx H0 kk hM r (y + 1) k' F' c' G' (Fa b x y a) (n + 1) (by omega) ⟨hX'.1 0 (by decide), hX.trans hX', h', hR'⟩ hfin
      · exact skip (by unfold zbr; rw [hz]; simp)
    show hX0_breaksFrom_b44 _ _ _ _ _ _ _ _ _ _ _ _ _ _ _
    refine a_0 h C (c_states0 h C hg (le_c (by omega) (by omega) (fun q => by omega) (fun _ => a_side h C S1 (by omega) (far_c (fun q => ?_) (fun _ => a_side h C S1 (by omega) (far_c (fun q => ?_) (fun q => a_free h C S2 (by omega) (far_c (fun q2 => a_free h C S2 (by omega) (far_c (fun q3 => ?_) (fun q3 => ?_))) (fun q2 => ?_))))))))) 
    · rw [hlx] at q; cases q
    · exact skip (by unfold zbr; rw [q]; simp)
    · exact skip (by unfold zbr; rw [q2, q3]; simp)
    · exact hit q (by rw [q3]; simp)
    · exact hit q (by rw [q2]; simp)
theorem c_bf31 (hg : GW w) (hvg : VG v) (K : CBk j N w v d p R Fa B) (hB : ∀ b x y a, (B a).1 ≤ (B (Fa b x y a)).1 ∧ (B a).2 ≤ (B (Fa b x y a)).2) {b : Nat} (hb : b < zN w) {a0 : Nat} {k0 : Nat → Nat} {F0 c0 : CE} (H0 : BBS j w v b d k0 F0 c0) {post : Int32 → HG → Prop} {M1 M2 : Nat} {fin : α × Nat}
    (kk : ∀ k F c G, BST R a0 k0 F0 c0 k F c G fin.1 → post (nI fin.2) G) (hM : (B fin.1).1 ≤ M1 ∧ (B fin.1).2 ≤ M2) {p2 : Int32} :
    ∀ r x k F c G a n, x + r = zN w → BST R a0 k0 F0 c0 k F c G a → itf (fun x a => itf (fun y a => if zbr w v d b x y = true then zpF Fa b x y a else a) x (zN w - x) a) x r (a, n) = fin →
      hX0_breaksFrom_l31 j (jLam j (N + 2)) a0 (nI b) p2 p post (r + 1) (nI n) (nI x) (M1 - (B a).1) (M2 - (B a).2) G
  | 0, x, k, F, c, G, a, n, h1, S, hf => by
    have hN := zN_le hg
    obtain ⟨e0, hX, h, hR⟩ := S
    obtain ⟨C, V, S1, S2⟩ := H0.xt hX
    subst e0
    show hX0_breaksFrom_b31 _ _ _ _ _ _ _ _ _ _ _ _ _
    have hf' : (a, n) = fin := hf
    subst hf'
    exact a_0 h C (c_states0 h C hg (le_c (by omega) (by omega) (fun _ => kk k F c G ⟨rfl, hX, h, hR⟩) (fun q => by omega)))
  | r + 1, x, k, F, c, G, a, n, h1, S, hf => by
    have hN := zN_le hg
    have S' := S
    obtain ⟨e0, hX, h, hR⟩ := S
    obtain ⟨C, V, S1, S2⟩ := H0.xt hX
    subst e0
    rw [itf_s] at hf
    show hX0_breaksFrom_b31 _ _ _ _ _ _ _ _ _ _ _ _ _
    refine a_0 h C (c_states0 h C hg (le_c (by omega) (by omega) (fun q => by omega) (fun _ => ⟨zN w - x + 1, ?_⟩)))
    have hmono : ∀ q : α × Nat, (B q.1).1 ≤ (B (itf (fun x a => itf (fun y a => if zbr w v d b x y = true then zpF Fa b x y a else a) x (zN w - x) a) (x + 1) r q).1).1 ∧ (B q.1).2 ≤ (B (itf (fun x a => itf (fun y a => if zbr w v d b x y = true then zpF Fa b x y a else a) x (zN w - x) a) (x + 1) r q).1).2 := fun q =>
      ⟨itf_mono (fun q : α × Nat => (B q.1).1) (fun x a => itf_mono (fun q : α × Nat => (B q.1).1) (fun y a => by split <;> first | exact (hB _ _ _ _).1 | exact Nat.le_refl _) _ _ _) r (x + 1) q, itf_mono (fun q : α × Nat => (B q.1).2) (fun x a => itf_mono (fun q : α × Nat => (B q.1).2) (fun y a => by split <;> first | exact (hB _ _ _ _).2 | exact Nat.le_refl _) _ _ _) r (x + 1) q⟩
    by_cases hlx : zlev w v.2.2.1 0 b d x = true
    · have hm := hmono (itf (fun y a => if zbr w v d b x y = true then zpF Fa b x y a else a) x (zN w - x) (a, n))
      rw [hf] at hm
      exact c_bf44 hg hvg K hB hb (by omega) hlx H0 (fun k' F' c' G' S2 => c_bf31 hg hvg K hB hb H0 kk hM r (x + 1) k' F' c' G' _ _ (by omega) S2 hf) ⟨by omega, by omega⟩ (zN w - x) x k F c G a n (by omega) S' rfl
    · -- nothing from here: the inner loop ends at once
      have hz := Bool.eq_false_iff.mpr hlx
      have hid : itf (fun y a => if zbr w v d b x y = true then zpF Fa b x y a else a) x (zN w - x) (a, n) = (a, n) := itf_id _ _ _ (fun y a _ _ => by
        rw [if_neg]
        unfold zbr
        rw [hz]; simp)
      rw [hid] at hf
      show hX0_breaksFrom_b44 _ _ _ _ _ _ _ _ _ _ _ _ _ _ _
      refine a_0 h C (c_states0 h C hg (le_c (by omega) (by omega) (fun q => by omega) (fun _ => a_side h C S1 (by omega) (far_c (fun q => ?_) (fun q => ?_)))))
      · unfold hX0_breaksFrom_b158
        rw [nI_1]
        exact c_bf31 hg hvg K hB hb H0 kk hM r (x + 1) k F c G a n (by omega) S' hf
      · rw [hz] at q; cases q
/-- all breaks from a base -/
theorem c_breaksFrom (hg : GW w) (hvg : VG v) (hd : d ≤ 3) (K : CBk j N w v d p R Fa B) (hB : ∀ b x y a, (B a).1 ≤ (B (Fa b x y a)).1 ∧ (B a).2 ≤ (B (Fa b x y a)).2) {b : Nat} (hb : b < zN w) {k : Nat → Nat} {F c : CE} {G : HG} {a : α} (h : Rp k F c G) (C : CO j k F c w v) (V : CV j c w v.2.2.1) (S1 : SX1 j k c) (S2 : SX2 j k c) (hR : R a k F c)
    (hRs : ∀ a k F c c', R a k F c → (∀ q, q ∉ [1, 2, 3, 4, 5, 6, 7, 8] → c' q = c q) → R a k F c') {mc ms : Nat} (hM : (B (zbF w v d Fa b a)).1 ≤ mc + (B a).1 ∧ (B (zbF w v d Fa b a)).2 ≤ ms + (B a).2) {post : Int32 → HG → Prop}
    (kk : ∀ k' F' c' G', XT [1, 2, 3, 4, 5, 6, 7, 8, 9, 12] k F c k' F' c' → Rp k' F' c' G' → SX1 j k' c' → SX2 j k' c' → R (zbF w v d Fa b a) k' F' c' → post (nI (zcF w v d b)) G') :
    hX0_breaksFrom j (jLam j (N + 2)) (k 0) (nI b) (nI d) p mc ms G post := by
  have C' := C
  obtain ⟨⟨cl, tp, fk, fp, lt, h0, _⟩, _⟩ := C'
  have S1' := S1
  obtain ⟨m1, fa1, fi1, ro1, s1, _⟩ := S1'
  refine gR_c h h0 rfl (nnq_i (isO_c h s1 (c_sideOf1 (N := N + 1) (wo := 0) hg h C V S1 hb hd (by decide) (fun G1 c1 h1 R1 e1 => ?_))))
  have X1 : XT [1, 2, 3, 4, 5, 6, 7, 8, 9, 12] k F c k F c1 := ⟨fun _ _ => rfl, CLe.rfl' F, fun i _ _ hi => by
    simp only [List.mem_cons, List.not_mem_nil, or_false, not_or] at hi
    exact e1 i (by omega) (by omega) (by omega) (by omega), fun _ _ _ _ _ _ lt q => ⟨lt, by rw [e1 0 (by decide) (by decide) (by decide) (by decide)]; exact q⟩⟩
  have C1 := C.xt X1 (by decide) (by decide) (by decide) (by decide)
  have V1 := V.xt X1 (by decide)
  have S21 : SX2 j k c1 := S2.of (e1 2 (by decide) (by decide) (by decide) (by decide)) (e1 6 (by decide) (by decide) (by decide) (by decide)) (e1 7 (by decide) (by decide) (by decide) (by decide)) (e1 8 (by decide) (by decide) (by decide) (by decide))
  have h01 : c1 0 = some (.inr (0, X0f k cl tp fk fp (nI v.2.2.1) (nI v.2.2.2) lt)) := by rw [e1 0 (by decide) (by decide) (by decide) (by decide)]; exact h0
  have S2' := S21
  obtain ⟨m2, fa2, fi2, ro2, s2, _⟩ := S2'
  refine gR_c h1 h01 rfl (gI_c h1 h01 rfl (nnq_i (isO_c h1 s2 (c_sideOf2 (N := N + 1) hg h1 C1 V1 S21 hb hd hvg.2.2.1 (fun G2 c2 h2 R2 e2 => ?_)))))
  have X2 : XT [1, 2, 3, 4, 5, 6, 7, 8, 9, 12] k F c1 k F c2 := ⟨fun _ _ => rfl, CLe.rfl' F, fun i _ _ hi => by
    simp only [List.mem_cons, List.not_mem_nil, or_false, not_or] at hi
    exact e2 i (by omega) (by omega) (by omega) (by omega), fun _ _ _ _ _ _ lt q => ⟨lt, by rw [e2 0 (by decide) (by decide) (by decide) (by decide)]; exact q⟩⟩
  have C2 := C1.xt X2 (by decide) (by decide) (by decide) (by decide)
  have V2 := V1.xt X2 (by decide)
  have R12 : SR1 j k c2 w v.2.2.1 0 b d := R1.of (e2 1 (by decide) (by decide) (by decide) (by decide)) (e2 3 (by decide) (by decide) (by decide) (by decide)) (e2 4 (by decide) (by decide) (by decide) (by decide)) (e2 5 (by decide) (by decide) (by decide) (by decide))
  have hR2 : R a k F c2 := hRs a k F c c2 hR (fun q hq => by
    simp only [List.mem_cons, List.not_mem_nil, or_false, not_or] at hq
    rw [e2 q (by omega) (by omega) (by omega) (by omega), e1 q (by omega) (by omega) (by omega) (by omega)])
  have H0 : BBS j w v b d k F c2 := ⟨C2, V2, R12, R2⟩
  refine ⟨zN w + 1, ?_⟩
  have e := c_bf31 (a0 := k 0) (M1 := mc + (B a).1) (M2 := ms + (B a).2) (fin := zbF w v d (zpF Fa) b (a, 0)) (post := post) (p2 := nI d) hg hvg K hB hb H0 (fun k' F' c' G' S => by
    obtain ⟨_, hX', h', hR'⟩ := S
    rw [zpF_snd, Nat.zero_add]
    rw [zpF_fst] at hR'
    exact kk k' F' c' G' ((X1.trans X2).trans (hX'.mono (by decide))) h' (R12.xt hX' (by decide)).x (R2.xt hX' (by decide)).x hR') (by rw [zpF_fst]; exact hM) (zN w) 0 k F c2 G2 a 0 (by omega) ⟨rfl, XT.rfl' _ _ _ _, h2, hR2⟩ rfl
  rw [Nat.add_sub_cancel, Nat.add_sub_cancel] at e
  exact e
end CBREAK2
