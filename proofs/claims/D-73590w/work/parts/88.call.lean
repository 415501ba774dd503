/-! THE COMPONENT: all breaks, whether it is safe -/
section CALL
variable {j : JX} {w : WV} {v : NV} {N d p : Nat} {α : Type} {R : α → (Nat → Nat) → CE → CE → Prop} {Fa : Nat → Nat → Nat → α → α} {B : α → Nat × Nat} {Λ : JLam}
theorem zbA_s (F : Nat → Nat → Nat → α → α) (a : α) : zbA w v d F a = itf (fun b a => zbF w v d F b a) 0 (zN w) a := rfl
theorem zcA_sum : zcA w v d = itf (fun b n => n + zcF w v d b) 0 (zN w) 0 := by
  unfold zcA zbA
  exact itf_congr _ _ _ (fun b n _ _ => zcF_n b n)
/-- where one stands between bases -/
def BTT (R : α → (Nat → Nat) → CE → CE → Prop) (j : JX) (a0 : Nat) (k0 : Nat → Nat) (F0 c0 : CE) (k : Nat → Nat) (F c : CE) (G : HG) (a : α) : Prop := k 0 = a0 ∧ XT [1, 2, 3, 4, 5, 6, 7, 8, 9, 12] k0 F0 c0 k F c ∧ Rp k F c G ∧ SX1 j k c ∧ SX2 j k c ∧ R a k F c
theorem c_through (hg : GW w) (hvg : VG v) (hd : d ≤ 3) (K : CBk j N w v d p R Fa B) (hB : ∀ b x y a, (B a).1 ≤ (B (Fa b x y a)).1 ∧ (B a).2 ≤ (B (Fa b x y a)).2) {k0 : Nat → Nat} {F0 c0 : CE} {G0 : HG} {a0 : α} (h : Rp k0 F0 c0 G0) (C : CO j k0 F0 c0 w v) (V : CV j c0 w v.2.2.1) (S1 : SX1 j k0 c0) (S2 : SX2 j k0 c0) (hR : R a0 k0 F0 c0)
    (hRs : ∀ a k F c c', R a k F c → (∀ q, q ∉ [1, 2, 3, 4, 5, 6, 7, 8] → c' q = c q) → R a k F c') {mc ms : Nat} (hM : (B (zbA w v d Fa a0)).1 ≤ mc + (B a0).1 ∧ (B (zbA w v d Fa a0)).2 ≤ ms + (B a0).2) {post : Int32 → HG → Prop}
    (kk : ∀ k' F' c' G', XT [1, 2, 3, 4, 5, 6, 7, 8, 9, 12] k0 F0 c0 k' F' c' → Rp k' F' c' G' → SX1 j k' c' → SX2 j k' c' → R (zbA w v d Fa a0) k' F' c' → post (nI (zcA w v d)) G') :
    hX0_through j (jLam j (N + 2)) (k0 0) (nI d) p mc ms G0 post := by
  have hN := zN_le hg
  have hmono : ∀ b a, (B a).1 ≤ (B (zbF w v d Fa b a)).1 ∧ (B a).2 ≤ (B (zbF w v d Fa b a)).2 := fun b a =>
    ⟨itf_mono (fun q : α => (B q).1) (fun x a => itf_mono (fun q : α => (B q).1) (fun y a => by split <;> first | exact (hB _ _ _ _).1 | exact Nat.le_refl _) _ _ _) _ _ a, itf_mono (fun q : α => (B q).2) (fun x a => itf_mono (fun q : α => (B q).2) (fun y a => by split <;> first | exact (hB _ _ _ _).2 | exact Nat.le_refl _) _ _ _) _ _ a⟩
  have main : ∀ r b k F c G a n, b + r = zN w → BTT R j (k0 0) k0 F0 c0 k F c G a → itf (fun b a => zbF w v d Fa b a) b r a = zbA w v d Fa a0 → itf (fun b n => n + zcF w v d b) b r n = zcA w v d →
      hX0_through_l5 j (jLam j (N + 2)) (k0 0) (nI d) p post (r + 1) (nI n) (nI b) (mc + (B a0).1 - (B a).1) (ms + (B a0).2 - (B a).2) G := by
    intro r
    induction r with
    | zero =>
      intro b k F c G a n hb S hfa hfn
      obtain ⟨e0, hX, h', S1', S2', hR'⟩ := S
      have C' := C.xt hX (by decide) (by decide) (by decide) (by decide)
      have hfa' : a = zbA w v d Fa a0 := hfa
      have hfn' : n = zcA w v d := hfn
      rw [hfa'] at hR'
      show hX0_through_b5 _ _ _ _ _ _ _ _ _ _ _ _
      rw [← e0]
      refine a_0 h' C' (c_states0 h' C' hg (le_c (by omega) (by omega) (fun _ => ?_) (fun q => by omega)))
      rw [hfn']
      exact kk k F c G hX h' S1' S2' hR'
    | succ r ih =>
      intro b k F c G a n hb S hfa hfn
      obtain ⟨e0, hX, h', S1', S2', hR'⟩ := S
      have C' := C.xt hX (by decide) (by decide) (by decide) (by decide)
      have V' := V.xt hX (by decide)
      rw [itf_s] at hfa hfn
      have m1 : (B (zbF w v d Fa b a)).1 ≤ (B (zbA w v d Fa a0)).1 := by rw [← hfa]; exact itf_mono (fun q : α => (B q).1) (fun b a => (hmono b a).1) _ _ _
      have m2 : (B (zbF w v d Fa b a)).2 ≤ (B (zbA w v d Fa a0)).2 := by rw [← hfa]; exact itf_mono (fun q : α => (B q).2) (fun b a => (hmono b a).2) _ _ _
      have m3 := hmono b a
      show hX0_through_b5 _ _ _ _ _ _ _ _ _ _ _ _
      rw [← e0]
      refine a_0 h' C' (c_states0 h' C' hg (le_c (by omega) (by omega) (fun q => by omega) (fun _ => a_0 h' C' ⟨(B (zbF w v d Fa b a)).1 - (B a).1, (B (zbF w v d Fa b a)).2 - (B a).2, by omega, by omega, c_breaksFrom hg hvg hd K hB (show b < zN w by omega) h' C' V' S1' S2' hR' hRs ⟨by omega, by omega⟩ (fun k2 F2 c2 G2 hX2 h2 S12 S22 hR2 => ?_)⟩)))
      rw [nI_add, nI_1, show mc + (B a0).1 - (B a).1 - ((B (zbF w v d Fa b a)).1 - (B a).1) = mc + (B a0).1 - (B (zbF w v d Fa b a)).1 by omega, show ms + (B a0).2 - (B a).2 - ((B (zbF w v d Fa b a)).2 - (B a).2) = ms + (B a0).2 - (B (zbF w v d Fa b a)).2 by omega, e0]
      exact ih (b + 1) k2 F2 c2 G2 _ _ (by omega) ⟨(hX2.1 0 (by decide)).trans e0, hX.trans hX2, h2, S12, S22, hR2⟩ hfa hfn
  have e := main (zN w) 0 k0 F0 c0 G0 a0 0 (by omega) ⟨rfl, XT.rfl' _ _ _ _, h, S1, S2, hR⟩ rfl zcA_sum.symm
  rw [Nat.add_sub_cancel, Nat.add_sub_cancel] at e
  exact ⟨zN w + 1, e⟩
/-! what only tells -/
/-- the made object at p tells, by its site -/
def RTell (ci p : Nat) (_ : Unit) (k : Nat → Nat) (F _c : CE) : Prop := F p = some (.inr (ci, [.ref (k 0)]))
theorem c_tells {k : Nat → Nat} {F c : CE} {G : HG} (h : Rp k F c G) (C : CO j k F c w v) {x : Int32} {post : HG → Prop} (kk : ∀ c' G', XT [9, 12] k F c k F c' → Rp k F c' G' → post G') : hX0_tells j Λ (k 0) x G post := by
  obtain ⟨⟨cl, tp, fk, fp, lt, h0, _⟩, _⟩ := C
  refine pt_c h h0 (by show 16 < 20; decide) (fun G' h' => kk _ G' ⟨fun _ _ => rfl, CLe.rfl' F, fun i _ i0 _ => cup_n _ _ i0, fun cl' tp' fk' fp' dr' lk' lt' q => ?_⟩ h')
  rw [h0] at q
  refine ⟨x, ?_⟩
  rw [cup_s]
  have q' : (X0f k cl tp fk fp (nI v.2.2.1) (nI v.2.2.2) lt) = X0f k cl' tp' fk' fp' dr' lk' lt' := by
    injection q with q
    injection q with q
    injection q with _ q
  rw [q']
  rfl
theorem CBk_tells {ci : Nat} (hc : ci = 41 ∨ ci = 43 ∨ ci = 45) : CBk j N w v d p (RTell ci p) (fun _ _ _ _ => ()) (fun _ => (0, 0)) := by
  intro b x y a k F c G post hb hx hy hbr h C V S hR kk
  obtain ⟨bq, hq⟩ := h.fz hR
  have ho := c_obj h C
  have fin : hX0_tells j (jLam j (N + 1)) (k 0) (nI (zmg w v.1 v.2.1 b x y)) G post := c_tells h C (fun c' G' hX h' => kk k F c' G' hX h' hR)
  show lamP_18 j (jLam j (N + 1)) p _ _ _ _ _ _ G post ∨ lamP_20 j (jLam j (N + 1)) p _ _ _ _ _ _ G post ∨ lamP_21 j (jLam j (N + 1)) p _ _ _ _ _ _ G post ∨ lamP_22 j (jLam j (N + 1)) p _ _ _ _ _ _ G post ∨ _
  rcases hc with rfl | rfl | rfl
  · exact Or.inl ⟨bq, k 0, hq, ho, ⟨rfl, rfl⟩, a_0 h C fin⟩
  · exact Or.inr (Or.inl ⟨bq, k 0, hq, ho, ⟨rfl, rfl⟩, a_0 h C fin⟩)
  · exact Or.inr (Or.inr (Or.inr (Or.inl ⟨bq, k 0, hq, ho, ⟨rfl, rfl⟩, a_0 h C fin⟩)))
theorem cfresh {k : Nat → Nat} {F c : CE} {G G' : HG} {q : Nat} {b : Bool} {e : va_E} (h : Rp k F c G) (hq : G q = none) (hG : G' = hup G q (b, e)) (L : List Nat) : Rp k (cup F q e) c G' ∧ XT L k F c k (cup F q e) c := ⟨h.frz hq hG, XT.froz (CLe.up e (h.nf hq))⟩
/-- all breaks: how many -/
theorem c_allIn (hg : GW w) (hvg : VG v) (hd : d ≤ 3) {k : Nat → Nat} {F c : CE} {G : HG} (h : Rp k F c G) (C : CO j k F c w v) (V : CV j c w v.2.2.1) (S1 : SX1 j k c) (S2 : SX2 j k c) {mc ms : Nat} (hm : 1 ≤ mc ∧ 1 ≤ ms) {post : Int32 → HG → Prop}
    (kk : ∀ k' F' c' G', XT [1, 2, 3, 4, 5, 6, 7, 8, 9, 12] k F c k' F' c' → Rp k' F' c' G' → SX1 j k' c' → SX2 j k' c' → post (nI (zcA w v d)) G') : hX0_allIn j (jLam j (N + 2)) (k 0) (nI d) mc ms G post := by
  refine ⟨hm.1, hm.2, fun q hq G' hG => ?_⟩
  obtain ⟨h', hX⟩ := cfresh h hq hG [1, 2, 3, 4, 5, 6, 7, 8, 9, 12]
  have C' := C.xt hX (by decide) (by decide) (by decide) (by decide)
  refine a_0 h' C' ⟨0, 0, Nat.zero_le _, Nat.zero_le _, c_through (R := RTell 43 q) (Fa := fun _ _ _ _ => ()) (B := fun _ => (0, 0)) (a0 := ()) hg hvg hd (CBk_tells (Or.inr (Or.inl rfl))) (fun _ _ _ _ => ⟨Nat.le_refl _, Nat.le_refl _⟩) h' C' V S1 S2 (cup_s _ _ _) (fun _ _ _ _ _ q _ => q) ⟨Nat.le_refl _, Nat.le_refl _⟩ (fun k2 F2 c2 G2 hX2 h2 S12 S22 _ => kk k2 F2 c2 G2 (hX.trans hX2) h2 S12 S22)⟩
/-- no break at all -/
theorem c_isSafe (hg : GW w) (hvg : VG v) (hd : d ≤ 3) {k : Nat → Nat} {F c : CE} {G : HG} (h : Rp k F c G) (C : CO j k F c w v) (V : CV j c w v.2.2.1) (S1 : SX1 j k c) (S2 : SX2 j k c) {mc ms : Nat} (hm : 64 ≤ mc ∧ 64 ≤ ms) {post : Int32 → HG → Prop}
    (kk : ∀ k' F' c' G', XT [1, 2, 3, 4, 5, 6, 7, 8, 9, 12] k F c k' F' c' → Rp k' F' c' G' → SX1 j k' c' → SX2 j k' c' → post (nI (zb1 (decide (zcA w v d = 0)))) G') : hX0_isSafe j (jLam j (N + 2)) (k 0) (nI d) mc ms G post := by
  have hN := zN_le hg
  have pos : ∀ r b n, itf (fun b n => n + zcF w v d b) b r n = 0 → n = 0 := fun r b n hq => by
    have := itf_mono (f := fun b n => n + zcF w v d b) (fun n : Nat => n) (fun b n => Nat.le_add_right _ _) r b n
    omega
  have main : ∀ r b k' F' c' G' mc ms, b + r = zN w → r ≤ mc → r ≤ ms → k' 0 = k 0 → XT [1, 2, 3, 4, 5, 6, 7, 8, 9, 12] k F c k' F' c' → Rp k' F' c' G' → SX1 j k' c' → SX2 j k' c' → itf (fun b n => n + zcF w v d b) b r 0 = zcA w v d →
      hX0_isSafe_l2 j (jLam j (N + 2)) (k 0) (nI d) post (r + 1) (nI b) mc ms G' := by
    intro r
    induction r with
    | zero =>
      intro b k' F' c' G' mc ms hb h1 h2 e0 hX h' S1' S2' hf
      have C' := C.xt hX (by decide) (by decide) (by decide) (by decide)
      show hX0_isSafe_b2 _ _ _ _ _ _ _ _ _ _
      rw [← e0]
      refine a_0 h' C' (c_states0 h' C' hg (le_c (by omega) (by omega) (fun _ => ?_) (fun q => by omega)))
      have hf' : 0 = zcA w v d := hf
      have := kk k' F' c' G' hX h' S1' S2'
      rw [← hf'] at this
      exact this
    | succ r ih =>
      intro b k' F' c' G' mc ms hb h1 h2 e0 hX h' S1' S2' hf
      have C' := C.xt hX (by decide) (by decide) (by decide) (by decide)
      have V' := V.xt hX (by decide)
      rw [itf_s] at hf
      show hX0_isSafe_b2 _ _ _ _ _ _ _ _ _ _
      rw [← e0]
      refine a_0 h' C' (c_states0 h' C' hg (le_c (by omega) (by omega) (fun q => by omega) (fun _ => ⟨by omega, by omega, fun q hq G2 hG => ?_⟩)))
      obtain ⟨h2', hX2⟩ := cfresh h' hq hG [1, 2, 3, 4, 5, 6, 7, 8, 9, 12]
      have C2 := C'.xt hX2 (by decide) (by decide) (by decide) (by decide)
      have hcF := zcF_le w v d b
      have hN2 := zN2 hg
      refine a_0 h2' C2 ⟨0, 0, Nat.zero_le _, Nat.zero_le _, c_breaksFrom (R := RTell 45 q) (Fa := fun _ _ _ _ => ()) (B := fun _ => (0, 0)) (a := ()) hg hvg hd (CBk_tells (Or.inr (Or.inr rfl))) (fun _ _ _ _ => ⟨Nat.le_refl _, Nat.le_refl _⟩) (show b < zN w by omega) h2' C2 V' S1' S2' (cup_s _ _ _) (fun _ _ _ _ _ q _ => q) ⟨Nat.le_refl _, Nat.le_refl _⟩ (fun k3 F3 c3 G3 hX3 h3 S13 S23 _ => ?_)⟩
      refine le_c (b := 0) (by omega) (by omega) (fun q => ?_) (fun q => ?_)
      · rw [nI_1, ← e0.symm]
        have hz : zcF w v d b = 0 := by omega
        rw [hz] at hf
        exact ih (b + 1) k3 F3 c3 G3 _ _ (by omega) (by omega) (by omega) ((hX3.1 0 (by decide)).trans e0) ((hX.trans hX2).trans hX3) h3 S13 S23 hf
      · have := kk k3 F3 c3 G3 ((hX.trans hX2).trans hX3) h3 S13 S23
        rw [decide_eq_false (fun hz => by rw [hz] at hf; have := pos r (b + 1) _ hf; omega)] at this
        exact this
  exact ⟨zN w + 1, main (zN w) 0 k F c G mc ms (by omega) (by omega) (by omega) rfl (XT.rfl' _ _ _ _) h S1 S2 zcA_sum.symm⟩
end CALL
