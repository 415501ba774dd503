/-! THE COMPONENT: merges, valid states, counting -/
theorem cup_cup (c : CE) (i : Nat) (e e' : va_E) : cup (cup c i e) i e' = cup c i e' := by
  funext q
  unfold cup
  split <;> rfl
theorem upd_same {f g : Nat → Int32} {i : Nat} {x : Int32} (h : ∀ q, q ≠ i → f q = g q) (hx : f i = x) : ∀ q, f q = upd g i x q := fun q => by
  unfold upd
  by_cases r : q = i
  · rw [if_pos r, r, hx]
  · rw [if_neg r]; exact h q r
section CMERGE
variable {j : JX} {Λ : JLam} {k : Nat → Nat} {F c : CE} {G : HG} {w : WV} {v : NV} {N : Nat}
theorem aln_c {tys : List (ClassId × FieldType)} (h : Rp k F c G) {i t0 : Nat} {cA : ClassId} {ty : FieldType} {x : vp_A} (ht : tys[t0]? = some (cA, ty)) (hc : c i = some (.inl (cA, x))) {K : Int32 → Prop} (kk : K (nI x.1)) : aln tys G (k i) K := ⟨true, t0, cA, x, ty, ht, h.at hc, kk⟩
theorem aln_f {tys : List (ClassId × FieldType)} (h : Rp k F c G) {a t0 : Nat} {cA : ClassId} {ty : FieldType} {x : vp_A} (ht : tys[t0]? = some (cA, ty)) (hf : F a = some (.inl (cA, x))) {K : Int32 → Prop} (kk : K (nI x.1)) : aln tys G a K := by
  obtain ⟨b, hb⟩ := h.fz hf
  exact ⟨b, t0, cA, x, ty, ht, hb, kk⟩
theorem max_c {x y : Nat} (hx : x < 2 ^ 31) (hy : y < 2 ^ 31) : (if nI x < nI y then nI y else nI x) = nI (max x y) := by
  by_cases q : x < y
  · rw [if_pos (nI_lt q hy), Nat.max_eq_right (by omega)]
  · rw [if_neg (nI_nlt (by omega) hx), Nat.max_eq_left (by omega)]
theorem min_c {x y : Nat} (hx : x < 2 ^ 31) (hy : y < 2 ^ 31) : (if nI y < nI x then nI y else nI x) = nI (min x y) := by
  by_cases q : y < x
  · rw [if_pos (nI_lt q hx), Nat.min_eq_right (by omega)]
  · rw [if_neg (nI_nlt (by omega) hy), Nat.min_eq_left (by omega)]
/-- what clashes -/
theorem c_clash (h : Rp k F c G) (hvg : v.2.1 ≤ 3) {cl : Nat} (hf : F cl = some (.inr (23 + v.2.1, []))) {b x y : Nat} (hb : b < 2 ^ 20) (hx : x < 2 ^ 20) (hy : y < 2 ^ 20) {post : Int32 → HG → Prop} (kk : post (nI (if v.2.1 = 0 then x else if v.2.1 = 1 then y else if v.2.1 = 2 then max x y else b)) G) : (jLam j (N + 1)).1 cl (nI b) (nI x) (nI y) G post := by
  obtain ⟨bq, hq⟩ := h.fz hf
  show lamP_0 j (jLam j N) cl (nI b) (nI x) (nI y) G post ∨ lamP_1 j (jLam j N) cl (nI b) (nI x) (nI y) G post ∨ lamP_2 j (jLam j N) cl (nI b) (nI x) (nI y) G post ∨ lamP_3 j (jLam j N) cl (nI b) (nI x) (nI y) G post ∨ _
  generalize v.2.1 = law at hq kk hvg
  by_cases k0 : law = 0
  · subst k0; exact Or.inl ⟨bq, hq, rfl, kk⟩
  · by_cases k1 : law = 1
    · subst k1; exact Or.inr (Or.inl ⟨bq, hq, rfl, kk⟩)
    · by_cases k2 : law = 2
      · subst k2
        refine Or.inr (Or.inr (Or.inl ⟨bq, hq, rfl, ?_⟩))
        rw [max_c (by omega) (by omega)]
        exact kk
      · obtain rfl : law = 3 := by omega
        exact Or.inr (Or.inr (Or.inr (Or.inl ⟨bq, hq, rfl, kk⟩)))
theorem c_mergeV (h : Rp k F c G) (C : CO j k F c w v) (hg : GW w) (hvg : VG v) {m l : Nat} (hm : m ≤ 3) (hl : FMerge F (k 0) m l) {b x y : Nat} (hb : b < 2 ^ 20) (hx : x < 2 ^ 20) (hy : y < 2 ^ 20) {post : Int32 → HG → Prop} (kk : post (nI (zmv w v.2.1 m b x y)) G) : (jLam j (N + 2)).1 l (nI b) (nI x) (nI y) G post := by
  have h0 := hg.1
  have ho := c_obj h C
  unfold FMerge at hl
  unfold zmv at kk
  show lamP_0 j (jLam j (N + 1)) l (nI b) (nI x) (nI y) G post ∨ lamP_1 j (jLam j (N + 1)) l (nI b) (nI x) (nI y) G post ∨ lamP_2 j (jLam j (N + 1)) l (nI b) (nI x) (nI y) G post ∨ lamP_3 j (jLam j (N + 1)) l (nI b) (nI x) (nI y) G post ∨ lamP_4 j (jLam j (N + 1)) l (nI b) (nI x) (nI y) G post ∨ lamP_5 j (jLam j (N + 1)) l (nI b) (nI x) (nI y) G post ∨ lamP_6 j (jLam j (N + 1)) l (nI b) (nI x) (nI y) G post ∨ lamP_7 j (jLam j (N + 1)) l (nI b) (nI x) (nI y) G post
  refine Or.inr (Or.inr (Or.inr (Or.inr ?_)))
  by_cases k0 : m = 0
  · rw [if_pos k0] at hl kk
    obtain ⟨bq, hq⟩ := h.fz hl
    refine Or.inl ⟨bq, hq, rfl, ?_⟩
    rw [max_c (by omega) (by omega)]
    exact kk
  · rw [if_neg k0] at hl kk
    refine Or.inr ?_
    by_cases k1 : m = 1
    · rw [if_pos k1] at hl kk
      obtain ⟨bq, hq⟩ := h.fz hl
      refine Or.inl ⟨bq, hq, rfl, ?_⟩
      rw [min_c (by omega) (by omega)]
      exact kk
    · rw [if_neg k1] at hl kk
      refine Or.inr ?_
      by_cases k2 : m = 2
      · rw [if_pos k2] at hl kk
        obtain ⟨bq, hq⟩ := h.fz hl
        refine Or.inl ⟨bq, k 0, hq, ho, a_top h C ⟨rfl, ?_⟩⟩
        rw [nI_sums (by omega) hb hx hy]
        exact kk
      · rw [if_neg k2] at hl kk
        obtain ⟨bq, hq⟩ := h.fz hl
        unfold zlate at kk
        refine Or.inr ⟨bq, k 0, hq, ho, eq_c (by omega) (by omega) (fun q => ?_) (fun q => eq_c (by omega) (by omega) (fun r => ?_) (fun r => ?_))⟩
        · rw [if_pos q] at kk; exact ⟨rfl, kk⟩
        · rw [if_neg q, if_pos r] at kk; exact ⟨rfl, kk⟩
        · rw [if_neg q, if_neg r] at kk
          obtain ⟨⟨cl, tp, fk, fp, lt, h00, hcl⟩, _⟩ := C
          exact gR_c h h00 rfl (nnq_i (c_clash h hvg.1 hcl hb hx hy ⟨rfl, kk⟩))
theorem c_mergeOf (h : Rp k F c G) (C : CO j k F c w v) (hg : GW w) (hvg : VG v) {b x y : Nat} (hb : b < zN w) (hx : x < zN w) (hy : y < zN w) {post : Int32 → HG → Prop} (kk : post (nI (zmg w v.1 v.2.1 b x y)) G) : hX0_mergeOf j (jLam j (N + 2)) (k 0) (nI b) (nI x) (nI y) G post := by
  have h3 := hg.2.2.2.1
  have h0 := hg.1
  have hN := zN_le hg
  refine ⟨w 3 + 1, lpH (A := Int32 × Int32 × HG) (fun n p => hX0_mergeOf_l6 j (jLam j (N + 2)) (k 0) (nI b) (nI x) (nI y) post n p.1 p.2.1 p.2.2) (fun K p => hX0_mergeOf_b6 j (jLam j (N + 2)) (k 0) (nI b) (nI x) (nI y) post (fun a i G => K (a, i, G)) p.1 p.2.1 p.2.2) (fun _ _ => rfl) (fun r p => ∃ i, p = (nI (zmgn w v.1 v.2.1 b x y i), nI i, G) ∧ i + r = w 3) ?_ ?_ (w 3) (0, 0, G) ⟨0, rfl, by omega⟩⟩
  · rintro K p ⟨i, rfl, hi⟩
    obtain rfl : i = w 3 := by omega
    exact a_cells h C (le_c (by omega) (by omega) (fun _ => kk) (fun q => by omega))
  · rintro r K p ⟨i, rfl, hi⟩ hk
    have b1 := zvl_le w b i
    have b2 := zvl_le w x i
    have b3 := zvl_le w y i
    have hmi := hvg.2.2.2 i (by omega)
    refine a_cells h C (le_c (by omega) (by omega) (fun q => by omega) (fun _ => a_0 h C (c_unit h C hg (by omega) ?_)))
    have C' := C
    obtain ⟨⟨cl, tp, fk, fp, lt, h00, hcl⟩, ⟨rl, ol, bdr, blk, h1, _⟩, ⟨mf, m1, m2⟩, ⟨f, f1, f2⟩, _⟩ := C'
    obtain ⟨a, l, e1, e2, e3⟩ := f2 (v.1 i) (by omega)
    refine gR_c h h00 rfl (a_now h C (gR_c h h1 rfl (nnq_i (ldI_c h m1 (by omega) (by omega) ?_))))
    rw [m2 i (by omega)]
    refine nnq_i (ldQ_f (t0 := 7) (tys := jty j.1) h rfl f1 (by omega) (by omega) ?_)
    rw [e1]
    refine nnq_i (gR_f h e2 rfl (a_0 h C (c_valueOf h C hg (by omega) (by omega) (a_0 h C (c_valueOf h C hg (by omega) (by omega) (a_0 h C (c_valueOf h C hg (by omega) (by omega) (nnq_i (c_mergeV h C hg hvg hmi e3 (by omega) (by omega) (by omega) (hk _ ⟨i + 1, ?_, by omega⟩))))))))))
    show (nI (zmgn w v.1 v.2.1 b x y i) + nI (zT w ^ i) * nI (zmv w v.2.1 (v.1 i) (zvl w b i) (zvl w x i) (zvl w y i)), nI i + 1, G) = _
    rw [pk_mul, nI_add, nI_1]
    rfl
theorem c_validsNow (h : Rp k F c G) (C : CO j k F c w v) (hg : GW w) {dr : Nat} (V : CV j c w dr) {post : Int32 → HG → Prop} (kk : post (nI (zcv w dr)) G) : hX0_validsNow j Λ (k 0) G post := by
  have hN := zN_le hg
  refine ⟨zN w + 1, lpH (A := Int32 × Int32 × HG) (fun n p => hX0_validsNow_l4 j Λ (k 0) post n p.1 p.2.1 p.2.2) (fun K p => hX0_validsNow_b4 j Λ (k 0) post (fun a i G => K (a, i, G)) p.1 p.2.1 p.2.2) (fun _ _ => rfl) (fun r p => ∃ i a, p = (nI a, nI i, G) ∧ i + r = zN w ∧ itf (fun s a => a + zb1 (zval w dr s)) i r a = zcv w dr) ?_ ?_ (zN w) (0, 0, G) ⟨0, 0, rfl, by omega, rfl⟩⟩
  · rintro K p ⟨i, a, rfl, hi, ha⟩
    refine a_0 h C (c_states0 h C hg (le_c (by omega) (by omega) (fun _ => ?_) (fun q => by omega)))
    rw [← ha] at kk
    exact kk
  · rintro r K p ⟨i, a, rfl, hi, ha⟩ hk
    refine a_0 h C (c_states0 h C hg (le_c (by omega) (by omega) (fun q => by omega) (fun _ => a_valid h C hg V (by omega) (zb_0 (fun q => ?_) (fun q => ?_)))))
    · refine hk _ ⟨i + 1, a + zb1 (zval w dr i), ?_, by omega, ha⟩
      show (nI a + nI 0, nI i + 1, G) = _
      rw [nI_add, nI_1, q]; rfl
    · refine hk _ ⟨i + 1, a + zb1 (zval w dr i), ?_, by omega, ha⟩
      show (nI a + nI 1, nI i + 1, G) = _
      rw [nI_add, nI_1, q]; rfl
/-- the object itself says other things, all else is as it was -/
theorem CO.of0 {c' : CE} {v' : NV} (C : CO j k F c w v) (h0 : ∃ cl tp fk fp lt, c' 0 = some (.inr (0, X0f k cl tp fk fp (nI v'.2.2.1) (nI v'.2.2.2) lt)) ∧ F cl = some (.inr (23 + v'.2.1, []))) (hv : v'.1 = v.1) (h13 : c' 13 = c 13) (h14 : c' 14 = c 14) (h27 : c' 27 = c 27) (h28 : c' 28 = c 28) : CO j k F c' w v' := by
  obtain ⟨_, C2, C3, C4, C5, C6⟩ := C
  refine ⟨h0, ?_, ?_, C4, ?_, ?_⟩
  · rw [h27]; exact C2
  · rw [h28, hv]; exact C3
  · rw [h13]; exact C5
  · rw [h14]; exact C6
theorem CO.of {c' : CE} (C : CO j k F c w v) (h0 : c' 0 = c 0) (h13 : c' 13 = c 13) (h14 : c' 14 = c 14) (h27 : c' 27 = c 27) (h28 : c' 28 = c 28) : CO j k F c' w v := by
  unfold CO at C ⊢
  rw [h0, h13, h14, h27, h28]
  exact C
/-- which states are valid is laid -/
theorem c_countsL (hg : GW w) (hvg : VG v) {p1 : Int32} {post : HG → Prop} (vf0 : Nat → Int32) (h : Rp k F c G) (C : CO j k F c w v) (hc : c 11 = some (.inl (j.1 1, 64, .inl vf0)))
    (kk : ∀ G' vf, Rp k F (cup c 11 (.inl (j.1 1, 64, .inl vf))) G' → (∀ s, s < zN w → vf s = nI (zb1 (zval w v.2.2.1 s))) → post G') : ∃ n, hX0_counts_l7 j (jLam j (N + 1)) (k 0) p1 post n (0 : Int32) G := by
  have hN := zN_le hg
  refine ⟨zN w + 1, lpH (A := Int32 × HG) (fun n p => hX0_counts_l7 j (jLam j (N + 1)) (k 0) p1 post n p.1 p.2) (fun K p => hX0_counts_b7 j (jLam j (N + 1)) (k 0) p1 post (fun i G => K (i, G)) p.1 p.2) (fun _ _ => rfl) (fun r p => ∃ i vf, p.1 = nI i ∧ i + r = zN w ∧ Rp k F (cup c 11 (.inl (j.1 1, 64, .inl vf))) p.2 ∧ ∀ s, s < i → vf s = nI (zb1 (zval w v.2.2.1 s))) ?_ ?_ (zN w) (0, G) ⟨0, vf0, rfl, by omega, ?_, fun s hs => absurd hs (Nat.not_lt_zero _)⟩⟩
  · rintro K ⟨p1', G1⟩ ⟨i, vf, rfl, hi, hR, hv⟩
    have C1 : CO j k F (cup c 11 (.inl (j.1 1, 64, .inl vf))) w v := C.of (cup_n _ _ (by decide)) (cup_n _ _ (by decide)) (cup_n _ _ (by decide)) (cup_n _ _ (by decide)) (cup_n _ _ (by decide))
    exact a_0 hR C1 (c_states0 hR C1 hg (le_c (by omega) (by omega) (fun _ => kk G1 vf hR (fun s hs => hv s (by omega))) (fun q => by omega)))
  · rintro r K ⟨p1', G1⟩ ⟨i, vf, rfl, hi, hR, hv⟩ hk
    have C1 : CO j k F (cup c 11 (.inl (j.1 1, 64, .inl vf))) w v := C.of (cup_n _ _ (by decide)) (cup_n _ _ (by decide)) (cup_n _ _ (by decide)) (cup_n _ _ (by decide)) (cup_n _ _ (by decide))
    have C1' := C1
    obtain ⟨⟨cl, tp, fk, fp, lt, h00, hcl⟩, _⟩ := C1'
    have st : ∀ (b : Bool), zval w v.2.2.1 i = b → hX0_counts_b34 j (jLam j (N + 1)) (k 0) p1 post (fun i G => K (i, G)) (nI i) (some (k 11)) (nI i) (nI (zb1 b)) G1 := fun b hb =>
      nnq_i (stI_c hR (cup_s _ _ _) (by omega) (by omega) (fun G2 hR2 => hk _ ⟨i + 1, upd vf i (vp_nar .boolean (nI (zb1 b))), nI_1 i, by omega, by rw [cup_cup] at hR2; exact hR2, fun s hs => by
        unfold upd
        by_cases q : s = i
        · rw [if_pos q, q, hb]; cases b <;> rfl
        · rw [if_neg q]; exact hv s (by omega)⟩))
    refine a_0 hR C1 (c_states0 hR C1 hg (le_c (by omega) (by omega) (fun q => by omega) (fun _ => gR_c hR h00 rfl (a_0 hR C1 (c_breaksIn hR C1 hg hvg (by omega) ?_)))))
    refine ⟨fun q => st true ?_, fun q => st false ?_⟩
    · exact (zval_brk w v.2.2.1 i).mpr ((oN_none (fun r hr => by have := zbrk_lt hr; have := hg.2.2.2.2.1; omega)).mp q)
    · refine Bool.eq_false_iff.mpr (fun r => q ?_)
      rw [(zval_brk w v.2.2.1 i).mp r]; rfl
  · have e : cup c 11 (.inl (j.1 1, 64, .inl vf0)) = c := by
      funext q
      unfold cup
      by_cases r : q = 11
      · rw [if_pos r, r, hc]
      · rw [if_neg r]
    rw [e]; exact h
/-- some rules do not count -/
theorem c_counts (hg : GW w) (hvg : VG v) {d dr0 : Nat} (hd : d < 32) (h : Rp k F c G) (C : CO j k F c w v) (V : CV j c w dr0) {post : HG → Prop}
    (kk : ∀ G' c', Rp k F c' G' → CO j k F c' w (v.1, v.2.1, d, v.2.2.2) → CV j c' w d → (∀ i, i ≠ 0 → i ≠ 11 → c' i = c i) → post G') : hX0_counts j (jLam j (N + 1)) (k 0) (nI d) G post := by
  have C' := C
  obtain ⟨⟨cl, tp, fk, fp, lt, h00, hcl⟩, _⟩ := C'
  obtain ⟨vf0, v1, v2⟩ := V
  refine pt_c h h00 (by show 12 < 20; decide) (fun G1 h1 => ?_)
  have e0 : (cup c 0 (.inr (0, (X0f k cl tp fk fp (nI v.2.2.1) (nI v.2.2.2) lt).set 12 (.int (nI d))))) = cup c 0 (.inr (0, X0f k cl tp fk fp (nI d) (nI v.2.2.2) lt)) := rfl
  rw [e0] at h1
  have C1 : CO j k F (cup c 0 (.inr (0, X0f k cl tp fk fp (nI d) (nI v.2.2.2) lt))) w (v.1, v.2.1, d, v.2.2.2) := C.of0 ⟨cl, tp, fk, fp, lt, cup_s _ _ _, hcl⟩ rfl (cup_n _ _ (by decide)) (cup_n _ _ (by decide)) (cup_n _ _ (by decide)) (cup_n _ _ (by decide))
  refine c_countsL (v := (v.1, v.2.1, d, v.2.2.2)) hg ⟨hvg.1, hd, hvg.2.2⟩ vf0 h1 C1 (by rw [cup_n _ _ (by decide)]; exact v1) (fun G2 vf h2 hv => kk G2 _ h2 (C1.of (cup_n _ _ (by decide)) (cup_n _ _ (by decide)) (cup_n _ _ (by decide)) (cup_n _ _ (by decide)) (cup_n _ _ (by decide))) ⟨vf, cup_s _ _ _, hv⟩ (fun i i0 i11 => by rw [cup_n _ _ i11, cup_n _ _ i0]))
end CMERGE
