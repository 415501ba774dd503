/-! THE COMPONENT: a side, what is reached (printed by gen/mktmpl.py) -/
/-- the first operation, as it is kept -/
def zfiI (w : WV) (dr wo b t : Nat) : Int32 := if t = b then -1 else nI (zfo w dr wo b t)
section CSIDE
variable {j : JX} {Λ : JLam} {k : Nat → Nat} {F c : CE} {G : HG} {w : WV} {v : NV} {N : Nat}
theorem CV.of {c' : CE} {dr : Nat} (V : CV j c w dr) (h : c' 11 = c 11) : CV j c' w dr := by
  unfold CV at V ⊢
  rw [h]; exact V
/-- a side is filled -/
theorem c_fill2 {q : Nat} {cq n : Nat} {x : Int32} {fa0 : Nat → Int32} (h : Rp k F c G) (hc : c cq = some (.inl (j.1 0, n, .inl fa0))) (hn : n < 2 ^ 20) (hq : q = k cq) {post : HG → Prop} (kk : ∀ G' fa, Rp k F (cup c cq (.inl (j.1 0, n, .inl fa))) G' → (∀ t, t < n → fa t = x) → post G') : hJ26_fill_2 j Λ (some q) x G post := by
  subst hq
  refine nnq_i (aln_c (t0 := 0) (tys := jty j.1) (ty := .int) h rfl hc ?_)
  refine ⟨n + 1, lpH (A := Nat × Int32 × Int32 × HG) (fun m p => hJ26_fill_2_l5 j Λ x post m p.1 p.2.1 p.2.2.1 p.2.2.2) (fun K p => hJ26_fill_2_b5 j Λ x post (fun a i n G => K (a, i, n, G)) p.1 p.2.1 p.2.2.1 p.2.2.2) (fun _ _ => rfl) (fun r p => ∃ i fa, p.1 = k cq ∧ p.2.1 = nI i ∧ p.2.2.1 = nI n ∧ i + r = n ∧ Rp k F (cup c cq (.inl (j.1 0, n, .inl fa))) p.2.2.2 ∧ ∀ t, t < i → fa t = x) ?_ ?_ n (k cq, 0, nI n, G) ⟨0, fa0, rfl, rfl, rfl, by omega, ?_, fun t ht => absurd ht (Nat.not_lt_zero _)⟩⟩
  · rintro K ⟨a, i', n', G1⟩ ⟨i, fa, rfl, rfl, rfl, hi, hR, hv⟩
    exact le_c (by omega) (by omega) (fun _ => kk G1 fa hR (fun t ht => hv t (by omega))) (fun q => by omega)
  · rintro r K ⟨a, i', n', G1⟩ ⟨i, fa, rfl, rfl, rfl, hi, hR, hv⟩ hk
    refine le_c (by omega) (by omega) (fun q => by omega) (fun _ => stI_c hR (cup_s _ _ _) (by omega) (by omega) (fun G2 hR2 => hk _ ⟨i + 1, upd fa i x, rfl, nI_1 i, rfl, by omega, by rw [cup_cup] at hR2; exact hR2, fun t ht => ?_⟩))
    unfold upd
    by_cases q : t = i
    · rw [if_pos q]
    · rw [if_neg q]; exact hv t (by omega)
  · have e : cup c cq (.inl (j.1 0, n, .inl fa0)) = c := by
      funext q
      unfold cup
      by_cases r : q = cq
      · rw [if_pos r, r, hc]
      · rw [if_neg r]
    rw [e]; exact h
def SD1 (j : JX) (k : Nat → Nat) (c : CE) (many : Nat) (fa fi ro : Nat → Int32) : Prop := c 1 = some (.inr (3, [.ref (k 3), .ref (k 4), .ref (k 5), .int (nI many), .ref (k 0)])) ∧ c 3 = some (.inl (j.1 0, 64, .inl fa)) ∧ c 4 = some (.inl (j.1 0, 64, .inl fi)) ∧ c 5 = some (.inl (j.1 0, 64, .inl ro))
/-- a side's shape -/
def SX1 (j : JX) (k : Nat → Nat) (c : CE) : Prop := ∃ (many : Nat) (fa fi ro : Nat → Int32), SD1 j k c many fa fi ro
/-- what is reached stands in it -/
def SR1 (j : JX) (k : Nat → Nat) (c : CE) (w : WV) (dr wo b d : Nat) : Prop := ∃ fa fi ro : Nat → Int32, SD1 j k c (zrc w dr wo b d) fa fi ro ∧ (∀ t, t < 64 → fa t = if zlev w dr wo b d t = true then nI (zfar w dr wo b t 3) else -1) ∧ ∀ t, t < 64 → zlev w dr wo b d t = true → fi t = zfiI w dr wo b t
theorem SR1.x {dr wo b d : Nat} (h : SR1 j k c w dr wo b d) : SX1 j k c := by
  obtain ⟨fa, fi, ro, h1, _⟩ := h
  exact ⟨_, fa, fi, ro, h1⟩
theorem SX1.of {c' : CE} (h : SX1 j k c) (h1 : c' 1 = c 1) (h2 : c' 3 = c 3) (h3 : c' 4 = c 4) (h4 : c' 5 = c 5) : SX1 j k c' := by
  unfold SX1 SD1 at h ⊢
  rw [h1, h2, h3, h4]; exact h
theorem SR1.of {c' : CE} {dr wo b d : Nat} (h : SR1 j k c w dr wo b d) (h1 : c' 1 = c 1) (h2 : c' 3 = c 3) (h3 : c' 4 = c 4) (h4 : c' 5 = c 5) : SR1 j k c' w dr wo b d := by
  unfold SR1 SD1 at h ⊢
  rw [h1, h2, h3, h4]; exact h
/-- in the midst of a search: m are in the row -/
def SQ1 (j : JX) (k : Nat → Nat) (c : CE) (w : WV) (dr wo b : Nat) (row : Nat → Nat) (m : Nat) (c' : CE) : Prop :=
  (∃ fa fi ro : Nat → Int32, SD1 j k c' m fa fi ro ∧ (∀ x, x < m → fa (row x) = nI (zfar w dr wo b (row x) 3)) ∧ (∀ t, t < 64 → (∀ x, x < m → row x ≠ t) → fa t = -1) ∧ (∀ x, x < m → ro x = nI (row x)) ∧ ∀ x, x < m → fi (row x) = zfiI w dr wo b (row x)) ∧ ∀ q, q ≠ 1 → q ≠ 3 → q ≠ 4 → q ≠ 5 → c' q = c q
theorem SQ1.co {dr wo b m : Nat} {row : Nat → Nat} {c' : CE} (h : SQ1 j k c w dr wo b row m c') (C : CO j k F c w v) : CO j k F c' w v :=
  C.of (h.2 0 (by decide) (by decide) (by decide) (by decide)) (h.2 13 (by decide) (by decide) (by decide) (by decide)) (h.2 14 (by decide) (by decide) (by decide) (by decide)) (h.2 27 (by decide) (by decide) (by decide) (by decide)) (h.2 28 (by decide) (by decide) (by decide) (by decide))
theorem SQ1.cv {dr wo b m : Nat} {row : Nat → Nat} {c' : CE} {dr' : Nat} (h : SQ1 j k c w dr wo b row m c') (V : CV j c w dr') : CV j c' w dr' := V.of (h.2 11 (by decide) (by decide) (by decide) (by decide))
/-- one more comes -/
theorem c_comes1 {dr wo b m u : Nat} {row : Nat → Nat} {c' : CE} (h : Rp k F c' G) (Q : SQ1 j k c w dr wo b row m c') (hm : m < 64) (hu : u < 64) (hnew : ∀ x, x < m → row x ≠ u) {n op : Int32} (hn : n = nI (zfar w dr wo b u 3)) (hop : op = zfiI w dr wo b u) {post : HG → Prop}
    (kk : ∀ G' c'', Rp k F c'' G' → SQ1 j k c w dr wo b (fun x => if x = m then u else row x) (m + 1) c'' → post G') : hX3_comes j Λ (k 1) (nI u) n op G post := by
  obtain ⟨⟨fa, fi, ro, ⟨s1, s2, s3, s4⟩, a1, a2, a3, a4⟩, hq⟩ := Q
  subst hn hop
  refine gR_c h s1 rfl (nnq_i (stI_c h s2 hu (by decide) (fun G1 h1 => ?_)))
  refine gR_c h1 (by rw [cup_n _ _ (by decide)]; exact s1) rfl (nnq_i (stI_c h1 (by rw [cup_n _ _ (by decide)]; exact s3) hu (by decide) (fun G2 h2 => ?_)))
  refine gR_c h2 (by rw [cup_n _ _ (by decide), cup_n _ _ (by decide)]; exact s1) rfl (gI_c h2 (by rw [cup_n _ _ (by decide), cup_n _ _ (by decide)]; exact s1) rfl (nnq_i (stI_c h2 (by rw [cup_n _ _ (by decide), cup_n _ _ (by decide)]; exact s4) hm (by decide) (fun G3 h3 => ?_))))
  refine gI_c h3 (by rw [cup_n _ _ (by decide), cup_n _ _ (by decide), cup_n _ _ (by decide)]; exact s1) rfl (pt_c h3 (by rw [cup_n _ _ (by decide), cup_n _ _ (by decide), cup_n _ _ (by decide)]; exact s1) (by show 3 < 5; decide) (fun G4 h4 => kk G4 _ h4 ⟨⟨upd fa u (nI (zfar w dr wo b u 3)), upd fi u (zfiI w dr wo b u), upd ro m (nI u), ⟨?_, ?_, ?_, ?_⟩, ?_, ?_, ?_, ?_⟩, fun q q1 q2 q3 q4 => ?_⟩))
  · rw [cup_s]
    show some (Sum.inr (3, [Value.ref (k 3), .ref (k 4), .ref (k 5), .int (nI m + 1), .ref (k 0)])) = _
    rw [nI_1]
  · rw [cup_n _ _ (by decide), cup_n _ _ (by decide), cup_n _ _ (by decide), cup_s]
  · rw [cup_n _ _ (by decide), cup_n _ _ (by decide), cup_s]
  · rw [cup_n _ _ (by decide), cup_s]
  · intro x hx
    try dsimp only
    unfold upd
    by_cases hxm : x = m
    · rw [if_pos hxm, if_pos rfl]
    · rw [if_neg hxm, if_neg (hnew x (by omega))]; exact a1 x (by omega)
  · intro t ht hx
    have htu : t ≠ u := fun q => hx m (by omega) (by dsimp only; rw [if_pos rfl]; exact q.symm)
    unfold upd
    rw [if_neg htu]
    exact a2 t ht (fun x hxm q => hx x (by omega) (by dsimp only; rw [if_neg (by omega)]; exact q))
  · intro x hx
    try dsimp only
    unfold upd
    by_cases hxm : x = m
    · rw [if_pos hxm, if_pos hxm]
    · rw [if_neg hxm, if_neg hxm]; exact a3 x (by omega)
  · intro x hx
    try dsimp only
    unfold upd
    by_cases hxm : x = m
    · rw [if_pos hxm, if_pos rfl]
    · rw [if_neg hxm, if_neg (hnew x (by omega))]; exact a4 x (by omega)
  · rw [cup_n _ _ q1, cup_n _ _ q4, cup_n _ _ q3, cup_n _ _ q2]
    exact hq q q1 q2 q3 q4
/-- all operations of one in the row -/
theorem c_of651 (hg : GW w) {dr wo b d x : Nat} (hvd : zval w dr b = true) (C : CO j k F c w v) (V : CV j c w dr) (hwo : wo < 32) (hd : d ≤ 3) {p1 p2 : Int32} {post : Option Nat → HG → Prop} {K37 : Int32 → HG → Prop}
    (kk : ∀ G' c' row m, Rp k F c' G' → SQ1 j k c w dr wo b row m c' → BQ w dr wo b d row m x (w 5) → zfar w dr wo b (row x) 3 < d → K37 (nI (x + 1)) G') :
    ∀ r o G c' row m, o + r = w 5 → Rp k F c' G → SQ1 j k c w dr wo b row m c' → BQ w dr wo b d row m x o → zfar w dr wo b (row x) 3 < d → hX3_of_l65 j (jLam j (N + 1)) (k 1) p1 p2 (nI wo) post K37 (r + 1) (nI x) (nI o) G
  | 0, o, G, c', row, m, h1, h, Q, B, hlt => by
    have h5 := hg.2.2.2.2.2.1
    obtain rfl : o = w 5 := by omega
    have C' := Q.co C
    have Q' := Q
    obtain ⟨⟨fa, fi, ro, ⟨s1, s2, s3, s4⟩, a1, a2, a3, a4⟩, hq⟩ := Q'
    show hX3_of_b65 _ _ _ _ _ _ _ _ _ _ _ _
    refine gR_c h s1 rfl (nnq_i (a_ops h C' (le_c (by omega) (by omega) (fun _ => ?_) (fun q => by omega))))
    rw [nI_1]
    exact kk G c' row m h Q B hlt
  | r + 1, o, G, c', row, m, h1, h, Q, B, hlt => by
    have h5 := hg.2.2.2.2.2.1
    have hN := zN_le hg
    have C' := Q.co C
    have V' := Q.cv V
    have Q' := Q
    have B' := B
    obtain ⟨⟨fa, fi, ro, ⟨s1, s2, s3, s4⟩, a1, a2, a3, a4⟩, hq⟩ := Q'
    obtain ⟨b0, b1, b2, b3, _, _, _, b7, _⟩ := B'
    have hm64 : m ≤ zN w := inj_le m (zN w) row (fun i hi => (b3 i hi).1) b2
    have hxN := (b3 x b1).1
    have skip : (∀ t, wo.testBit o = false → zgo w dr o (row x) = some t → ∃ i', i' < m ∧ row i' = t) → hX3_of_b175 j (jLam j (N + 1)) (k 1) p1 p2 (nI wo) post K37 (hX3_of_l65 j (jLam j (N + 1)) (k 1) p1 p2 (nI wo) post K37 (r + 1)) (nI x) (nI o) G := fun hs => by
      unfold hX3_of_b175
      rw [nI_1]
      exact c_of651 hg hvd C V hwo hd kk r (o + 1) G c' row m (by omega) h Q (bq_skip B hs) hlt
    show hX3_of_b65 _ _ _ _ _ _ _ _ _ _ _ _
    refine gR_c h s1 rfl (nnq_i (a_ops h C' (le_c (by omega) (by omega) (fun q => by omega) (fun _ => c_isOn (by omega) (by omega) (zb_0 (fun hb => ?_) (fun hb => ?_)))))) 
    · refine gR_c h s1 rfl (gR_c h s1 rfl (nnq_i (ldI_c h s4 (by omega) (by decide) ?_)))
      rw [a3 x b1]
      refine nnq_i (a_0 h C' (c_stepIn h C' hg V' (by omega) hxN ?_))
      cases hgo : zgo w dr o (row x) with
      | none => exact ⟨fun _ => skip (fun t _ q => by rw [hgo] at q; cases q), fun q => absurd rfl q⟩
      | some u =>
        have hu := (zgo_lt hg (show o < w 5 by omega) hxN hgo).1
        refine ⟨fun q => absurd q (nI_nm1 (by omega)), fun _ => gR_c h s1 rfl (nnq_i (ldI_c h s2 (by omega) (by decide) ?_))⟩
        by_cases hin : ∃ i', i' < m ∧ row i' = u
        · obtain ⟨i', i1, i2⟩ := hin
          have hb9 := zfar_bd w dr wo b u (k := 3) (by omega)
          unfold zFAR at hb9
          rw [← i2, a1 i' i1]
          rw [← i2] at hb9
          exact ⟨fun q => absurd q (nI_nm1 (by omega)), fun _ => skip (fun t _ q => by rw [hgo] at q; injection q with q; exact ⟨i', i1, i2.trans q⟩)⟩
        · have hnew : ∀ i, i < m → row i ≠ u := fun i hi q => hin ⟨i, hi, q⟩
          obtain ⟨n1, n2, n3⟩ := bq_new hvd hg B hd hlt (show o < w 5 by omega) hb hgo hnew
          have hm1 : m + 1 ≤ zN w := inj_le (m + 1) (zN w) (fun i => if i = m then u else row i) (fun i hi => by
            try dsimp only
            by_cases q : i = m
            · rw [if_pos q]; exact hu
            · rw [if_neg q]; exact (b3 i (by omega)).1) (fun i i' q1 q2 q3 => by
            try dsimp only at q3
            by_cases c1 : i = m
            · by_cases c2 : i' = m
              · omega
              · rw [if_pos c1, if_neg c2] at q3; exact absurd q3.symm (hnew i' (by omega))
            · by_cases c2 : i' = m
              · rw [if_neg c1, if_pos c2] at q3; exact absurd q3 (hnew i (by omega))
              · rw [if_neg c1, if_neg c2] at q3; exact b2 i i' (by omega) (by omega) q3)
          have hub : u ≠ b := fun q => hnew 0 (by omega) (b0.trans q.symm)
          rw [a2 u (by omega) hnew]
          have fin : ∀ op : Int32, op = zfiI w dr wo b u → hX3_of_b172 j (jLam j (N + 1)) (k 1) p1 p2 (nI wo) post K37 (hX3_of_l65 j (jLam j (N + 1)) (k 1) p1 p2 (nI wo) post K37 (r + 1)) (nI x) (nI o) (k 1) (nI u) (nI (zfar w dr wo b (row x) 3) + 1) op G := fun op hop => by
            refine isO_c h s1 (c_comes1 h Q (by omega) (by omega) hnew (by rw [n1, nI_1]) hop (fun G2 c2 h2 Q2 => ?_))
            unfold hX3_of_b175
            rw [nI_1]
            exact c_of651 hg hvd C V hwo hd kk r (o + 1) G2 c2 _ (m + 1) (by omega) h2 Q2 (bq_add hvd hg B hd hlt (by omega) hb hgo hnew) (by rw [if_neg (by omega)]; exact hlt)
          refine ⟨fun _ => ?_, fun q => absurd rfl q⟩
          refine gR_c h s1 rfl (gR_c h s1 rfl (nnq_i (ldI_c h s4 (by omega) (by decide) ?_)))
          rw [a3 x b1]
          refine nnq_i (ldI_c h s2 (by omega) (by decide) ?_)
          rw [a1 x b1]
          refine eq_c (b := 0) (by omega) (by omega) (fun q => fin _ ?_) (fun q => ?_)
          · unfold zfiI
            rw [if_neg hub, n2, if_pos q]
          · refine gR_c h s1 rfl (gR_c h s1 rfl (nnq_i (ldI_c h s4 (by omega) (by decide) ?_)))
            rw [a3 x b1]
            refine nnq_i (ldI_c h s3 (by omega) (by decide) ?_)
            rw [a4 x b1]
            refine fin _ ?_
            unfold zfiI
            rw [if_neg hub, n2, if_neg q, if_neg (fun e => q (b2 x 0 b1 (by omega) (e.trans b0.symm)))]
    · exact ⟨fun _ => skip (fun t q _ => by rw [hb] at q; cases q), fun q => absurd rfl q⟩
theorem c_sideOf1 (hg : GW w) {dr wo b d : Nat} (h : Rp k F c G) (C : CO j k F c w v) (V : CV j c w dr) (S : SX1 j k c) (hb : b < zN w) (hd : d ≤ 3) (hwo : wo < 32) {post : Option Nat → HG → Prop}
    (kk : ∀ G' c', Rp k F c' G' → SR1 j k c' w dr wo b d → (∀ q, q ≠ 1 → q ≠ 3 → q ≠ 4 → q ≠ 5 → c' q = c q) → post (some (k 1)) G') : hX3_of j (jLam j (N + 1)) (k 1) (nI b) (nI d) (nI wo) G post := by
  have hN := zN_le hg
  obtain ⟨many, fa0, fi0, ro0, s1, s2, s3, s4⟩ := S
  refine gR_c h s1 rfl (c_fill2 h s2 (by decide) rfl (fun G1 fa h1 hfa => ?_))
  refine pt_c h1 (by rw [cup_n _ _ (by decide)]; exact s1) (by show 3 < 5; decide) (fun G2 h2 => ?_)
  have s1' : (cup (cup c 3 (.inl (j.1 0, 64, .inl fa))) 1 (.inr (3, [Value.ref (k 3), .ref (k 4), .ref (k 5), .int (nI many), .ref (k 0)].set 3 (.int 0)))) 1 = some (.inr (3, [Value.ref (k 3), .ref (k 4), .ref (k 5), .int (nI 0), .ref (k 0)])) := cup_s _ _ _
  have oth : ∀ q, q ≠ 1 → q ≠ 3 → (cup (cup c 3 (.inl (j.1 0, 64, .inl fa))) 1 (.inr (3, [Value.ref (k 3), .ref (k 4), .ref (k 5), .int (nI many), .ref (k 0)].set 3 (.int 0)))) q = c q := fun q q1 q2 => by rw [cup_n _ _ q1, cup_n _ _ q2]
  generalize hc2 : (cup (cup c 3 (.inl (j.1 0, 64, .inl fa))) 1 (.inr (3, [Value.ref (k 3), .ref (k 4), .ref (k 5), .int (nI many), .ref (k 0)].set 3 (.int 0)))) = c2 at h2 s1' oth
  have s2' : c2 3 = some (.inl (j.1 0, 64, .inl fa)) := by rw [← hc2, cup_n _ _ (by decide), cup_s]
  have s3' : c2 4 = some (.inl (j.1 0, 64, .inl fi0)) := by rw [oth _ (by decide) (by decide)]; exact s3
  have s4' : c2 5 = some (.inl (j.1 0, 64, .inl ro0)) := by rw [oth _ (by decide) (by decide)]; exact s4
  have Q0 : ∀ row, SQ1 j k c w dr wo b row 0 c2 := fun row => ⟨⟨fa, fi0, ro0, ⟨s1', s2', s3', s4'⟩, fun x hx => absurd hx (Nat.not_lt_zero _), fun t ht _ => hfa t ht, fun x hx => absurd hx (Nat.not_lt_zero _), fun x hx => absurd hx (Nat.not_lt_zero _)⟩, fun q q1 q2 _ _ => oth q q1 q2⟩
  have C2 := (Q0 (fun _ => b)).co C
  have V2 := (Q0 (fun _ => b)).cv V
  refine gR_c h2 s1' rfl (nnq_i (a_valid h2 C2 hg V2 hb (zb_0 (fun hv => ?_) (fun hv => ?_))))
  · have hz : zrc w dr wo b d = 0 := cnt_row _ 64 0 (fun _ => 0) (fun i hi => absurd hi (Nat.not_lt_zero _)) (fun i i' hi => absurd hi (Nat.not_lt_zero _)) (fun s hs hq => by rw [zlev_no hv] at hq; cases hq)
    refine kk G2 c2 h2 ⟨fa, fi0, ro0, by rw [hz]; exact ⟨s1', s2', s3', s4'⟩, fun t ht => ?_, fun t ht hq => by rw [zlev_no hv] at hq; cases hq⟩ (fun q q1 q2 _ _ => oth q q1 q2)
    rw [zlev_no hv, hfa t ht]; rfl
  · have hb0 : zfar w dr wo b b 3 = 0 := (d_0 hv).mpr rfl
    refine isO_c h2 s1' (c_comes1 h2 (Q0 (fun _ => b)) (by decide) (by omega) (fun x hx => absurd hx (Nat.not_lt_zero _)) (by rw [hb0]; rfl) (by unfold zfiI; rw [if_pos rfl]) (fun G3 c3 h3 Q3 => ?_))
    have Q3' : SQ1 j k c w dr wo b (fun _ => b) 1 c3 := by
      have e : (fun x => if x = 0 then b else (fun _ => b) x) = (fun _ : Nat => b) := by funext x; split <;> rfl
      rw [e] at Q3; exact Q3
    -- the row is gone through
    have done : ∀ G' c' row m x, Rp k F c' G' → SQ1 j k c w dr wo b row m c' → ((BQ w dr wo b d row m x 0 ∧ d ≤ zfar w dr wo b (row x) 3) ∨ (BQ w dr wo b d row m x (w 5) ∧ x + 1 = m)) → post (some (k 1)) G' := fun G' c' row m x h' Q' B' => by
      have Q'' := Q'
      obtain ⟨⟨fa, fi, ro, ⟨s1, s2, s3, s4⟩, a1, a2, a3, a4⟩, hq⟩ := Q''
      obtain ⟨y, hy⟩ : ∃ y, BQ w dr wo b d row m x y := by
        rcases B' with B' | B'
        · exact ⟨_, B'.1⟩
        · exact ⟨_, B'.1⟩
      have hin : ∀ t, t < zN w → zlev w dr wo b d t = true → ∃ i, i < m ∧ row i = t := fun t _ ht => bq_end hv hd B' ((d_up hd).mpr ht)
      have hlt : ∀ t, zlev w dr wo b d t = true → t < zN w := fun t ht => by
        obtain ⟨i, i1, i2⟩ := bq_end hv hd B' ((d_up hd).mpr ht)
        rw [← i2]; exact (hy.2.2.2.1 i i1).1
      have hm : zrc w dr wo b d = m := cnt_row _ 64 m row (fun i hi => ⟨by have := (hy.2.2.2.1 i hi).1; omega, (d_up hd).mp (hy.2.2.2.1 i hi).2⟩) hy.2.2.1 (fun s _ hs => hin s (hlt s hs) hs)
      refine kk G' c' h' ⟨fa, fi, ro, by rw [hm]; exact ⟨s1, s2, s3, s4⟩, fun t ht => ?_, fun t ht hl => ?_⟩ hq
      · by_cases hl : zlev w dr wo b d t = true
        · obtain ⟨i, i1, i2⟩ := hin t (hlt t hl) hl
          rw [if_pos hl, ← i2]; exact a1 i i1
        · rw [if_neg hl]
          exact a2 t ht (fun x hx e => hl (by rw [← e]; exact (d_up hd).mp (hy.2.2.2.1 x hx).2))
      · obtain ⟨i, i1, i2⟩ := hin t (hlt t hl) hl
        rw [← i2]; exact a4 i i1
    refine ⟨zN w + 1, lpH (A := Int32 × HG) (fun n p => hX3_of_l37 j (jLam j (N + 1)) (k 1) (nI b) (nI d) (nI wo) post n p.1 p.2) (fun K p => hX3_of_b37 j (jLam j (N + 1)) (k 1) (nI b) (nI d) (nI wo) post (fun i G => K (i, G)) p.1 p.2) (fun _ _ => rfl)
      (fun r p => ∃ x c' row m, p.1 = nI x ∧ Rp k F c' p.2 ∧ SQ1 j k c w dr wo b row m c' ∧ x + r = zN w ∧ (BQ w dr wo b d row m x 0 ∨ (∃ y, x = y + 1 ∧ BQ w dr wo b d row m y (w 5) ∧ zfar w dr wo b (row y) 3 < d ∧ x = m))) ?_ ?_ (zN w) (0, G3) ⟨0, c3, fun _ => b, 1, rfl, h3, Q3', by omega, Or.inl (bq_0 hb hv d)⟩⟩
    · rintro K ⟨p1, G4⟩ ⟨x, c4, row, m, rfl, h4, Q4, hx, B4⟩
      have Q4' := Q4
      obtain ⟨⟨fa, fi, ro, ⟨s1, s2, s3, s4⟩, a1, a2, a3, a4⟩, hq⟩ := Q4'
      rcases B4 with B4 | ⟨y, rfl, B4, hlt, hm⟩
      · exfalso
        have := inj_le m (zN w) row (fun i hi => (B4.2.2.2.1 i hi).1) B4.2.2.1
        have := B4.2.1
        omega
      · have hm2 := inj_le m (zN w) row (fun i hi => (B4.2.2.2.1 i hi).1) B4.2.2.1
        exact gI_c h4 s1 rfl (le_c (by omega) (by omega) (fun _ => done G4 c4 row m y h4 Q4 (Or.inr ⟨B4, hm⟩)) (fun q => by omega))
    · rintro r K ⟨p1, G4⟩ ⟨x, c4, row, m, rfl, h4, Q4, hx, B4⟩ hk
      have Q4' := Q4
      obtain ⟨⟨fa, fi, ro, ⟨s1, s2, s3, s4⟩, a1, a2, a3, a4⟩, hq⟩ := Q4'
      rcases B4 with B4 | ⟨y, rfl, B4, hlt, hm⟩
      · have hm2 := inj_le m (zN w) row (fun i hi => (B4.2.2.2.1 i hi).1) B4.2.2.1
        have hxm := B4.2.1
        have hbd := zfar_bd w dr wo b (row x) (k := 3) (by omega)
        unfold zFAR at hbd
        have hrx := (B4.2.2.2.1 x hxm).1
        refine gI_c h4 s1 rfl (le_c (by omega) (by omega) (fun q => by omega) (fun _ => gR_c h4 s1 rfl (gR_c h4 s1 rfl (nnq_i (ldI_c h4 s4 (by omega) (by decide) ?_)))))
        rw [a3 x hxm]
        refine nnq_i (ldI_c h4 s2 (by omega) (by decide) ?_)
        rw [a1 x hxm]
        refine le_c (by omega) (by omega) (fun q => done G4 c4 row m x h4 Q4 (Or.inl ⟨B4, q⟩)) (fun q => ⟨w 5 + 1, ?_⟩)
        refine c_of651 hg hv C V hwo hd (fun G5 c5 row5 m5 h5 Q5 B5 L5 => hk _ ⟨x + 1, c5, row5, m5, rfl, h5, Q5, by omega, ?_⟩) (w 5) 0 G4 c4 row m (by omega) h4 Q4 B4 q
        have hlt5 : zfar w dr wo b (row5 x) 3 < d := L5
        rcases Nat.lt_or_ge (x + 1) m5 with e | e
        · exact Or.inl (bq_next hv B5 hd hlt5 e)
        · exact Or.inr ⟨x, rfl, B5, hlt5, by have := B5.2.1; omega⟩
      · have hm2 := inj_le m (zN w) row (fun i hi => (B4.2.2.2.1 i hi).1) B4.2.2.1
        exact gI_c h4 s1 rfl (le_c (by omega) (by omega) (fun _ => done G4 c4 row m y h4 Q4 (Or.inr ⟨B4, hm⟩)) (fun q => by omega))
def SD2 (j : JX) (k : Nat → Nat) (c : CE) (many : Nat) (fa fi ro : Nat → Int32) : Prop := c 2 = some (.inr (3, [.ref (k 6), .ref (k 7), .ref (k 8), .int (nI many), .ref (k 0)])) ∧ c 6 = some (.inl (j.1 0, 64, .inl fa)) ∧ c 7 = some (.inl (j.1 0, 64, .inl fi)) ∧ c 8 = some (.inl (j.1 0, 64, .inl ro))
/-- a side's shape -/
def SX2 (j : JX) (k : Nat → Nat) (c : CE) : Prop := ∃ (many : Nat) (fa fi ro : Nat → Int32), SD2 j k c many fa fi ro
/-- what is reached stands in it -/
def SR2 (j : JX) (k : Nat → Nat) (c : CE) (w : WV) (dr wo b d : Nat) : Prop := ∃ fa fi ro : Nat → Int32, SD2 j k c (zrc w dr wo b d) fa fi ro ∧ (∀ t, t < 64 → fa t = if zlev w dr wo b d t = true then nI (zfar w dr wo b t 3) else -1) ∧ ∀ t, t < 64 → zlev w dr wo b d t = true → fi t = zfiI w dr wo b t
theorem SR2.x {dr wo b d : Nat} (h : SR2 j k c w dr wo b d) : SX2 j k c := by
  obtain ⟨fa, fi, ro, h1, _⟩ := h
  exact ⟨_, fa, fi, ro, h1⟩
theorem SX2.of {c' : CE} (h : SX2 j k c) (h1 : c' 2 = c 2) (h2 : c' 6 = c 6) (h3 : c' 7 = c 7) (h4 : c' 8 = c 8) : SX2 j k c' := by
  unfold SX2 SD2 at h ⊢
  rw [h1, h2, h3, h4]; exact h
theorem SR2.of {c' : CE} {dr wo b d : Nat} (h : SR2 j k c w dr wo b d) (h1 : c' 2 = c 2) (h2 : c' 6 = c 6) (h3 : c' 7 = c 7) (h4 : c' 8 = c 8) : SR2 j k c' w dr wo b d := by
  unfold SR2 SD2 at h ⊢
  rw [h1, h2, h3, h4]; exact h
/-- in the midst of a search: m are in the row -/
def SQ2 (j : JX) (k : Nat → Nat) (c : CE) (w : WV) (dr wo b : Nat) (row : Nat → Nat) (m : Nat) (c' : CE) : Prop :=
  (∃ fa fi ro : Nat → Int32, SD2 j k c' m fa fi ro ∧ (∀ x, x < m → fa (row x) = nI (zfar w dr wo b (row x) 3)) ∧ (∀ t, t < 64 → (∀ x, x < m → row x ≠ t) → fa t = -1) ∧ (∀ x, x < m → ro x = nI (row x)) ∧ ∀ x, x < m → fi (row x) = zfiI w dr wo b (row x)) ∧ ∀ q, q ≠ 2 → q ≠ 6 → q ≠ 7 → q ≠ 8 → c' q = c q
theorem SQ2.co {dr wo b m : Nat} {row : Nat → Nat} {c' : CE} (h : SQ2 j k c w dr wo b row m c') (C : CO j k F c w v) : CO j k F c' w v :=
  C.of (h.2 0 (by decide) (by decide) (by decide) (by decide)) (h.2 13 (by decide) (by decide) (by decide) (by decide)) (h.2 14 (by decide) (by decide) (by decide) (by decide)) (h.2 27 (by decide) (by decide) (by decide) (by decide)) (h.2 28 (by decide) (by decide) (by decide) (by decide))
theorem SQ2.cv {dr wo b m : Nat} {row : Nat → Nat} {c' : CE} {dr' : Nat} (h : SQ2 j k c w dr wo b row m c') (V : CV j c w dr') : CV j c' w dr' := V.of (h.2 11 (by decide) (by decide) (by decide) (by decide))
/-- one more comes -/
theorem c_comes2 {dr wo b m u : Nat} {row : Nat → Nat} {c' : CE} (h : Rp k F c' G) (Q : SQ2 j k c w dr wo b row m c') (hm : m < 64) (hu : u < 64) (hnew : ∀ x, x < m → row x ≠ u) {n op : Int32} (hn : n = nI (zfar w dr wo b u 3)) (hop : op = zfiI w dr wo b u) {post : HG → Prop}
    (kk : ∀ G' c'', Rp k F c'' G' → SQ2 j k c w dr wo b (fun x => if x = m then u else row x) (m + 1) c'' → post G') : hX3_comes j Λ (k 2) (nI u) n op G post := by
  obtain ⟨⟨fa, fi, ro, ⟨s1, s2, s3, s4⟩, a1, a2, a3, a4⟩, hq⟩ := Q
  subst hn hop
  refine gR_c h s1 rfl (nnq_i (stI_c h s2 hu (by decide) (fun G1 h1 => ?_)))
  refine gR_c h1 (by rw [cup_n _ _ (by decide)]; exact s1) rfl (nnq_i (stI_c h1 (by rw [cup_n _ _ (by decide)]; exact s3) hu (by decide) (fun G2 h2 => ?_)))
  refine gR_c h2 (by rw [cup_n _ _ (by decide), cup_n _ _ (by decide)]; exact s1) rfl (gI_c h2 (by rw [cup_n _ _ (by decide), cup_n _ _ (by decide)]; exact s1) rfl (nnq_i (stI_c h2 (by rw [cup_n _ _ (by decide), cup_n _ _ (by decide)]; exact s4) hm (by decide) (fun G3 h3 => ?_))))
  refine gI_c h3 (by rw [cup_n _ _ (by decide), cup_n _ _ (by decide), cup_n _ _ (by decide)]; exact s1) rfl (pt_c h3 (by rw [cup_n _ _ (by decide), cup_n _ _ (by decide), cup_n _ _ (by decide)]; exact s1) (by show 3 < 5; decide) (fun G4 h4 => kk G4 _ h4 ⟨⟨upd fa u (nI (zfar w dr wo b u 3)), upd fi u (zfiI w dr wo b u), upd ro m (nI u), ⟨?_, ?_, ?_, ?_⟩, ?_, ?_, ?_, ?_⟩, fun q q1 q2 q3 q4 => ?_⟩))
  · rw [cup_s]
    show some (Sum.inr (3, [Value.ref (k 6), .ref (k 7), .ref (k 8), .int (nI m + 1), .ref (k 0)])) = _
    rw [nI_1]
  · rw [cup_n _ _ (by decide), cup_n _ _ (by decide), cup_n _ _ (by decide), cup_s]
  · rw [cup_n _ _ (by decide), cup_n _ _ (by decide), cup_s]
  · rw [cup_n _ _ (by decide), cup_s]
  · intro x hx
    try dsimp only
    unfold upd
    by_cases hxm : x = m
    · rw [if_pos hxm, if_pos rfl]
    · rw [if_neg hxm, if_neg (hnew x (by omega))]; exact a1 x (by omega)
  · intro t ht hx
    have htu : t ≠ u := fun q => hx m (by omega) (by dsimp only; rw [if_pos rfl]; exact q.symm)
    unfold upd
    rw [if_neg htu]
    exact a2 t ht (fun x hxm q => hx x (by omega) (by dsimp only; rw [if_neg (by omega)]; exact q))
  · intro x hx
    try dsimp only
    unfold upd
    by_cases hxm : x = m
    · rw [if_pos hxm, if_pos hxm]
    · rw [if_neg hxm, if_neg hxm]; exact a3 x (by omega)
  · intro x hx
    try dsimp only
    unfold upd
    by_cases hxm : x = m
    · rw [if_pos hxm, if_pos rfl]
    · rw [if_neg hxm, if_neg (hnew x (by omega))]; exact a4 x (by omega)
  · rw [cup_n _ _ q1, cup_n _ _ q4, cup_n _ _ q3, cup_n _ _ q2]
    exact hq q q1 q2 q3 q4
/-- all operations of one in the row -/
theorem c_of652 (hg : GW w) {dr wo b d x : Nat} (hvd : zval w dr b = true) (C : CO j k F c w v) (V : CV j c w dr) (hwo : wo < 32) (hd : d ≤ 3) {p1 p2 : Int32} {post : Option Nat → HG → Prop} {K37 : Int32 → HG → Prop}
    (kk : ∀ G' c' row m, Rp k F c' G' → SQ2 j k c w dr wo b row m c' → BQ w dr wo b d row m x (w 5) → zfar w dr wo b (row x) 3 < d → K37 (nI (x + 1)) G') :
    ∀ r o G c' row m, o + r = w 5 → Rp k F c' G → SQ2 j k c w dr wo b row m c' → BQ w dr wo b d row m x o → zfar w dr wo b (row x) 3 < d → hX3_of_l65 j (jLam j (N + 1)) (k 2) p1 p2 (nI wo) post K37 (r + 1) (nI x) (nI o) G
  | 0, o, G, c', row, m, h1, h, Q, B, hlt => by
    have h5 := hg.2.2.2.2.2.1
    obtain rfl : o = w 5 := by omega
    have C' := Q.co C
    have Q' := Q
    obtain ⟨⟨fa, fi, ro, ⟨s1, s2, s3, s4⟩, a1, a2, a3, a4⟩, hq⟩ := Q'
    show hX3_of_b65 _ _ _ _ _ _ _ _ _ _ _ _
    refine gR_c h s1 rfl (nnq_i (a_ops h C' (le_c (by omega) (by omega) (fun _ => ?_) (fun q => by omega))))
    rw [nI_1]
    exact kk G c' row m h Q B hlt
  | r + 1, o, G, c', row, m, h1, h, Q, B, hlt => by
    have h5 := hg.2.2.2.2.2.1
    have hN := zN_le hg
    have C' := Q.co C
    have V' := Q.cv V
    have Q' := Q
    have B' := B
    obtain ⟨⟨fa, fi, ro, ⟨s1, s2, s3, s4⟩, a1, a2, a3, a4⟩, hq⟩ := Q'
    obtain ⟨b0, b1, b2, b3, _, _, _, b7, _⟩ := B'
    have hm64 : m ≤ zN w := inj_le m (zN w) row (fun i hi => (b3 i hi).1) b2
    have hxN := (b3 x b1).1
    have skip : (∀ t, wo.testBit o = false → zgo w dr o (row x) = some t → ∃ i', i' < m ∧ row i' = t) → hX3_of_b175 j (jLam j (N + 1)) (k 2) p1 p2 (nI wo) post K37 (hX3_of_l65 j (jLam j (N + 1)) (k 2) p1 p2 (nI wo) post K37 (r + 1)) (nI x) (nI o) G := fun hs => by
      unfold hX3_of_b175
      rw [nI_1]
      exact c_of652 hg hvd C V hwo hd kk r (o + 1) G c' row m (by omega) h Q (bq_skip B hs) hlt
    show hX3_of_b65 _ _ _ _ _ _ _ _ _ _ _ _
    refine gR_c h s1 rfl (nnq_i (a_ops h C' (le_c (by omega) (by omega) (fun q => by omega) (fun _ => c_isOn (by omega) (by omega) (zb_0 (fun hb => ?_) (fun hb => ?_)))))) 
    · refine gR_c h s1 rfl (gR_c h s1 rfl (nnq_i (ldI_c h s4 (by omega) (by decide) ?_)))
      rw [a3 x b1]
      refine nnq_i (a_0 h C' (c_stepIn h C' hg V' (by omega) hxN ?_))
      cases hgo : zgo w dr o (row x) with
      | none => exact ⟨fun _ => skip (fun t _ q => by rw [hgo] at q; cases q), fun q => absurd rfl q⟩
      | some u =>
        have hu := (zgo_lt hg (show o < w 5 by omega) hxN hgo).1
        refine ⟨fun q => absurd q (nI_nm1 (by omega)), fun _ => gR_c h s1 rfl (nnq_i (ldI_c h s2 (by omega) (by decide) ?_))⟩
        by_cases hin : ∃ i', i' < m ∧ row i' = u
        · obtain ⟨i', i1, i2⟩ := hin
          have hb9 := zfar_bd w dr wo b u (k := 3) (by omega)
          unfold zFAR at hb9
          rw [← i2, a1 i' i1]
          rw [← i2] at hb9
          exact ⟨fun q => absurd q (nI_nm1 (by omega)), fun _ => skip (fun t _ q => by rw [hgo] at q; injection q with q; exact ⟨i', i1, i2.trans q⟩)⟩
        · have hnew : ∀ i, i < m → row i ≠ u := fun i hi q => hin ⟨i, hi, q⟩
          obtain ⟨n1, n2, n3⟩ := bq_new hvd hg B hd hlt (show o < w 5 by omega) hb hgo hnew
          have hm1 : m + 1 ≤ zN w := inj_le (m + 1) (zN w) (fun i => if i = m then u else row i) (fun i hi => by
            try dsimp only
            by_cases q : i = m
            · rw [if_pos q]; exact hu
            · rw [if_neg q]; exact (b3 i (by omega)).1) (fun i i' q1 q2 q3 => by
            try dsimp only at q3
            by_cases c1 : i = m
            · by_cases c2 : i' = m
              · omega
              · rw [if_pos c1, if_neg c2] at q3; exact absurd q3.symm (hnew i' (by omega))
            · by_cases c2 : i' = m
              · rw [if_neg c1, if_pos c2] at q3; exact absurd q3 (hnew i (by omega))
              · rw [if_neg c1, if_neg c2] at q3; exact b2 i i' (by omega) (by omega) q3)
          have hub : u ≠ b := fun q => hnew 0 (by omega) (b0.trans q.symm)
          rw [a2 u (by omega) hnew]
          have fin : ∀ op : Int32, op = zfiI w dr wo b u → hX3_of_b172 j (jLam j (N + 1)) (k 2) p1 p2 (nI wo) post K37 (hX3_of_l65 j (jLam j (N + 1)) (k 2) p1 p2 (nI wo) post K37 (r + 1)) (nI x) (nI o) (k 2) (nI u) (nI (zfar w dr wo b (row x) 3) + 1) op G := fun op hop => by
            refine isO_c h s1 (c_comes2 h Q (by omega) (by omega) hnew (by rw [n1, nI_1]) hop (fun G2 c2 h2 Q2 => ?_))
            unfold hX3_of_b175
            rw [nI_1]
            exact c_of652 hg hvd C V hwo hd kk r (o + 1) G2 c2 _ (m + 1) (by omega) h2 Q2 (bq_add hvd hg B hd hlt (by omega) hb hgo hnew) (by rw [if_neg (by omega)]; exact hlt)
          refine ⟨fun _ => ?_, fun q => absurd rfl q⟩
          refine gR_c h s1 rfl (gR_c h s1 rfl (nnq_i (ldI_c h s4 (by omega) (by decide) ?_)))
          rw [a3 x b1]
          refine nnq_i (ldI_c h s2 (by omega) (by decide) ?_)
          rw [a1 x b1]
          refine eq_c (b := 0) (by omega) (by omega) (fun q => fin _ ?_) (fun q => ?_)
          · unfold zfiI
            rw [if_neg hub, n2, if_pos q]
          · refine gR_c h s1 rfl (gR_c h s1 rfl (nnq_i (ldI_c h s4 (by omega) (by decide) ?_)))
            rw [a3 x b1]
            refine nnq_i (ldI_c h s3 (by omega) (by decide) ?_)
            rw [a4 x b1]
            refine fin _ ?_
            unfold zfiI
            rw [if_neg hub, n2, if_neg q, if_neg (fun e => q (b2 x 0 b1 (by omega) (e.trans b0.symm)))]
    · exact ⟨fun _ => skip (fun t q _ => by rw [hb] at q; cases q), fun q => absurd rfl q⟩
theorem c_sideOf2 (hg : GW w) {dr wo b d : Nat} (h : Rp k F c G) (C : CO j k F c w v) (V : CV j c w dr) (S : SX2 j k c) (hb : b < zN w) (hd : d ≤ 3) (hwo : wo < 32) {post : Option Nat → HG → Prop}
    (kk : ∀ G' c', Rp k F c' G' → SR2 j k c' w dr wo b d → (∀ q, q ≠ 2 → q ≠ 6 → q ≠ 7 → q ≠ 8 → c' q = c q) → post (some (k 2)) G') : hX3_of j (jLam j (N + 1)) (k 2) (nI b) (nI d) (nI wo) G post := by
  have hN := zN_le hg
  obtain ⟨many, fa0, fi0, ro0, s1, s2, s3, s4⟩ := S
  refine gR_c h s1 rfl (c_fill2 h s2 (by decide) rfl (fun G1 fa h1 hfa => ?_))
  refine pt_c h1 (by rw [cup_n _ _ (by decide)]; exact s1) (by show 3 < 5; decide) (fun G2 h2 => ?_)
  have s1' : (cup (cup c 6 (.inl (j.1 0, 64, .inl fa))) 2 (.inr (3, [Value.ref (k 6), .ref (k 7), .ref (k 8), .int (nI many), .ref (k 0)].set 3 (.int 0)))) 2 = some (.inr (3, [Value.ref (k 6), .ref (k 7), .ref (k 8), .int (nI 0), .ref (k 0)])) := cup_s _ _ _
  have oth : ∀ q, q ≠ 2 → q ≠ 6 → (cup (cup c 6 (.inl (j.1 0, 64, .inl fa))) 2 (.inr (3, [Value.ref (k 6), .ref (k 7), .ref (k 8), .int (nI many), .ref (k 0)].set 3 (.int 0)))) q = c q := fun q q1 q2 => by rw [cup_n _ _ q1, cup_n _ _ q2]
  generalize hc2 : (cup (cup c 6 (.inl (j.1 0, 64, .inl fa))) 2 (.inr (3, [Value.ref (k 6), .ref (k 7), .ref (k 8), .int (nI many), .ref (k 0)].set 3 (.int 0)))) = c2 at h2 s1' oth
  have s2' : c2 6 = some (.inl (j.1 0, 64, .inl fa)) := by rw [← hc2, cup_n _ _ (by decide), cup_s]
  have s3' : c2 7 = some (.inl (j.1 0, 64, .inl fi0)) := by rw [oth _ (by decide) (by decide)]; exact s3
  have s4' : c2 8 = some (.inl (j.1 0, 64, .inl ro0)) := by rw [oth _ (by decide) (by decide)]; exact s4
  have Q0 : ∀ row, SQ2 j k c w dr wo b row 0 c2 := fun row => ⟨⟨fa, fi0, ro0, ⟨s1', s2', s3', s4'⟩, fun x hx => absurd hx (Nat.not_lt_zero _), fun t ht _ => hfa t ht, fun x hx => absurd hx (Nat.not_lt_zero _), fun x hx => absurd hx (Nat.not_lt_zero _)⟩, fun q q1 q2 _ _ => oth q q1 q2⟩
  have C2 := (Q0 (fun _ => b)).co C
  have V2 := (Q0 (fun _ => b)).cv V
  refine gR_c h2 s1' rfl (nnq_i (a_valid h2 C2 hg V2 hb (zb_0 (fun hv => ?_) (fun hv => ?_))))
  · have hz : zrc w dr wo b d = 0 := cnt_row _ 64 0 (fun _ => 0) (fun i hi => absurd hi (Nat.not_lt_zero _)) (fun i i' hi => absurd hi (Nat.not_lt_zero _)) (fun s hs hq => by rw [zlev_no hv] at hq; cases hq)
    refine kk G2 c2 h2 ⟨fa, fi0, ro0, by rw [hz]; exact ⟨s1', s2', s3', s4'⟩, fun t ht => ?_, fun t ht hq => by rw [zlev_no hv] at hq; cases hq⟩ (fun q q1 q2 _ _ => oth q q1 q2)
    rw [zlev_no hv, hfa t ht]; rfl
  · have hb0 : zfar w dr wo b b 3 = 0 := (d_0 hv).mpr rfl
    refine isO_c h2 s1' (c_comes2 h2 (Q0 (fun _ => b)) (by decide) (by omega) (fun x hx => absurd hx (Nat.not_lt_zero _)) (by rw [hb0]; rfl) (by unfold zfiI; rw [if_pos rfl]) (fun G3 c3 h3 Q3 => ?_))
    have Q3' : SQ2 j k c w dr wo b (fun _ => b) 1 c3 := by
      have e : (fun x => if x = 0 then b else (fun _ => b) x) = (fun _ : Nat => b) := by funext x; split <;> rfl
      rw [e] at Q3; exact Q3
    -- the row is gone through
    have done : ∀ G' c' row m x, Rp k F c' G' → SQ2 j k c w dr wo b row m c' → ((BQ w dr wo b d row m x 0 ∧ d ≤ zfar w dr wo b (row x) 3) ∨ (BQ w dr wo b d row m x (w 5) ∧ x + 1 = m)) → post (some (k 2)) G' := fun G' c' row m x h' Q' B' => by
      have Q'' := Q'
      obtain ⟨⟨fa, fi, ro, ⟨s1, s2, s3, s4⟩, a1, a2, a3, a4⟩, hq⟩ := Q''
      obtain ⟨y, hy⟩ : ∃ y, BQ w dr wo b d row m x y := by
        rcases B' with B' | B'
        · exact ⟨_, B'.1⟩
        · exact ⟨_, B'.1⟩
      have hin : ∀ t, t < zN w → zlev w dr wo b d t = true → ∃ i, i < m ∧ row i = t := fun t _ ht => bq_end hv hd B' ((d_up hd).mpr ht)
      have hlt : ∀ t, zlev w dr wo b d t = true → t < zN w := fun t ht => by
        obtain ⟨i, i1, i2⟩ := bq_end hv hd B' ((d_up hd).mpr ht)
        rw [← i2]; exact (hy.2.2.2.1 i i1).1
      have hm : zrc w dr wo b d = m := cnt_row _ 64 m row (fun i hi => ⟨by have := (hy.2.2.2.1 i hi).1; omega, (d_up hd).mp (hy.2.2.2.1 i hi).2⟩) hy.2.2.1 (fun s _ hs => hin s (hlt s hs) hs)
      refine kk G' c' h' ⟨fa, fi, ro, by rw [hm]; exact ⟨s1, s2, s3, s4⟩, fun t ht => ?_, fun t ht hl => ?_⟩ hq
      · by_cases hl : zlev w dr wo b d t = true
        · obtain ⟨i, i1, i2⟩ := hin t (hlt t hl) hl
          rw [if_pos hl, ← i2]; exact a1 i i1
        · rw [if_neg hl]
          exact a2 t ht (fun x hx e => hl (by rw [← e]; exact (d_up hd).mp (hy.2.2.2.1 x hx).2))
      · obtain ⟨i, i1, i2⟩ := hin t (hlt t hl) hl
        rw [← i2]; exact a4 i i1
    refine ⟨zN w + 1, lpH (A := Int32 × HG) (fun n p => hX3_of_l37 j (jLam j (N + 1)) (k 2) (nI b) (nI d) (nI wo) post n p.1 p.2) (fun K p => hX3_of_b37 j (jLam j (N + 1)) (k 2) (nI b) (nI d) (nI wo) post (fun i G => K (i, G)) p.1 p.2) (fun _ _ => rfl)
      (fun r p => ∃ x c' row m, p.1 = nI x ∧ Rp k F c' p.2 ∧ SQ2 j k c w dr wo b row m c' ∧ x + r = zN w ∧ (BQ w dr wo b d row m x 0 ∨ (∃ y, x = y + 1 ∧ BQ w dr wo b d row m y (w 5) ∧ zfar w dr wo b (row y) 3 < d ∧ x = m))) ?_ ?_ (zN w) (0, G3) ⟨0, c3, fun _ => b, 1, rfl, h3, Q3', by omega, Or.inl (bq_0 hb hv d)⟩⟩
    · rintro K ⟨p1, G4⟩ ⟨x, c4, row, m, rfl, h4, Q4, hx, B4⟩
      have Q4' := Q4
      obtain ⟨⟨fa, fi, ro, ⟨s1, s2, s3, s4⟩, a1, a2, a3, a4⟩, hq⟩ := Q4'
      rcases B4 with B4 | ⟨y, rfl, B4, hlt, hm⟩
      · exfalso
        have := inj_le m (zN w) row (fun i hi => (B4.2.2.2.1 i hi).1) B4.2.2.1
        have := B4.2.1
        omega
      · have hm2 := inj_le m (zN w) row (fun i hi => (B4.2.2.2.1 i hi).1) B4.2.2.1
        exact gI_c h4 s1 rfl (le_c (by omega) (by omega) (fun _ => done G4 c4 row m y h4 Q4 (Or.inr ⟨B4, hm⟩)) (fun q => by omega))
    · rintro r K ⟨p1, G4⟩ ⟨x, c4, row, m, rfl, h4, Q4, hx, B4⟩ hk
      have Q4' := Q4
      obtain ⟨⟨fa, fi, ro, ⟨s1, s2, s3, s4⟩, a1, a2, a3, a4⟩, hq⟩ := Q4'
      rcases B4 with B4 | ⟨y, rfl, B4, hlt, hm⟩
      · have hm2 := inj_le m (zN w) row (fun i hi => (B4.2.2.2.1 i hi).1) B4.2.2.1
        have hxm := B4.2.1
        have hbd := zfar_bd w dr wo b (row x) (k := 3) (by omega)
        unfold zFAR at hbd
        have hrx := (B4.2.2.2.1 x hxm).1
        refine gI_c h4 s1 rfl (le_c (by omega) (by omega) (fun q => by omega) (fun _ => gR_c h4 s1 rfl (gR_c h4 s1 rfl (nnq_i (ldI_c h4 s4 (by omega) (by decide) ?_)))))
        rw [a3 x hxm]
        refine nnq_i (ldI_c h4 s2 (by omega) (by decide) ?_)
        rw [a1 x hxm]
        refine le_c (by omega) (by omega) (fun q => done G4 c4 row m x h4 Q4 (Or.inl ⟨B4, q⟩)) (fun q => ⟨w 5 + 1, ?_⟩)
        refine c_of652 hg hv C V hwo hd (fun G5 c5 row5 m5 h5 Q5 B5 L5 => hk _ ⟨x + 1, c5, row5, m5, rfl, h5, Q5, by omega, ?_⟩) (w 5) 0 G4 c4 row m (by omega) h4 Q4 B4 q
        have hlt5 : zfar w dr wo b (row5 x) 3 < d := L5
        rcases Nat.lt_or_ge (x + 1) m5 with e | e
        · exact Or.inl (bq_next hv B5 hd hlt5 e)
        · exact Or.inr ⟨x, rfl, B5, hlt5, by have := B5.2.1; omega⟩
      · have hm2 := inj_le m (zN w) row (fun i hi => (B4.2.2.2.1 i hi).1) B4.2.2.1
        exact gI_c h4 s1 rfl (le_c (by omega) (by omega) (fun _ => done G4 c4 row m y h4 Q4 (Or.inr ⟨B4, hm⟩)) (fun q => by omega))
end CSIDE
