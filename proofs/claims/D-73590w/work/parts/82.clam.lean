/-! THE COMPONENT: rules, operations, merges: what their made objects answer -/
theorem nar_b (b : Bool) : narrow .boolean (.int (nI (zb1 b))) = .int (nI (zb1 b)) := zB_n (zB_b b)
section CLAM
variable {j : JX} {Λ : JLam} {k : Nat → Nat} {F c : CE} {G : HG} {w : WV} {v : NV} {N : Nat}
theorem c_obj (h : Rp k F c G) (C : CO j k F c w v) : ∃ (ba : Bool) (fa : List Value), G (k 0) = some (ba, .inr (0, fa)) := by
  obtain ⟨⟨cl, tp, fk, fp, lt, h0, _⟩, _⟩ := C
  exact ⟨true, _, h.at h0⟩
theorem c_rule (h : Rp k F c G) (C : CO j k F c w v) (hg : GW w) {r s l : Nat} (hr : r < w 4) (hl : FRule F (k 0) w r l) (hs : s < 2 ^ 31) {post : Int32 → HG → Prop} (kk : post (nI (zb1 (zhold w r s))) G) : (jLam j (N + 1)).2.1 l (nI s) G post := by
  have h3 := hg.2.2.2.1
  have h0 := hg.1
  obtain ⟨g0, g1, g2, g3, g4, g5⟩ := hg.2.2.2.2.2.2.2.2.2.1 r hr
  have v1 := zvl_le w s (zrl w r 1)
  have v2 := zvl_le w s (zrl w r 2)
  have v3 := zvl_le w s (zrl w r 3)
  have ho := c_obj h C
  have e0 : (0 : Int32) = nI (zb1 false) := rfl
  have e1 : (1 : Int32) = nI (zb1 true) := rfl
  unfold FRule at hl
  unfold zhold at kk
  show lamP_8 j (jLam j N) l (nI s) G post ∨ lamP_9 j (jLam j N) l (nI s) G post ∨ lamP_10 j (jLam j N) l (nI s) G post ∨ lamP_11 j (jLam j N) l (nI s) G post ∨ lamP_12 j (jLam j N) l (nI s) G post ∨ lamP_13 j (jLam j N) l (nI s) G post
  by_cases k0 : zrl w r 0 = 0
  · rw [if_pos k0] at hl kk
    have := g2 (Or.inl k0)
    obtain ⟨b, hb⟩ := h.fz hl
    refine Or.inl ⟨b, k 0, _, _, hb, ho, a_0 h C (c_valueOf h C hg hs (by omega) (lt_c (by omega) (by omega) (fun q => ?_) (fun q => ?_)))⟩
    · rw [decide_eq_false (by omega)] at kk; exact ⟨nar_b false, kk⟩
    · rw [decide_eq_true (by omega)] at kk; exact ⟨nar_b true, kk⟩
  · rw [if_neg k0] at hl kk
    refine Or.inr ?_
    by_cases k1 : zrl w r 0 = 1
    · rw [if_pos k1] at hl kk
      have := g2 (Or.inr (Or.inl k1))
      obtain ⟨b, hb⟩ := h.fz hl
      refine Or.inl ⟨b, k 0, _, _, hb, ho, a_0 h C (c_valueOf h C hg hs (by omega) (lt_c (by omega) (by omega) (fun q => ?_) (fun q => ?_)))⟩
      · rw [decide_eq_false (by omega)] at kk; exact ⟨nar_b false, kk⟩
      · rw [decide_eq_true (by omega)] at kk; exact ⟨nar_b true, kk⟩
    · rw [if_neg k1] at hl kk
      refine Or.inr ?_
      by_cases k2 : zrl w r 0 = 2
      · rw [if_pos k2] at hl kk
        have := g3 (Or.inl k2)
        obtain ⟨b, hb⟩ := h.fz hl
        refine Or.inl ⟨b, k 0, _, _, hb, ho, a_0 h C (c_valueOf h C hg hs (by omega) (a_0 h C (c_valueOf h C hg hs (by omega) (eq_c (by omega) (by omega) (fun q => ?_) (fun q => ?_)))))⟩
        · rw [decide_eq_false (fun s => s q)] at kk; exact ⟨nar_b false, kk⟩
        · rw [decide_eq_true q] at kk; exact ⟨nar_b true, kk⟩
      · rw [if_neg k2] at hl kk
        refine Or.inr ?_
        by_cases k3 : zrl w r 0 = 3
        · rw [if_pos k3] at hl kk
          have := g3 (Or.inr (Or.inl k3))
          have := g4 k3
          obtain ⟨b, hb⟩ := h.fz hl
          refine Or.inl ⟨b, k 0, _, _, _, hb, ho, a_0 h C (c_valueOf h C hg hs (by omega) (a_0 h C (c_valueOf h C hg hs (by omega) ?_)))⟩
          rw [nI_add]
          refine lt_c (by omega) (by omega) (fun q => ?_) (fun q => ?_)
          · rw [decide_eq_false (by omega)] at kk; exact ⟨nar_b false, kk⟩
          · rw [decide_eq_true (by omega)] at kk; exact ⟨nar_b true, kk⟩
        · rw [if_neg k3] at hl kk
          refine Or.inr ?_
          by_cases k4 : zrl w r 0 = 4
          · rw [if_pos k4] at hl kk
            have := g3 (Or.inr (Or.inr k4))
            obtain ⟨b, hb⟩ := h.fz hl
            refine Or.inl ⟨b, k 0, _, _, hb, ho, a_0 h C (c_valueOf h C hg hs (by omega) (a_0 h C (c_valueOf h C hg hs (by omega) (lt_c (by omega) (by omega) (fun q => ?_) (fun q => ?_)))))⟩
            · rw [decide_eq_false (by omega)] at kk; exact ⟨nar_b false, kk⟩
            · rw [decide_eq_true (by omega)] at kk; exact ⟨nar_b true, kk⟩
          · rw [if_neg k4] at hl kk
            have k5 : zrl w r 0 = 5 := by omega
            have := g2 (Or.inr (Or.inr k5))
            obtain ⟨t1, t2⟩ := g5 k5
            obtain ⟨b, hb⟩ := h.fz hl
            refine Or.inr ⟨b, k 0, _, _, _, _, hb, ho, a_0 h C (c_valueOf h C hg hs (by omega) (lt_c (by omega) (by omega) (fun q => ?_) (fun q => ?_)))⟩
            · rw [decide_eq_true q] at kk; exact ⟨nar_b true, kk⟩
            · rw [decide_eq_false (by omega), Bool.false_or] at kk
              refine a_0 h C (c_valueOf h C hg hs (by omega) (lt_c (by omega) (by omega) (fun q => ?_) (fun q => ?_)))
              · rw [decide_eq_false (by omega)] at kk; exact ⟨nar_b false, kk⟩
              · rw [decide_eq_true (by omega)] at kk; exact ⟨nar_b true, kk⟩
/-- the r-th rule's object is fetched -/
theorem a_rule (h : Rp k F c G) (C : CO j k F c w v) (hg : GW w) {r : Nat} (hr : r < w 4) {K : Nat → Prop} (kk : ∀ l, FRule F (k 0) w r l → K l) : gtQ G (k 0) 0 9 fun q12 => nnq q12 fun a13 => ldQ (jty j.1) G a13 (nI r) fun q14 => nnq q14 fun a15 => gtQ G a15 11 0 fun q16 => nnq q16 K := by
  have h4 := hg.2.2.2.2.1
  obtain ⟨⟨cl, tp, fk, fp, lt, h0, _⟩, _, _, _, ⟨f, f1, f2⟩, _⟩ := C
  obtain ⟨a, l, e1, e2, e3⟩ := f2 r hr
  refine gR_c h h0 rfl (nnq_i (ldQ_c (t0 := 8) (tys := jty j.1) h rfl f1 (by omega) (by omega) ?_))
  rw [e1]
  exact nnq_i (gR_f h e2 rfl (nnq_i (kk l e3)))
theorem a_step (h : Rp k F c G) (C : CO j k F c w v) (hg : GW w) {o : Nat} (ho : o < w 5) {K : Nat → Prop} (kk : ∀ l, FStep F (k 0) w o l → K l) : gtQ G (k 0) 0 10 fun q12 => nnq q12 fun a13 => ldQ (jty j.1) G a13 (nI o) fun q14 => nnq q14 fun a15 => gtQ G a15 12 0 fun q16 => nnq q16 K := by
  have h5 := hg.2.2.2.2.2.1
  obtain ⟨⟨cl, tp, fk, fp, lt, h0, _⟩, _, _, _, _, ⟨f, f1, f2⟩⟩ := C
  obtain ⟨a, l, e1, e2, e3⟩ := f2 o ho
  refine gR_c h h0 rfl (nnq_i (ldQ_c (t0 := 9) (tys := jty j.1) h rfl f1 (by omega) (by omega) ?_))
  rw [e1]
  exact nnq_i (gR_f h e2 rfl (nnq_i (kk l e3)))
theorem c_breaksIn (h : Rp k F c G) (C : CO j k F c w v) (hg : GW w) (hvg : VG v) {s : Nat} (hs : s < 2 ^ 31) {post : Int32 → HG → Prop} (kk : post (oN (zbrk w v.2.2.1 s)) G) : hX0_breaksIn j (jLam j (N + 1)) (k 0) (nI s) G post := by
  have h4 := hg.2.2.2.2.1
  have hd := hvg.2.1
  refine ⟨w 4 + 1, lpH (A := Int32 × HG) (fun n p => hX0_breaksIn_l2 j (jLam j (N + 1)) (k 0) (nI s) post n p.1 p.2) (fun K p => hX0_breaksIn_b2 j (jLam j (N + 1)) (k 0) (nI s) post (fun x G => K (x, G)) p.1 p.2) (fun _ _ => rfl) (fun r p => ∃ i, p = (nI i, G) ∧ i + r = w 4 ∧ post (oN (fnd (zbad w v.2.2.1 s) i r)) G) ?_ ?_ (w 4) (0, G) ⟨0, rfl, by omega, kk⟩⟩
  · rintro K p ⟨i, rfl, hi, hp⟩
    exact a_rules h C (le_c (by omega) (by omega) (fun _ => hp) (fun q => by omega))
  · rintro r K p ⟨i, rfl, hi, hp⟩ hk
    have next : zbad w v.2.2.1 s i = false → K (nI i + 1, G) := fun hb => hk _ ⟨i + 1, by rw [nI_1], by omega, by rw [fnd_s, hb] at hp; exact hp⟩
    refine a_rules h C (le_c (by omega) (by omega) (fun q => by omega) (fun _ => a_dr h C (c_isOn (by omega) (by omega) (zb_0 (fun hb => ?_) (fun hb => ?_)))))
    · refine a_rule h C hg (by omega) (fun l hl => c_rule h C hg (by omega) hl hs (zb_0 (fun hh => ?_) (fun hh => ?_)))
      · have : zbad w v.2.2.1 s i = true := by unfold zbad; rw [hb, hh]; rfl
        rw [fnd_s, if_pos this] at hp
        exact hp
      · exact next (by unfold zbad; rw [hb, hh]; rfl)
    · exact next (by unfold zbad; rw [hb]; rfl)
/-- an operation, before it is asked whether the state is valid -/
theorem c_stepOn (h : Rp k F c G) (C : CO j k F c w v) (hg : GW w) {o s l : Nat} (ho : o < w 5) (hl : FStep F (k 0) w o l) (hs : s < zN w) {post : Int32 → HG → Prop} (kk : post (oN (zraw w o s)) G) : (jLam j (N + 1)).2.2.1 l (nI s) G post := by
  have h3 := hg.2.2.2.1
  have h0 := hg.1
  have hN := zN_le hg
  obtain ⟨g0, g1, g2, g3⟩ := hg.2.2.2.2.2.2.2.2.2.2.1 o ho
  have v1 := zvl_le w s (zpo w o 1)
  have hob := c_obj h C
  have add : ∀ {t cc n : Nat} {post : Int32 → HG → Prop}, t < zN w → cc < w 3 → n < 2 ^ 20 → post (oN (zadd w t cc n)) G → hX0_with j (jLam j N) (k 0) (nI t) (nI cc) (nI (zvl w t cc) + nI n) G post := fun {t cc n post} ht hc hn hp => by
    have vv := zvl_le w t cc
    refine c_with h C hg ht (by omega) ?_
    rw [nI_add, nI_toInt (by omega)]
    unfold zadd at hp
    by_cases q : zvl w t cc + n ≤ w 0
    · rw [if_pos q] at hp; rw [if_pos (by omega)]; exact hp
    · rw [if_neg q] at hp; rw [if_neg (by omega)]; exact hp
  have sub : ∀ {t cc n : Nat} {post : Int32 → HG → Prop}, t < zN w → cc < w 3 → n < 2 ^ 20 → post (oN (zsub w t cc n)) G → hX0_with j (jLam j N) (k 0) (nI t) (nI cc) (nI (zvl w t cc) - nI n) G post := fun {t cc n post} ht hc hn hp => by
    have vv := zvl_le w t cc
    refine c_with h C hg ht (by omega) ?_
    unfold zsub at hp
    by_cases q : n ≤ zvl w t cc
    · rw [if_pos q] at hp; rw [pk_sub q, nI_toInt (by omega), if_pos (by omega)]; exact hp
    · rw [if_neg q] at hp
      rw [pk_sub_toInt (by omega) (by omega), if_neg (by omega)]; exact hp
  unfold FStep at hl
  unfold zraw at kk
  show lamP_14 j (jLam j N) l (nI s) G post ∨ lamP_15 j (jLam j N) l (nI s) G post ∨ lamP_16 j (jLam j N) l (nI s) G post ∨ lamP_17 j (jLam j N) l (nI s) G post
  by_cases k0 : zpo w o 0 = 0
  · rw [if_pos k0] at hl kk
    have := g2 (Or.inl k0)
    obtain ⟨b, hb⟩ := h.fz hl
    exact Or.inl ⟨b, k 0, _, _, hb, hob, a_0 h C (c_valueOf h C hg (by omega) (by omega) (a_0 h C (add hs g1 (by omega) ⟨rfl, kk⟩)))⟩
  · rw [if_neg k0] at hl kk
    refine Or.inr ?_
    by_cases k1 : zpo w o 0 = 1
    · rw [if_pos k1] at hl kk
      have := g2 (Or.inr (Or.inl k1))
      obtain ⟨b, hb⟩ := h.fz hl
      exact Or.inl ⟨b, k 0, _, _, hb, hob, a_0 h C (c_valueOf h C hg (by omega) (by omega) (a_0 h C (sub hs g1 (by omega) ⟨rfl, kk⟩)))⟩
    · rw [if_neg k1] at hl kk
      refine Or.inr ?_
      by_cases k2 : zpo w o 0 = 2
      · rw [if_pos k2] at hl kk
        have := g2 (Or.inr (Or.inr k2))
        obtain ⟨b, hb⟩ := h.fz hl
        refine Or.inl ⟨b, k 0, _, _, hb, hob, a_0 h C (c_with h C hg hs (by omega) ?_)⟩
        rw [nI_toInt (by omega), if_pos (by omega)]
        exact ⟨rfl, kk⟩
      · rw [if_neg k2] at hl kk
        obtain ⟨t1, t2, t3⟩ := g3 (by omega)
        obtain ⟨b, hb⟩ := h.fz hl
        refine Or.inr ⟨b, k 0, _, _, _, hb, hob, a_0 h C (c_valueOf h C hg (by omega) (by omega) (a_0 h C (sub hs g1 (by omega) ?_)))⟩
        refine a_0 h C (c_valueOf h C hg (by omega) (by omega) (a_0 h C ?_))
        cases hq : zsub w s (zpo w o 1) (zpo w o 3) with
        | none =>
          rw [hq] at kk
          exact c_withN ⟨rfl, kk⟩
        | some t =>
          rw [hq] at kk
          have ht := zsub_lt hq hs g1
          have hsame : zvl w s (zpo w o 2) = zvl w t (zpo w o 2) := by
            unfold zsub at hq
            by_cases qq : zpo w o 3 ≤ zvl w s (zpo w o 1)
            · rw [if_pos qq] at hq; injection hq with hq
              rw [← hq, zvl_other s _ (by omega) t2.symm]
            · rw [if_neg qq] at hq; cases hq
          rw [hsame]
          exact add ht t1 (by omega) ⟨rfl, kk⟩
theorem a_valid (h : Rp k F c G) (C : CO j k F c w v) (hg : GW w) {dr : Nat} (V : CV j c w dr) {s : Nat} (hs : s < zN w) {K : Int32 → Prop} (kk : K (nI (zb1 (zval w dr s)))) : gtQ G (k 0) 0 11 fun q4 => nnq q4 fun a5 => ldI G a5 (j.1 1) (nI s) K := by
  have hN := zN_le hg
  obtain ⟨⟨cl, tp, fk, fp, lt, h0, _⟩, _⟩ := C
  obtain ⟨vf, v1, v2⟩ := V
  refine gR_c h h0 rfl (nnq_i (ldI_c h v1 (by omega) (by omega) ?_))
  rw [v2 s hs]
  exact kk
theorem c_stepIn (h : Rp k F c G) (C : CO j k F c w v) (hg : GW w) {dr : Nat} (V : CV j c w dr) {o s : Nat} (ho : o < w 5) (hs : s < zN w) {post : Int32 → HG → Prop} (kk : post (oN (zgo w dr o s)) G) : hX0_stepIn j (jLam j (N + 1)) (k 0) (nI o) (nI s) G post := by
  have hN := zN_le hg
  refine a_step h C hg ho (fun l hl => c_stepOn h C hg ho hl hs ?_)
  unfold zgo at kk
  cases hq : zraw w o s with
  | none =>
    rw [hq] at kk
    exact ⟨fun _ => kk, fun q => absurd rfl q⟩
  | some t =>
    rw [hq] at kk
    have ht := zraw_lt hg ho hs hq
    refine ⟨fun q => absurd q (nI_nm1 (by omega)), fun _ => a_valid h C hg V ht (zb_0 (fun q => ?_) (fun q => ?_))⟩
    · rw [show ((some t).bind fun t => if zval w dr t = true then some t else none) = none from by show (if _ then _ else _) = _; rw [q]; rfl] at kk
      exact kk
    · rw [show ((some t).bind fun t => if zval w dr t = true then some t else none) = some t from by show (if _ then _ else _) = _; rw [q]; rfl] at kk
      exact kk
end CLAM
