/-! SIDES: what a search by a queue finds (plain numbers) -/
/-- the first operation of a shortest way, without some -/
def zfst (w : WV) (dr wo b s o : Nat) : Bool := !wo.testBit o && match zgo w dr o b with
  | none => false
  | some t => decide (zfar w dr wo t s 3 + 1 = zfar w dr wo b s 3)
theorem zfst_0 (w : WV) (dr b s o : Nat) : zfst w dr 0 b s o = zfirst w dr b s o := by
  unfold zfst zfirst
  rw [Nat.zero_testBit]
  cases zgo w dr o b <;> rfl
def zfo (w : WV) (dr wo b s : Nat) : Nat := (fnd (zfst w dr wo b s) 0 (w 5)).getD 0
section BFS
variable {w : WV} {dr wo b : Nat}
theorem d_up {t L : Nat} (hL : L ≤ 3) : zfar w dr wo b t 3 ≤ L ↔ zlev w dr wo b L t = true := zfar_up hL (Nat.le_refl _)
theorem d_0 (hb : zval w dr b = true) {t : Nat} : zfar w dr wo b t 3 = 0 ↔ t = b := by
  have h : zlev w dr wo b 0 t = true ↔ t = b := by
    show (zval w dr b && decide (t = b)) = true ↔ _
    rw [hb, Bool.true_and, decide_eq_true_iff]
  rw [← h, ← d_up (by decide)]
  omega
theorem d_edge {u t L : Nat} (hu : u < zN w) (hL : L < 3) (h : zfar w dr wo b u 3 ≤ L) (he : zedge w dr wo u t = true) : zfar w dr wo b t 3 ≤ L + 1 := by
  rw [d_up (by omega)]
  show (zlev w dr wo b L t || zany _ _) = true
  rw [Bool.or_eq_true]
  exact Or.inr (zany_t.mpr ⟨u, hu, by rw [(d_up (by omega)).mp h, he]; rfl⟩)
theorem d_parent {t L : Nat} (hL : L < 3) (h : zfar w dr wo b t 3 = L + 1) : ∃ p, p < zN w ∧ zfar w dr wo b p 3 = L ∧ zedge w dr wo p t = true := by
  have h1 : zlev w dr wo b (L + 1) t = true := (d_up (by omega)).mp (by omega)
  have h2 : ¬ zlev w dr wo b L t = true := fun q => by have := (d_up (by omega)).mpr q; omega
  have h3 : (zlev w dr wo b L t || zany (fun u => zlev w dr wo b L u && zedge w dr wo u t) (zN w)) = true := h1
  rw [Bool.eq_false_iff.mpr h2, Bool.false_or] at h3
  obtain ⟨p, hp, hq⟩ := zany_t.mp h3
  rw [Bool.and_eq_true] at hq
  refine ⟨p, hp, ?_, hq.2⟩
  have h4 := (d_up (by omega)).mpr hq.1
  rcases Nat.lt_or_ge (zfar w dr wo b p 3) L with h5 | h5
  · exfalso
    have := d_edge (wo := wo) hp (show L - 1 < 3 by omega) (show zfar w dr wo b p 3 ≤ L - 1 by omega) hq.2
    omega
  · omega
theorem d_go {o t : Nat} (ho : o < w 5) (hwo : wo.testBit o = false) {u : Nat} (h : zgo w dr o u = some t) : zedge w dr wo u t = true := zany_t.mpr ⟨o, ho, by rw [hwo, h, decide_eq_true rfl]; rfl⟩
/-- a way that goes on from the first step -/
theorem d_cons (hb : b < zN w) (hv : zval w dr b = true) {t' : Nat} (he : zedge w dr wo b t' = true) : ∀ {L p : Nat}, zlev w dr wo t' L p = true → zlev w dr wo b (L + 1) p = true
  | 0, p, h => by
    have h' : (zval w dr t' && decide (p = t')) = true := h
    rw [Bool.and_eq_true] at h'
    have := of_decide_eq_true h'.2
    subst this
    show (zlev w dr wo b 0 p || zany _ _) = true
    rw [Bool.or_eq_true]
    refine Or.inr (zany_t.mpr ⟨b, hb, ?_⟩)
    rw [he, Bool.and_true]
    show (zval w dr b && decide (b = b)) = true
    rw [hv, decide_eq_true rfl]; rfl
  | L + 1, p, h => by
    have h' : (zlev w dr wo t' L p || zany (fun u => zlev w dr wo t' L u && zedge w dr wo u p) (zN w)) = true := h
    rw [Bool.or_eq_true] at h'
    rcases h' with h' | h'
    · exact zlev_up (d_cons hb hv he h')
    · obtain ⟨u, hu, hq⟩ := zany_t.mp h'
      rw [Bool.and_eq_true] at hq
      show (zlev w dr wo b (L + 1) p || zany _ _) = true
      rw [Bool.or_eq_true]
      exact Or.inr (zany_t.mpr ⟨u, hu, by rw [d_cons hb hv he hq.1, hq.2]; rfl⟩)
theorem zfst_t {s o : Nat} : zfst w dr wo b s o = true ↔ wo.testBit o = false ∧ ∃ t, zgo w dr o b = some t ∧ zfar w dr wo t s 3 + 1 = zfar w dr wo b s 3 := by
  unfold zfst
  rw [Bool.and_eq_true]
  cases h : zgo w dr o b with
  | none => exact ⟨fun q => (by cases q.2), fun ⟨_, t, q, _⟩ => by cases q⟩
  | some t => exact ⟨fun q => ⟨by simpa using q.1, t, rfl, of_decide_eq_true q.2⟩, fun ⟨q, t', e, q2⟩ => ⟨by simpa using q, by injection e with e; subst e; exact decide_eq_true q2⟩⟩
theorem zfo_spec {s r : Nat} (hr : r < w 5) (h : zfst w dr wo b s r = true) : zfo w dr wo b s ≤ r ∧ zfo w dr wo b s < w 5 ∧ zfst w dr wo b s (zfo w dr wo b s) = true ∧ fnd (zfst w dr wo b s) 0 (w 5) = some (zfo w dr wo b s) := by
  unfold zfo
  cases hq : fnd (zfst w dr wo b s) 0 (w 5) with
  | none => have := fnd_none.mp hq r (Nat.zero_le _) (by omega); rw [h] at this; cases this
  | some o =>
    obtain ⟨h1, h2, h3, h4⟩ := fnd_some hq
    refine ⟨Nat.not_lt.mp (fun q => ?_), by show o < _; omega, h3, rfl⟩
    have := h4 r (Nat.zero_le _) q
    rw [h] at this; cases this
/-- the queue: k is looked at, its operations up to o are done -/
def BQ (w : WV) (dr wo b d : Nat) (row : Nat → Nat) (m k o : Nat) : Prop :=
  row 0 = b ∧ k < m ∧ (∀ i i', i < m → i' < m → row i = row i' → i = i') ∧ (∀ i, i < m → row i < zN w ∧ zfar w dr wo b (row i) 3 ≤ d) ∧
  (∀ i i', i ≤ i' → i' < m → zfar w dr wo b (row i) 3 ≤ zfar w dr wo b (row i') 3) ∧
  (∀ i, i < m → zfar w dr wo b (row i) 3 ≤ zfar w dr wo b (row k) 3 + 1) ∧
  (∀ i t, i < k → zedge w dr wo (row i) t = true → ∃ i', i' < m ∧ row i' = t) ∧
  (∀ o' t, o' < o → wo.testBit o' = false → zgo w dr o' (row k) = some t → ∃ i', i' < m ∧ row i' = t) ∧
  (∀ t, zfar w dr wo b t 3 < zfar w dr wo b (row k) 3 → ∃ i, i < k ∧ row i = t) ∧
  (∀ i i', i ≤ i' → i' < m → zfar w dr wo b (row i) 3 = zfar w dr wo b (row i') 3 → zfo w dr wo b (row i) ≤ zfo w dr wo b (row i')) ∧
  (∀ i, i < m → zfar w dr wo b (row i) 3 = zfar w dr wo b (row k) 3 + 1 → (k = 0 → zfo w dr wo b (row i) < o) ∧ (0 < k → zfo w dr wo b (row i) ≤ zfo w dr wo b (row k)))
theorem bq_0 (hb : b < zN w) (hv : zval w dr b = true) (d : Nat) : BQ w dr wo b d (fun _ => b) 1 0 0 := by
  have h0 : zfar w dr wo b b 3 = 0 := (d_0 hv).mpr rfl
  refine ⟨rfl, by omega, fun i i' _ _ _ => by omega, fun i _ => ⟨hb, by rw [h0]; omega⟩, fun _ _ _ _ => Nat.le_refl _, fun _ _ => Nat.le_succ _, fun i t h => absurd h (Nat.not_lt_zero _), fun o t h => absurd h (Nat.not_lt_zero _), fun t h => by rw [h0] at h; exact absurd h (Nat.not_lt_zero _), fun _ _ _ _ _ => Nat.le_refl _, fun i _ h => by rw [h0] at h; omega⟩
/-- one that is found anew is one further; its first operation -/
theorem bq_new (hv : zval w dr b = true) (hg : GW w) {d m k o u : Nat} {row : Nat → Nat} (hQ : BQ w dr wo b d row m k o) (hd : d ≤ 3) (hk : zfar w dr wo b (row k) 3 < d) (ho : o < w 5) (hbit : wo.testBit o = false) (hgo : zgo w dr o (row k) = some u) (hnew : ∀ i, i < m → row i ≠ u) :
    zfar w dr wo b u 3 = zfar w dr wo b (row k) 3 + 1 ∧ zfo w dr wo b u = (if k = 0 then o else zfo w dr wo b (row k)) ∧ fnd (zfst w dr wo b u) 0 (w 5) = some (zfo w dr wo b u) := by
  obtain ⟨q0, q1, q2, q3, q4, q5, q6, q7, q8, q9, q10⟩ := hQ
  have hkN := (q3 k q1).1
  have hbN : b < zN w := by have := (q3 0 (by omega)).1; rw [q0] at this; exact this
  have hun : ¬ ∃ i', i' < m ∧ row i' = u := fun ⟨i, h1, h2⟩ => hnew i h1 h2
  have hed := d_go ho hbit hgo
  have h1 : zfar w dr wo b u 3 ≤ zfar w dr wo b (row k) 3 + 1 := d_edge hkN (by omega) (Nat.le_refl _) hed
  -- all of the level of the one looked at are there
  have lev : ∀ t, t < zN w → zfar w dr wo b t 3 = zfar w dr wo b (row k) 3 → ∃ i, i < m ∧ row i = t := fun t _ ht => by
    cases hL : zfar w dr wo b (row k) 3 with
    | zero =>
      rw [hL] at ht
      exact ⟨0, by omega, q0.trans ((d_0 hv).mp ht).symm⟩
    | succ L =>
      rw [hL] at ht
      obtain ⟨p, p1, p2, p3⟩ := d_parent (by omega) ht
      obtain ⟨i, i1, i2⟩ := q8 p (by omega)
      rw [← i2] at p3
      exact q6 i t i1 p3
  have huN := (zgo_lt hg ho hkN hgo).1
  have h2 : zfar w dr wo b u 3 = zfar w dr wo b (row k) 3 + 1 := by
    rcases Nat.lt_or_ge (zfar w dr wo b (row k) 3) (zfar w dr wo b u 3) with h | h
    · omega
    · exfalso
      rcases Nat.lt_or_ge (zfar w dr wo b u 3) (zfar w dr wo b (row k) 3) with h' | h'
      · obtain ⟨i, i1, i2⟩ := q8 u h'
        exact hnew i (by omega) i2
      · exact hun (lev u huN (by omega))
  refine ⟨h2, ?_⟩
  by_cases hk0 : k = 0
  · subst hk0
    rw [q0] at hgo h2 hk
    have hb0 : zfar w dr wo b b 3 = 0 := (d_0 hv).mpr rfl
    rw [hb0] at h2
    have huv := (zgo_lt hg ho hbN hgo).2
    have hfst : zfst w dr wo b u o = true := zfst_t.mpr ⟨hbit, u, hgo, by rw [(d_0 huv).mpr rfl, h2]⟩
    obtain ⟨f1, f2, f3, f4⟩ := zfo_spec ho hfst
    refine ⟨?_, f4⟩
    rw [if_pos rfl]
    refine Nat.le_antisymm f1 (Nat.not_lt.mp (fun q => ?_))
    obtain ⟨g1, t, g2, g3⟩ := zfst_t.mp f3
    have htv := (zgo_lt hg f2 hbN g2).2
    have : u = t := (d_0 (wo := wo) htv).mp (by omega)
    subst this
    exact hun (q7 _ u q g1 (by rw [q0]; exact g2))
  · rw [if_neg hk0]
    have hL1 : 1 ≤ zfar w dr wo b (row k) 3 := by
      rcases Nat.eq_zero_or_pos (zfar w dr wo b (row k) 3) with h | h
      · exfalso
        have := (d_0 hv).mp h
        exact hk0 (q2 k 0 q1 (by omega) (this.trans q0.symm))
      · exact h
    -- whoever is at its level and reaches u stands not before k
    have back : ∀ o', o' < w 5 → zfst w dr wo b u o' = true → zfo w dr wo b (row k) ≤ o' := fun o' ho' hf => by
      obtain ⟨g1, t, g2, g3⟩ := zfst_t.mp hf
      have htN := (zgo_lt hg ho' hbN g2)
      have het := d_go (wo := wo) ho' g1 g2
      obtain ⟨L, hL⟩ : ∃ L, zfar w dr wo b (row k) 3 = L + 1 := ⟨_, (Nat.succ_pred_eq_of_pos hL1).symm⟩
      have hd3 : zfar w dr wo t u 3 = L + 1 := by omega
      obtain ⟨p, p1, p2, p3⟩ := d_parent (b := t) (by omega) hd3
      have pb : zfar w dr wo b p 3 ≤ L + 1 := (d_up (by omega)).mpr (d_cons hbN hv het ((d_up (by omega)).mp (Nat.le_of_eq p2)))
      have pe : zfar w dr wo b p 3 = L + 1 := by
        rcases Nat.lt_or_ge (zfar w dr wo b p 3) (L + 1) with h | h
        · exfalso
          have := d_edge (b := b) p1 (show L < 3 by omega) (show zfar w dr wo b p 3 ≤ L by omega) p3
          omega
        · omega
      obtain ⟨i, i1, i2⟩ := lev p p1 (by omega)
      have hik : k ≤ i := Nat.not_lt.mp (fun q => by
        rw [← i2] at p3
        exact hun (q6 i u q p3))
      have hfp : zfst w dr wo b p o' = true := zfst_t.mpr ⟨g1, t, g2, by omega⟩
      have := (zfo_spec ho' hfp).1
      have h9 := q9 k i hik i1 (by rw [i2, pe, hL])
      rw [i2] at h9
      omega
    -- its own first operation leads on
    obtain ⟨L, hL⟩ : ∃ L, zfar w dr wo b (row k) 3 = L + 1 := ⟨_, (Nat.succ_pred_eq_of_pos hL1).symm⟩
    obtain ⟨x, hx, hxf⟩ : ∃ x, x < w 5 ∧ zfst w dr wo b (row k) x = true := by
      -- a way exists: by levels
      have way : ∀ L s, L < 3 → zfar w dr wo b s 3 = L + 1 → ∃ x, x < w 5 ∧ zfst w dr wo b s x = true := by
        intro L
        induction L with
        | zero =>
          intro s _ hs
          obtain ⟨p, p1, p2, p3⟩ := d_parent (by omega) hs
          have := (d_0 hv).mp p2
          subst this
          obtain ⟨x, x1, x2⟩ := zany_t.mp p3
          rw [Bool.and_eq_true] at x2
          have x3 := of_decide_eq_true x2.2
          have xv := (zgo_lt hg x1 p1 x3).2
          exact ⟨x, x1, zfst_t.mpr ⟨by simpa using x2.1, s, x3, by rw [(d_0 xv).mpr rfl, hs]⟩⟩
        | succ L ih =>
          intro s hL hs
          obtain ⟨p, p1, p2, p3⟩ := d_parent (by omega) hs
          obtain ⟨x, x1, x2⟩ := ih p (by omega) p2
          obtain ⟨g1, t, g2, g3⟩ := zfst_t.mp x2
          have het := d_go (wo := wo) x1 g1 g2
          refine ⟨x, x1, zfst_t.mpr ⟨g1, t, g2, ?_⟩⟩
          have a1 := d_edge (b := t) p1 (show L < 3 by omega) (show zfar w dr wo t p 3 ≤ L by omega) p3
          rcases Nat.lt_or_ge (zfar w dr wo t s 3) (L + 1) with h | h
          · exfalso
            have := (d_up (by omega)).mpr (d_cons hbN hv het ((d_up (show L ≤ 3 by omega)).mp (show zfar w dr wo t s 3 ≤ L by omega)))
            omega
          · omega
      exact way L (row k) (by omega) hL
    obtain ⟨f1, f2, f3, f4⟩ := zfo_spec hx hxf
    obtain ⟨g1, t, g2, g3⟩ := zfst_t.mp f3
    have het := d_go (wo := wo) f2 g1 g2
    have hfu : zfst w dr wo b u (zfo w dr wo b (row k)) = true := by
      refine zfst_t.mpr ⟨g1, t, g2, ?_⟩
      have a1 := d_edge (b := t) hkN (show L < 3 by omega) (show zfar w dr wo t (row k) 3 ≤ L by omega) hed
      rcases Nat.lt_or_ge (zfar w dr wo t u 3) (L + 1) with h | h
      · exfalso
        have := (d_up (by omega)).mpr (d_cons hbN hv het ((d_up (show L ≤ 3 by omega)).mp (show zfar w dr wo t u 3 ≤ L by omega)))
        omega
      · omega
    obtain ⟨r1, r2, r3, r4⟩ := zfo_spec f2 hfu
    exact ⟨Nat.le_antisymm r1 (back _ r2 r3), r4⟩
theorem bq_add (hv : zval w dr b = true) (hg : GW w) {d m k o u : Nat} {row : Nat → Nat} (hQ : BQ w dr wo b d row m k o) (hd : d ≤ 3) (hk : zfar w dr wo b (row k) 3 < d) (ho : o < w 5) (hbit : wo.testBit o = false) (hgo : zgo w dr o (row k) = some u) (hnew : ∀ i, i < m → row i ≠ u) :
    BQ w dr wo b d (fun i => if i = m then u else row i) (m + 1) k (o + 1) := by
  obtain ⟨n1, n2, n3⟩ := bq_new hv hg hQ hd hk ho hbit hgo hnew
  obtain ⟨q0, q1, q2, q3, q4, q5, q6, q7, q8, q9, q10⟩ := hQ
  have huN := (zgo_lt hg ho (q3 k q1).1 hgo).1
  have ek : (if k = m then u else row k) = row k := if_neg (by omega)
  have ei : ∀ i, i < m → (if i = m then u else row i) = row i := fun i hi => if_neg (by omega)
  have em : (if m = m then u else row m) = u := if_pos rfl
  refine ⟨(ei 0 (by omega)).trans q0, by omega, fun i i' h1 h2 h3 => ?_, fun i hi => ?_, fun i i' h1 h2 => ?_, fun i hi => ?_, fun i t h1 h2 => ?_, fun o' t h1 h2 h3 => ?_, fun t ht => ?_, fun i i' h1 h2 h3 => ?_, fun i hi h2 => ?_⟩
  · dsimp only at h3
    by_cases a1 : i = m
    · by_cases a2 : i' = m
      · omega
      · rw [a1, em, ei i' (by omega)] at h3
        exact absurd h3.symm (hnew i' (by omega))
    · by_cases a2 : i' = m
      · rw [a2, em, ei i (by omega)] at h3
        exact absurd h3 (hnew i (by omega))
      · rw [ei i (by omega), ei i' (by omega)] at h3
        exact q2 i i' (by omega) (by omega) h3
  · dsimp only
    by_cases a1 : i = m
    · rw [a1, em]; exact ⟨huN, by omega⟩
    · rw [ei i (by omega)]; exact q3 i (by omega)
  · dsimp only
    by_cases a2 : i' = m
    · by_cases a1 : i = m
      · rw [a1, a2]; exact Nat.le_refl _
      · rw [a2, em, ei i (by omega), n1]; exact q5 i (by omega)
    · rw [ei i' (by omega), ei i (by omega)]; exact q4 i i' h1 (by omega)
  · dsimp only
    rw [ek]
    by_cases a1 : i = m
    · rw [a1, em, n1]; exact Nat.le_refl _
    · rw [ei i (by omega)]; exact q5 i (by omega)
  · dsimp only at h2 ⊢
    rw [ei i (by omega)] at h2
    obtain ⟨x, x1, x2⟩ := q6 i t h1 h2
    exact ⟨x, by omega, by rw [ei x x1]; exact x2⟩
  · dsimp only at h3 ⊢
    rw [ek] at h3
    by_cases a : o' = o
    · rw [a, hgo] at h3
      injection h3 with h3
      exact ⟨m, by omega, by rw [em]; exact h3⟩
    · obtain ⟨x, x1, x2⟩ := q7 o' t (by omega) h2 h3
      exact ⟨x, by omega, by rw [ei x x1]; exact x2⟩
  · dsimp only at ht ⊢
    rw [ek] at ht
    obtain ⟨x, x1, x2⟩ := q8 t ht
    exact ⟨x, x1, by rw [ei x (by omega)]; exact x2⟩
  · dsimp only at h3 ⊢
    by_cases a2 : i' = m
    · by_cases a1 : i = m
      · rw [a1, a2]; exact Nat.le_refl _
      · rw [a2, em, ei i (by omega)] at h3 ⊢
        rw [n1] at h3
        obtain ⟨c1, c2⟩ := q10 i (by omega) h3
        rw [n2]
        by_cases hk0 : k = 0
        · rw [if_pos hk0]; have := c1 hk0; omega
        · rw [if_neg hk0]; exact c2 (by omega)
    · rw [ei i' (by omega), ei i (by omega)] at h3 ⊢
      exact q9 i i' h1 (by omega) h3
  · dsimp only at h2 ⊢
    rw [ek] at h2 ⊢
    by_cases a1 : i = m
    · rw [a1, em, n2]
      exact ⟨fun hk0 => by rw [if_pos hk0]; omega, fun hk0 => by rw [if_neg (by omega)]; exact Nat.le_refl _⟩
    · rw [ei i (by omega)] at h2 ⊢
      obtain ⟨c1, c2⟩ := q10 i (by omega) h2
      exact ⟨fun hk0 => by have := c1 hk0; omega, c2⟩
theorem bq_skip {d m k o : Nat} {row : Nat → Nat} (hQ : BQ w dr wo b d row m k o) (h : ∀ t, wo.testBit o = false → zgo w dr o (row k) = some t → ∃ i', i' < m ∧ row i' = t) : BQ w dr wo b d row m k (o + 1) := by
  obtain ⟨q0, q1, q2, q3, q4, q5, q6, q7, q8, q9, q10⟩ := hQ
  refine ⟨q0, q1, q2, q3, q4, q5, q6, fun o' t h1 h2 h3 => ?_, q8, q9, fun i hi h2 => ?_⟩
  · by_cases a : o' = o
    · rw [a] at h2 h3; exact h t h2 h3
    · exact q7 o' t (by omega) h2 h3
  · obtain ⟨c1, c2⟩ := q10 i hi h2
    exact ⟨fun hk0 => by have := c1 hk0; omega, c2⟩
/-- the next one in the queue -/
theorem bq_next (hv : zval w dr b = true) {d m k : Nat} {row : Nat → Nat} (hQ : BQ w dr wo b d row m k (w 5)) (hd : d ≤ 3) (hk : zfar w dr wo b (row k) 3 < d) (hm : k + 1 < m) : BQ w dr wo b d row m (k + 1) 0 := by
  obtain ⟨q0, q1, q2, q3, q4, q5, q6, q7, q8, q9, q10⟩ := hQ
  have all : ∀ i t, i < k + 1 → zedge w dr wo (row i) t = true → ∃ i', i' < m ∧ row i' = t := fun i t hi he => by
    by_cases a : i = k
    · obtain ⟨o, o1, o2⟩ := zany_t.mp he
      rw [Bool.and_eq_true] at o2
      rw [a] at o2
      exact q7 o t o1 (by simpa using o2.1) (of_decide_eq_true o2.2)
    · exact q6 i t (by omega) he
  have s1 := q4 k (k + 1) (by omega) hm
  have s2 := q5 (k + 1) hm
  refine ⟨q0, hm, q2, q3, q4, fun i hi => by have := q5 i hi; omega, all, fun o' t h => absurd h (Nat.not_lt_zero _), fun t ht => ?_, q9, fun i hi h2 => ⟨fun h => by omega, fun _ => ?_⟩⟩
  · rcases Nat.lt_or_ge (zfar w dr wo b t 3) (zfar w dr wo b (row k) 3) with h | h
    · obtain ⟨i, i1, i2⟩ := q8 t h
      exact ⟨i, by omega, i2⟩
    · -- the level of k, the next is one further
      have he : zfar w dr wo b t 3 = zfar w dr wo b (row k) 3 := by omega
      have hin : ∃ i, i < m ∧ row i = t := by
        cases hL : zfar w dr wo b (row k) 3 with
        | zero => rw [hL] at he; exact ⟨0, by omega, q0.trans ((d_0 hv).mp he).symm⟩
        | succ L =>
          rw [hL] at he
          obtain ⟨p, p1, p2, p3⟩ := d_parent (by omega) he
          obtain ⟨i, i1, i2⟩ := q8 p (by omega)
          rw [← i2] at p3
          exact q6 i t i1 p3
      obtain ⟨i, i1, i2⟩ := hin
      refine ⟨i, Nat.not_le.mp (fun q => ?_), i2⟩
      have := q4 (k + 1) i q i1
      rw [i2] at this
      omega
  · rcases Nat.lt_or_ge (zfar w dr wo b (row k) 3) (zfar w dr wo b (row (k + 1)) 3) with h | h
    · have := q5 i hi; omega
    · have he : zfar w dr wo b (row k) 3 = zfar w dr wo b (row (k + 1)) 3 := by omega
      have h9 := q9 k (k + 1) (by omega) hm he
      by_cases hk0 : k = 0
      · exfalso
        subst hk0
        rw [q0, (d_0 hv).mpr rfl] at he
        have := (d_0 hv).mp he.symm
        have := q2 1 0 hm (by omega) (this.trans q0.symm)
        omega
      · have := (q10 i hi (by omega)).2 (by omega)
        omega
/-- at the end: all that is reached is there -/
theorem bq_end (hv : zval w dr b = true) {d m k : Nat} {row : Nat → Nat} (hd : d ≤ 3) (hQ : (BQ w dr wo b d row m k 0 ∧ d ≤ zfar w dr wo b (row k) 3) ∨ (BQ w dr wo b d row m k (w 5) ∧ k + 1 = m)) {t : Nat} (ht : zfar w dr wo b t 3 ≤ d) : ∃ i, i < m ∧ row i = t := by
  rcases hQ with ⟨hQ, hk⟩ | ⟨hQ, hk⟩
  · obtain ⟨q0, q1, q2, q3, q4, q5, q6, q7, q8, q9, q10⟩ := hQ
    have hk2 := (q3 k q1).2
    rcases Nat.lt_or_ge (zfar w dr wo b t 3) (zfar w dr wo b (row k) 3) with h | h
    · obtain ⟨i, i1, i2⟩ := q8 t h
      exact ⟨i, by omega, i2⟩
    · have he : zfar w dr wo b t 3 = zfar w dr wo b (row k) 3 := by omega
      cases hL : zfar w dr wo b (row k) 3 with
      | zero => rw [hL] at he; exact ⟨0, by omega, q0.trans ((d_0 hv).mp he).symm⟩
      | succ L =>
        rw [hL] at he
        obtain ⟨p, p1, p2, p3⟩ := d_parent (by omega) he
        obtain ⟨i, i1, i2⟩ := q8 p (by omega)
        rw [← i2] at p3
        exact q6 i t i1 p3
  · obtain ⟨q0, q1, q2, q3, q4, q5, q6, q7, q8, q9, q10⟩ := hQ
    have all : ∀ i t, i < m → zedge w dr wo (row i) t = true → ∃ i', i' < m ∧ row i' = t := fun i t hi he => by
      by_cases a : i = k
      · obtain ⟨o, o1, o2⟩ := zany_t.mp he
        rw [Bool.and_eq_true] at o2
        rw [a] at o2
        exact q7 o t o1 (by simpa using o2.1) (of_decide_eq_true o2.2)
      · exact q6 i t (by omega) he
    have lv : ∀ L, L ≤ 3 → ∀ t, zfar w dr wo b t 3 = L → ∃ i, i < m ∧ row i = t := by
      intro L
      induction L with
      | zero => intro _ t ht; exact ⟨0, by omega, q0.trans ((d_0 hv).mp ht).symm⟩
      | succ L ih =>
        intro hL t ht
        obtain ⟨p, p1, p2, p3⟩ := d_parent (by omega) ht
        obtain ⟨i, i1, i2⟩ := ih (by omega) p p2
        rw [← i2] at p3
        exact all i t i1 p3
    exact lv _ (by omega) t rfl
/-- how many different ones there can be -/
theorem inj_le : ∀ (m n : Nat) (row : Nat → Nat), (∀ i, i < m → row i < n) → (∀ i i', i < m → i' < m → row i = row i' → i = i') → m ≤ n
  | 0, n, _, _, _ => Nat.zero_le _
  | m + 1, 0, row, h, _ => absurd (h 0 (by omega)) (Nat.not_lt_zero _)
  | m + 1, n + 1, row, h, hi => by
    -- the last one changes places with the largest
    have := inj_le m n (fun i => if row i = n then row m else row i) (fun i hi2 => by
      try dsimp only
      have h1 := h i (by omega)
      have h2 := h m (by omega)
      by_cases a : row i = n
      · rw [if_pos a]
        rcases Nat.lt_or_ge (row m) n with c | c
        · exact c
        · have := hi i m (by omega) (by omega) (by omega)
          omega
      · rw [if_neg a]; omega) (fun i i' a1 a2 a3 => by
      try dsimp only at a3
      by_cases c1 : row i = n
      · by_cases c2 : row i' = n
        · exact hi i i' (by omega) (by omega) (by omega)
        · rw [if_pos c1, if_neg c2] at a3
          have := hi m i' (by omega) (by omega) a3
          omega
      · by_cases c2 : row i' = n
        · rw [if_neg c1, if_pos c2] at a3
          have := hi i m (by omega) (by omega) a3
          omega
        · rw [if_neg c1, if_neg c2] at a3
          exact hi i i' (by omega) (by omega) a3)
    omega
/-- counted: as many as stand in the row -/
theorem cnt_row (P : Nat → Bool) : ∀ (n m : Nat) (row : Nat → Nat), (∀ i, i < m → row i < n ∧ P (row i) = true) → (∀ i i', i < m → i' < m → row i = row i' → i = i') → (∀ s, s < n → P s = true → ∃ i, i < m ∧ row i = s) → itf (fun s a => a + zb1 (P s)) 0 n 0 = m
  | 0, m, row, h1, _, _ => by
    cases m with
    | zero => rfl
    | succ m => exact absurd (h1 0 (by omega)).1 (Nat.not_lt_zero _)
  | n + 1, m, row, h1, h2, h3 => by
    rw [itf_last, Nat.zero_add]
    by_cases hp : P n = true
    · obtain ⟨x, x1, x2⟩ := h3 n (by omega) hp
      have := cnt_row P n (m - 1) (fun i => if i = x then row (m - 1) else row i) (fun i hi => by
        try dsimp only
        by_cases a : i = x
        · rw [if_pos a]
          have h := h1 (m - 1) (by omega)
          refine ⟨?_, h.2⟩
          rcases Nat.lt_or_ge (row (m - 1)) n with c | c
          · exact c
          · have := h2 (m - 1) x (by omega) x1 (by omega)
            omega
        · rw [if_neg a]
          have h := h1 i (by omega)
          refine ⟨?_, h.2⟩
          rcases Nat.lt_or_ge (row i) n with c | c
          · exact c
          · have := h2 i x (by omega) x1 (by omega)
            omega) (fun i i' a1 a2 a3 => by
        try dsimp only at a3
        by_cases c1 : i = x
        · by_cases c2 : i' = x
          · omega
          · rw [if_pos c1, if_neg c2] at a3
            have := h2 (m - 1) i' (by omega) (by omega) a3
            omega
        · by_cases c2 : i' = x
          · rw [if_neg c1, if_pos c2] at a3
            have := h2 i (m - 1) (by omega) (by omega) a3
            omega
          · rw [if_neg c1, if_neg c2] at a3
            exact h2 i i' (by omega) (by omega) a3) (fun s hs hps => by
        obtain ⟨y, y1, y2⟩ := h3 s (by omega) hps
        by_cases c : y = m - 1
        · refine ⟨x, ?_, by rw [if_pos rfl, ← c]; exact y2⟩
          rcases Nat.lt_or_ge x (m - 1) with e | e
          · exact e
          · have : x = y := by omega
            rw [← this] at y2
            omega
        · refine ⟨y, by omega, ?_⟩
          try dsimp only
          rw [if_neg (fun q => by rw [q] at y2; omega)]
          exact y2)
      rw [this, hp]
      show m - 1 + 1 = m
      omega
    · have := cnt_row P n m row (fun i hi => ⟨by
        have h := h1 i hi
        rcases Nat.lt_or_ge (row i) n with c | c
        · exact c
        · have e : row i = n := by omega
          rw [← e] at hp
          exact absurd h.2 hp, (h1 i hi).2⟩) h2 (fun s hs hps => h3 s (by omega) hps)
      rw [this, Bool.eq_false_iff.mpr hp]
      rfl
end BFS
