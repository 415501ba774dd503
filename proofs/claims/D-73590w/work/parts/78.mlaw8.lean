/-! THE MODEL by its numbers: nearest, hard, spare, room, bare, calm, bound, hot -/
/-- in how many cells two states differ -/
def zdif (w : WV) (s t : Nat) : Nat := itf (fun c a => a + zb1 (!decide (zvl w s c = zvl w t c))) 0 (w 3) 0
theorem itf_zb_le (P : Nat → Bool) : ∀ n i a, itf (fun c a => a + zb1 (P c)) i n a ≤ a + n
  | 0, _, _ => Nat.le_refl _
  | n + 1, i, a => by
    rw [itf_s]
    have := itf_zb_le P n (i + 1) (a + zb1 (P i))
    have := zb1_le (P i)
    omega
theorem zdif_le (w : WV) (s t : Nat) : zdif w s t ≤ w 3 := by
  have := itf_zb_le (fun c => !decide (zvl w s c = zvl w t c)) (w 3) 0 0
  unfold zdif
  omega
def zbt (o : Option (Nat × Nat)) (n : Nat) : Bool := match o with
  | none => true
  | some p => decide (n < p.2)
def zgt (o : Option (Nat × Nat)) (n : Nat) : Bool := match o with
  | none => true
  | some p => decide (p.2 < n)
def znst (w : WV) (dr s t : Nat) (o : Option (Nat × Nat)) : Option (Nat × Nat) := if (zval w dr t && zbt o (zdif w s t)) = true then some (t, zdif w s t) else o
def zne (w : WV) (dr s : Nat) : Option Nat := (itf (fun t o => znst w dr s t o) 0 (zN w) none).map (fun p => p.1)
def zneE (o : Option (Nat × Nat)) : Int32 × Int32 := match o with
  | none => (-1, 1000000000)
  | some p => (nI p.1, nI p.2)
def zq_nearest (w : WV) (s : Int32) : Int32 := zif (decide (0 < w 7)) (zif (zisS w s.toInt) (oN (zne w (zdr w) s.toInt.toNat)))
theorem p_nearest {w : WV} {σ : MS} (hw : MW w σ) (hg : GW w) (y : Int32) : ∃ σ', f7_nearest y σ = some (zq_nearest w y, σ') ∧ FR MSC σ σ' := by
  have hN := zN_le hg
  have h3 := hg.2.2.2.1
  refine p_asks hw hg (fun σ1 _ h _ => p_state h hg (fun s hs e => ⟨σ1, ?_, FR.rfl' _ _⟩))
  subst e
  rw [tn (by omega)]
  -- the inner loop: how many differ
  have inner : ∀ (K28 : Int32 → Int32 → Int32 → Int32 → MS → oI Int32) (x2 x3 : Int32) (t : Nat), t < zN w → f7_nearest_l43 K28 FU (nI s) x2 x3 (nI t) 0 0 σ1 = (if zval w (zdr w) t = true then (if nI (zdif w s t) < x3 then K28 (nI s) (nI t) (nI (zdif w s t)) (nI t + 1) σ1 else K28 (nI s) x2 x3 (nI t + 1) σ1) else K28 (nI s) x2 x3 (nI t + 1) σ1) := fun K28 x2 x3 t ht => by
    refine lpI (A := Int32 × Int32) (fun n p => f7_nearest_l43 K28 n (nI s) x2 x3 (nI t) p.1 p.2 σ1) (fun i a => (nI a, nI i)) (fun c a => a + zb1 (!decide (zvl w s c = zvl w t c))) (w 3) (fun a => if zval w (zdr w) t = true then (if nI a < x3 then K28 (nI s) (nI t) (nI a) (nI t + 1) σ1 else K28 (nI s) x2 x3 (nI t + 1) σ1) else K28 (nI s) x2 x3 (nI t + 1) σ1) (fun _ _ => True) (fun n a _ => ?_) (fun n i a hi _ => ⟨?_, trivial⟩) (w 3) 0 0 FU (by omega) (by rw [FU_e]; omega) trivial
    · have hsh : f7_nearest_l43 K28 (n + 1) (nI s) x2 x3 (nI t) (nI a) (nI (w 3)) σ1 = f7_nearest_b43 K28 (f7_nearest_l43 K28 n) (nI s) x2 x3 (nI t) (nI a) (nI (w 3)) σ1 := rfl
      try dsimp only
      rw [hsh]
      unfold f7_nearest_b43 f7_nearest_b111
      rw [e_cells h.1, bnd_s, if_pos (nI_le (by omega) (by omega)), grd_t (inB_nI (by omega) (by omega)), nI_clamp (by omega), h.2.2.1 t ht, if10]
      rfl
    · have hsh : f7_nearest_l43 K28 (n + 1) (nI s) x2 x3 (nI t) (nI a) (nI i) σ1 = f7_nearest_b43 K28 (f7_nearest_l43 K28 n) (nI s) x2 x3 (nI t) (nI a) (nI i) σ1 := rfl
      have b1 := zvl_le w s i
      have b2 := zvl_le w t i
      have h0 := hg.1
      try dsimp only
      rw [hsh]
      unfold f7_nearest_b43 f7_nearest_b77
      rw [e_cells h.1, bnd_s, if_neg (nI_ge (by omega) (by omega)), e_valueOf h.1 hg (by omega) (by omega), bnd_s, e_valueOf h.1 hg (by omega) (by omega), bnd_s, nI_eqk (by omega) (by omega), nI_1 i]
      by_cases q : zvl w s i = zvl w t i
      · rw [if_pos q, decide_eq_true q]; show f7_nearest_l43 K28 n _ _ _ _ (nI a + nI 0) _ _ = _; rw [nI_add]; rfl
      · rw [if_neg q, decide_eq_false q]; show f7_nearest_l43 K28 n _ _ _ _ (nI a + nI 1) _ _ = _; rw [nI_add]; rfl
  have outer := lpI (A := Int32 × Int32 × Int32) (fun n p => f7_nearest_l28 n (nI s) p.1 p.2.1 p.2.2 σ1) (fun i o => ((zneE o).1, (zneE o).2, nI i)) (fun t o => znst w (zdr w) s t o) (zN w) (fun o => some ((zneE o).1, σ1)) (fun _ o => ∀ p, o = some p → p.2 ≤ 3) (fun n o _ => by
      have hsh : f7_nearest_l28 (n + 1) (nI s) (zneE o).1 (zneE o).2 (nI (zN w)) σ1 = f7_nearest_b28 (f7_nearest_l28 n) (nI s) (zneE o).1 (zneE o).2 (nI (zN w)) σ1 := rfl
      try dsimp only
      rw [hsh]
      unfold f7_nearest_b28
      rw [e_stateMany h.1 hg, bnd_s, if_pos (nI_le (by omega) (by omega))]) (fun n t o ht ho => by
      have hd := zdif_le w s t
      have hsh : f7_nearest_l28 (n + 1) (nI s) (zneE o).1 (zneE o).2 (nI t) σ1 = f7_nearest_b28 (f7_nearest_l28 n) (nI s) (zneE o).1 (zneE o).2 (nI t) σ1 := rfl
      try dsimp only
      rw [hsh]
      unfold f7_nearest_b28
      rw [e_stateMany h.1 hg, bnd_s, if_neg (nI_ge (by omega) (by omega)), inner _ _ _ t ht, nI_1 t]
      unfold znst
      by_cases q : zval w (zdr w) t = true
      · rw [if_pos q]
        cases o with
        | none =>
          rw [q, if_pos (show (true && zbt none _) = true from rfl), show (zneE none).2 = nI 1000000000 from rfl, if_pos (nI_lt (by omega) (by omega))]
          exact ⟨rfl, fun p hp => by injection hp with hp; subst hp; dsimp only; omega⟩
        | some p =>
          have hp := ho p rfl
          by_cases q2 : zdif w s t < p.2
          · rw [q, if_pos (show (true && zbt (some p) (zdif w s t)) = true from decide_eq_true q2), show (zneE (some p)).2 = nI p.2 from rfl, if_pos (nI_lt q2 (by omega))]
            exact ⟨rfl, fun p hp => by injection hp with hp; subst hp; dsimp only; omega⟩
          · rw [q, if_neg (show ¬ (true && zbt (some p) (zdif w s t)) = true from fun e => q2 (of_decide_eq_true e)), show (zneE (some p)).2 = nI p.2 from rfl, if_neg (nI_nlt (by omega) (by omega))]
            exact ⟨rfl, ho⟩
      · rw [if_neg q, Bool.eq_false_iff.mpr q, if_neg (show ¬ (false && _) = true from by simp)]
        exact ⟨rfl, ho⟩) (zN w) 0 none FU (by omega) (by rw [FU_e]; omega) (fun p hp => by cases hp)
  show f7_nearest_l28 FU (nI s) (-1) 1000000000 0 σ1 = _
  refine Eq.trans outer ?_
  unfold zne
  cases itf (fun t o => znst w (zdr w) s t o) 0 (zN w) none <;> rfl
/-- in how many states a rule does not hold -/
def zunh (w : WV) (r : Nat) : Nat := itf (fun s a => a + zb1 (!zhold w r s)) 0 (zN w) 0
theorem zunh_le (w : WV) (r : Nat) : zunh w r ≤ zN w := by
  have := itf_zb_le (fun s => !zhold w r s) (zN w) 0 0
  unfold zunh
  omega
def zhst (w : WV) (r : Nat) (o : Option (Nat × Nat)) : Option (Nat × Nat) := if zgt o (zunh w r) = true then some (r, zunh w r) else o
def zhard (w : WV) : Option Nat := (itf (fun r o => zhst w r o) 0 (w 4) none).map (fun p => p.1)
def zhaE (o : Option (Nat × Nat)) : Int32 × Int32 := match o with
  | none => (-1, -1)
  | some p => (nI p.1, nI p.2)
def zq_hard (w : WV) : Int32 := zif (decide (0 < w 7)) (oN (zhard w))
theorem m1_lt {a : Nat} (ha : a < 2 ^ 31) : (-1 : Int32) < nI a := by rw [Int32.lt_iff_toInt_lt, nI_toInt ha]; show (-1 : Int) < _; omega
theorem p_hard {w : WV} {σ : MS} (hw : MW w σ) (hg : GW w) : ∃ σ', f7_hard σ = some (zq_hard w, σ') ∧ FR MSC σ σ' := by
  have hN := zN_le hg
  have h4 := hg.2.2.2.2.1
  refine p_asks hw hg (K := fun σ1 => f7_hard_l16 FU (-1) (-1) 0 σ1) (fun σ1 _ h _ => ⟨σ1, ?_, FR.rfl' _ _⟩)
  have inner : ∀ (K16 : Int32 → Int32 → Int32 → MS → oI Int32) (x1 x2 : Int32) (r : Nat), r < w 4 → f7_hard_l30 K16 FU x1 x2 (nI r) 0 0 σ1 = (if x2 < nI (zunh w r) then K16 (nI r) (nI (zunh w r)) (nI r + 1) σ1 else K16 x1 x2 (nI r + 1) σ1) := fun K16 x1 x2 r hr => by
    refine lpI (A := Int32 × Int32) (fun n p => f7_hard_l30 K16 n x1 x2 (nI r) p.1 p.2 σ1) (fun i a => (nI a, nI i)) (fun s a => a + zb1 (!zhold w r s)) (zN w) (fun a => if x2 < nI a then K16 (nI r) (nI a) (nI r + 1) σ1 else K16 x1 x2 (nI r + 1) σ1) (fun _ _ => True) (fun n a _ => ?_) (fun n i a hi _ => ⟨?_, trivial⟩) (zN w) 0 0 FU (by omega) (by rw [FU_e]; omega) trivial
    · have hsh : f7_hard_l30 K16 (n + 1) x1 x2 (nI r) (nI a) (nI (zN w)) σ1 = f7_hard_b30 K16 (f7_hard_l30 K16 n) x1 x2 (nI r) (nI a) (nI (zN w)) σ1 := rfl
      try dsimp only
      rw [hsh]
      unfold f7_hard_b30 f7_hard_b79
      rw [e_stateMany h.1 hg, bnd_s, if_pos (nI_le (by omega) (by omega))]
    · have hsh : f7_hard_l30 K16 (n + 1) x1 x2 (nI r) (nI a) (nI i) σ1 = f7_hard_b30 K16 (f7_hard_l30 K16 n) x1 x2 (nI r) (nI a) (nI i) σ1 := rfl
      try dsimp only
      rw [hsh]
      unfold f7_hard_b30 f7_hard_b56
      rw [e_stateMany h.1 hg, bnd_s, if_neg (nI_ge (by omega) (by omega)), e_holdsIn h.1 hg hr (by omega), bnd_s, if10, nI_1 i]
      by_cases q : zhold w r i = true
      · rw [if_pos q, q]; show f7_hard_l30 K16 n _ _ _ (nI a + nI 0) _ _ = _; rw [nI_add]; rfl
      · rw [if_neg q, Bool.eq_false_iff.mpr q]; show f7_hard_l30 K16 n _ _ _ (nI a + nI 1) _ _ = _; rw [nI_add]; rfl
  have outer := lpI (A := Int32 × Int32 × Int32) (fun n p => f7_hard_l16 n p.1 p.2.1 p.2.2 σ1) (fun i o => ((zhaE o).1, (zhaE o).2, nI i)) (fun r o => zhst w r o) (w 4) (fun o => some ((zhaE o).1, σ1)) (fun _ o => ∀ p, o = some p → p.2 ≤ 64) (fun n o _ => by
      have hsh : f7_hard_l16 (n + 1) (zhaE o).1 (zhaE o).2 (nI (w 4)) σ1 = f7_hard_b16 (f7_hard_l16 n) (zhaE o).1 (zhaE o).2 (nI (w 4)) σ1 := rfl
      try dsimp only
      rw [hsh]
      unfold f7_hard_b16
      rw [e_rules h.1, bnd_s, if_pos (nI_le (by omega) (by omega))]) (fun n r o hr ho => by
      have hd := zunh_le w r
      have hsh : f7_hard_l16 (n + 1) (zhaE o).1 (zhaE o).2 (nI r) σ1 = f7_hard_b16 (f7_hard_l16 n) (zhaE o).1 (zhaE o).2 (nI r) σ1 := rfl
      try dsimp only
      rw [hsh]
      unfold f7_hard_b16
      rw [e_rules h.1, bnd_s, if_neg (nI_ge (by omega) (by omega)), inner _ _ _ r hr, nI_1 r]
      unfold zhst
      cases o with
      | none =>
        rw [if_pos (show zgt none _ = true from rfl), show (zhaE none).2 = -1 from rfl, if_pos (m1_lt (by omega))]
        exact ⟨rfl, fun p hp => by injection hp with hp; subst hp; dsimp only; omega⟩
      | some p =>
        have hp := ho p rfl
        by_cases q2 : p.2 < zunh w r
        · rw [if_pos (show zgt (some p) _ = true from decide_eq_true q2), show (zhaE (some p)).2 = nI p.2 from rfl, if_pos (nI_lt q2 (by omega))]
          exact ⟨rfl, fun p hp => by injection hp with hp; subst hp; dsimp only; omega⟩
        · rw [if_neg (show ¬ zgt (some p) (zunh w r) = true from fun e => q2 (of_decide_eq_true e)), show (zhaE (some p)).2 = nI p.2 from rfl, if_neg (nI_nlt (by omega) (by omega))]
          exact ⟨rfl, ho⟩) (w 4) 0 none FU (by omega) (by rw [FU_e]; omega) (fun p hp => by cases hp)
  refine Eq.trans outer ?_
  unfold zhard
  cases itf (fun r o => zhst w r o) 0 (w 4) none <;> rfl
