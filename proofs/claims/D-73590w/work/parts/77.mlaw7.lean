/-! THE MODEL by its numbers: more questions -/
theorem or0 : ∀ l, l < 64 → nI l ||| 0 = nI l := by decide +kernel
theorem or_lt16 : ∀ l, l < 16 → ∀ o, o < 4 → l ||| 2 ^ o < 16 := by decide +kernel
theorem ac_or4 : ∀ l, l < 16 → ∀ o, o < 4 → nI l ||| ((1 : Int32) <<< (nI o &&& 31)) = nI (l ||| 2 ^ o) := by decide +kernel
/-- which operations work at a state -/
def zop (w : WV) (dr s : Nat) : Nat := itf (fun o a => a ||| (if (zgo w dr o s).isSome = true then 2 ^ o else 0)) 0 (w 5) 0
theorem zop_lt {w : WV} (hg : GW w) (dr s : Nat) : zop w dr s < 32 := by
  have h5 := hg.2.2.2.2.2.1
  have := itf_inv (f := fun o a => a ||| (if (zgo w dr o s).isSome = true then 2 ^ o else 0)) (fun _ a => a < 32) (w 5) 0 0 (by decide) (fun o a h1 h2 ha => by
    try dsimp only
    split
    · exact or_lt _ ha _ (by omega)
    · rw [Nat.or_zero]; exact ha)
  exact this
theorem e_opensOf {w : WV} {dr : Nat} {σ : MS} (hw : MW w σ) (hg : GW w) (hv : AV w dr σ) {s : Nat} (hs : s < zN w) : f7_opensOf (nI s) σ = some (nI (zop w dr s), σ) := by
  have h5 := hg.2.2.2.2.2.1
  refine lpI (A := Int32 × Int32) (fun n p => f7_opensOf_l4 n (nI s) p.1 p.2 σ) (fun i a => (nI a, nI i)) (fun o a => a ||| (if (zgo w dr o s).isSome = true then 2 ^ o else 0)) (w 5) (fun a => some (nI a, σ)) (fun _ a => a < 32) (fun n a _ => ?_) (fun n i a hi ha => ?_) (w 5) 0 0 FU (by omega) (by rw [FU_e]; omega) (by decide)
  · show f7_opensOf_b4 _ _ _ _ _ = _
    unfold f7_opensOf_b4
    rw [e_ops hw, bnd_s, if_pos (nI_le (by omega) (by omega))]
  · have hsh : f7_opensOf_l4 (n + 1) (nI s) (nI a) (nI i) σ = f7_opensOf_b4 (f7_opensOf_l4 n) (nI s) (nI a) (nI i) σ := rfl
    try dsimp only
    rw [hsh]
    unfold f7_opensOf_b4 f7_opensOf_b30
    rw [e_ops hw, bnd_s, if_neg (nI_ge (by omega) (by omega)), e_goesTo hg hv hi hs, bnd_s, nI_1 i]
    cases hgo : zgo w dr i s with
    | none =>
      rw [if_pos oN_n, or0 a (by omega)]
      exact ⟨by rw [show a ||| (if (none : Option Nat).isSome = true then 2 ^ i else 0) = a from Nat.or_zero a], by rw [show a ||| (if (none : Option Nat).isSome = true then 2 ^ i else 0) = a from Nat.or_zero a]; exact ha⟩
    | some t =>
      have ht := (zgo_lt hg hi hs hgo).1
      have hN := zN_le hg
      rw [show oN (some t) = nI t from rfl, if_neg (nI_nm1 (by omega)), ac_or a (by omega) i (by omega)]
      exact ⟨rfl, or_lt a ha i (by omega)⟩
def zq_opens (w : WV) (s : Int32) : Int32 := zif (decide (0 < w 7)) (zif (zisS w s.toInt) (nI (zop w (zdr w) s.toInt.toNat)))
theorem p_opens {w : WV} {σ : MS} (hw : MW w σ) (hg : GW w) (y : Int32) : ∃ σ', f7_opens y σ = some (zq_opens w y, σ') ∧ FR MSC σ σ' := by
  have hN := zN_le hg
  refine p_asks hw hg (fun σ1 _ h _ => p_state h hg (fun s hs e => ⟨σ1, ?_, FR.rfl' _ _⟩))
  subst e
  rw [e_opensOf h.1 hg h.2.2 hs, bnd_s, tn (by omega)]
  rfl
def zdead (w : WV) (dr : Nat) : Nat := itf (fun s a => a + zb1 (zval w dr s && decide (zop w dr s = 0))) 0 (zN w) 0
def zq_dead (w : WV) : Int32 := zif (decide (0 < w 7)) (nI (zdead w (zdr w)))
theorem p_dead {w : WV} {σ : MS} (hw : MW w σ) (hg : GW w) : ∃ σ', f7_dead σ = some (zq_dead w, σ') ∧ FR MSC σ σ' := by
  have hN := zN_le hg
  refine p_asks hw hg (K := fun σ1 => f7_dead_l14 FU 0 0 σ1) (fun σ1 _ h _ => ⟨σ1, ?_, FR.rfl' _ _⟩)
  refine lpI (A := Int32 × Int32) (fun n p => f7_dead_l14 n p.1 p.2 σ1) (fun i a => (nI a, nI i)) (fun s a => a + zb1 (zval w (zdr w) s && decide (zop w (zdr w) s = 0))) (zN w) (fun a => some (nI a, σ1)) (fun _ _ => True) (fun n a _ => ?_) (fun n i a hi _ => ⟨?_, trivial⟩) (zN w) 0 0 FU (by omega) (by rw [FU_e]; omega) trivial
  · show f7_dead_b14 _ _ _ _ = _
    unfold f7_dead_b14
    rw [e_stateMany h.1 hg, bnd_s, if_pos (nI_le (by omega) (by omega))]
  · have ho := zop_lt hg (zdr w) i
    have hsh : f7_dead_l14 (n + 1) (nI a) (nI i) σ1 = f7_dead_b14 (f7_dead_l14 n) (nI a) (nI i) σ1 := rfl
    try dsimp only
    rw [hsh]
    unfold f7_dead_b14 f7_dead_b44 f7_dead_b45
    rw [e_stateMany h.1 hg, bnd_s, if_neg (nI_ge (by omega) (by omega)), grd_t (inB_nI (by omega) (by omega)), nI_clamp (by omega), h.2.2.1 i hi, if10, e_opensOf h.1 hg h.2.2 hi, bnd_s, nI_1 i]
    show (if zval w (zdr w) i = true then (if nI (zop w (zdr w) i) = nI 0 then _ else _) else _) = _
    rw [nI_eqk (by omega) (by omega)]
    by_cases q : zval w (zdr w) i = true
    · rw [if_pos q, q, Bool.true_and]
      by_cases q2 : zop w (zdr w) i = 0
      · rw [if_pos q2, decide_eq_true q2]; show f7_dead_l14 n (nI a + nI 1) _ _ = _; rw [nI_add]; rfl
      · rw [if_neg q2, decide_eq_false q2]; show f7_dead_l14 n (nI a + nI 0) _ _ = _; rw [nI_add]; rfl
    · rw [if_neg q, Bool.eq_false_iff.mpr q, Bool.false_and]; show f7_dead_l14 n (nI a + nI 0) _ _ = _; rw [nI_add]; rfl
/-- two operations at a state: alike, whichever comes first -/
def zcm (w : WV) (dr a b s : Nat) : Bool := !zval w dr s || match zgo w dr a s, zgo w dr b s with
  | some x, some y => (zgo w dr b x).isSome && decide (zgo w dr b x = zgo w dr a y)
  | _, _ => true
def zcom (w : WV) (dr a b : Nat) : Bool := itf (fun s r => r && zcm w dr a b s) 0 (zN w) true
theorem oN_inj {w : WV} {x y : Option Nat} (hx : ∀ t, x = some t → t < 2 ^ 31) (hy : ∀ t, y = some t → t < 2 ^ 31) : oN x = oN y ↔ x = y := by
  refine ⟨fun h => ?_, fun h => by rw [h]⟩
  cases x with
  | none =>
    cases y with
    | none => rfl
    | some b => exact absurd h.symm (nI_nm1 (hy b rfl))
  | some a =>
    cases y with
    | none => exact absurd h (nI_nm1 (hx a rfl))
    | some b => rw [(nI_eq (hx a rfl) (hy b rfl)).mp h]
theorem e_commuting {w : WV} {dr : Nat} {σ : MS} (hw : MW w σ) (hg : GW w) (hv : AV w dr σ) {a b : Nat} (ha : a < w 5) (hb : b < w 5) : f7_areCommuting (nI a) (nI b) σ = some (nI (zb1 (zcom w dr a b)), σ) := by
  have hN := zN_le hg
  refine lpI (A := Int32 × Int32) (fun n p => f7_areCommuting_l5 n (nI a) (nI b) p.1 p.2 σ) (fun i r => (nI (zb1 r), nI i)) (fun s r => r && zcm w dr a b s) (zN w) (fun r => some (nI (zb1 r), σ)) (fun _ _ => True) (fun n r _ => ?_) (fun n i r hi _ => ⟨?_, trivial⟩) (zN w) 0 true FU (by omega) (by rw [FU_e]; omega) trivial
  · have hsh : f7_areCommuting_l5 (n + 1) (nI a) (nI b) (nI (zb1 r)) (nI (zN w)) σ = f7_areCommuting_b5 (f7_areCommuting_l5 n) (nI a) (nI b) (nI (zb1 r)) (nI (zN w)) σ := rfl
    try dsimp only
    rw [hsh]
    unfold f7_areCommuting_b5
    rw [e_stateMany hw hg, bnd_s, if_pos (nI_le (by omega) (by omega)), grd_t (by cases r <;> first | exact bZ_0 | exact bZ_1)]
  · have hsh : f7_areCommuting_l5 (n + 1) (nI a) (nI b) (nI (zb1 r)) (nI i) σ = f7_areCommuting_b5 (f7_areCommuting_l5 n) (nI a) (nI b) (nI (zb1 r)) (nI i) σ := rfl
    try dsimp only
    rw [hsh]
    unfold f7_areCommuting_b5 f7_areCommuting_b93 f7_areCommuting_b94 f7_areCommuting_b95
    rw [e_stateMany hw hg, bnd_s, if_neg (nI_ge (by omega) (by omega)), e_goesTo hg hv ha hi, bnd_s, e_goesTo hg hv hb hi, bnd_s, grd_t (inB_nI (by omega) (by omega)), nI_clamp (by omega), hv.1 i hi, if10, nI_1 i]
    by_cases q : zval w dr i = true
    · rw [if_pos q]
      cases h1 : zgo w dr a i with
      | none =>
        have : zcm w dr a b i = true := by unfold zcm; rw [h1, q]; rfl
        rw [this, Bool.and_true]; rfl
      | some x =>
        have hx := (zgo_lt hg ha hi h1).1
        rw [show oN (some x) = nI x from rfl, if_neg (nI_nm1 (by omega))]
        cases h2 : zgo w dr b i with
        | none =>
          have : zcm w dr a b i = true := by unfold zcm; rw [h1, h2, q]; rfl
          rw [this, Bool.and_true]; rfl
        | some y =>
          have hy := (zgo_lt hg hb hi h2).1
          rw [show oN (some y) = nI y from rfl, if_neg (nI_nm1 (by omega)), e_goesTo hg hv hb hx, bnd_s, e_goesTo hg hv hb hx, bnd_s, e_goesTo hg hv ha hy, bnd_s]
          have e1 : zcm w dr a b i = ((zgo w dr b x).isSome && decide (zgo w dr b x = zgo w dr a y)) := by unfold zcm; rw [h1, h2, q]; rfl
          rw [e1]
          cases r with
          | false => rw [if_pos (show nI (zb1 false) = 0 from rfl)]; rfl
          | true =>
            rw [if_neg (show ¬ nI (zb1 true) = 0 from one_ne), Bool.true_and]
            cases h3 : zgo w dr b x with
            | none => rfl
            | some z =>
              have hz := (zgo_lt hg hb hx h3).1
              rw [show oN (some z) = nI z from rfl, if_neg (nI_nm1 (by omega))]
              by_cases q2 : some z = zgo w dr a y
              · rw [← q2, show oN (some z) = nI z from rfl, if_pos rfl, decide_eq_true rfl]; rfl
              · rw [if_neg (show ¬ nI z = oN (zgo w dr a y) from fun e => q2 ((oN_inj (w := w) (x := some z) (fun t ht => by injection ht; omega) (fun t ht => by have := (zgo_lt hg ha hy ht).1; omega)).mp e)), decide_eq_false q2]; rfl
    · rw [if_neg q]
      have : zcm w dr a b i = true := by unfold zcm; rw [Bool.eq_false_iff.mpr q]; rfl
      rw [this, Bool.and_true]
def zq_commute (w : WV) (a b : Int32) : Int32 := zif (decide (0 < w 7)) (zif (zin a.toInt (w 5)) (zif (zin b.toInt (w 5)) (nI (zb1 (zcom w (zdr w) a.toInt.toNat b.toInt.toNat)))))
theorem p_commute {w : WV} {σ : MS} (hw : MW w σ) (hg : GW w) (x y : Int32) : ∃ σ', f7_commute x y σ = some (zq_commute w x y, σ') ∧ FR MSC σ σ' := by
  have h5 := hg.2.2.2.2.2.1
  refine p_asks hw hg (fun σ1 _ h _ => p_opq h.1 hg (fun o ho e => p_opq h.1 hg (fun o2 ho2 e2 => ⟨σ1, ?_, FR.rfl' _ _⟩)))
  subst e e2
  rw [e_commuting h.1 hg h.2.2 ho ho2, bnd_s, tn (by omega), tn (by omega)]
  show (if nI (zb1 (zcom w (zdr w) o o2)) = 0 then _ else _) = some (nI (zb1 (zcom w (zdr w) o o2)), σ1)
  cases zcom w (zdr w) o o2 <;> rfl
/-- two operations: where they break -/
def zcl1 (w : WV) (v : NV) (a b s : Nat) : Nat := if zval w v.2.2.1 s = true then (match zgo w v.2.2.1 a s, zgo w v.2.2.1 b s with
  | some x, some y => zb1 (!zval w v.2.2.1 (zmg w v.1 v.2.1 s x y))
  | _, _ => 0) else 0
def zcl (w : WV) (v : NV) (a b : Nat) : Nat := itf (fun s n => n + zcl1 w v a b s) 0 (zN w) 0
def zq_clashes (w : WV) (a b : Int32) : Int32 := zif (decide (0 < w 7)) (zif (zin a.toInt (w 5)) (zif (zin b.toInt (w 5)) (nI (zcl w (znv w) a.toInt.toNat b.toInt.toNat))))
theorem p_clashes {w : WV} {σ : MS} (hw : MW w σ) (hg : GW w) (x y : Int32) : ∃ σ', f7_clashes x y σ = some (zq_clashes w x y, σ') ∧ FR MSC σ σ' := by
  have h5 := hg.2.2.2.2.2.1
  have hN := zN_le hg
  refine p_asks hw hg (fun σ1 _ h _ => p_opq h.1 hg (fun a ha e => p_opq h.1 hg (fun b hb e2 => ⟨σ1, ?_, FR.rfl' _ _⟩)))
  subst e e2
  have hv := h.2.2
  have hdr : (znv w).2.2.1 = zdr w := rfl
  rw [tn (by omega), tn (by omega)]
  refine lpI (A := Int32 × Int32) (fun n p => f7_clashes_l31 n (nI a) (nI b) p.1 p.2 σ1) (fun i r => (nI r, nI i)) (fun s n => n + zcl1 w (znv w) a b s) (zN w) (fun r => some (nI r, σ1)) (fun _ _ => True) (fun n r _ => ?_) (fun n i r hi _ => ⟨?_, trivial⟩) (zN w) 0 0 FU (by omega) (by rw [FU_e]; omega) trivial
  · have hsh : f7_clashes_l31 (n + 1) (nI a) (nI b) (nI r) (nI (zN w)) σ1 = f7_clashes_b31 (f7_clashes_l31 n) (nI a) (nI b) (nI r) (nI (zN w)) σ1 := rfl
    try dsimp only
    rw [hsh]
    unfold f7_clashes_b31
    rw [e_stateMany h.1 hg, bnd_s, if_pos (nI_le (by omega) (by omega))]
  · have hsh : f7_clashes_l31 (n + 1) (nI a) (nI b) (nI r) (nI i) σ1 = f7_clashes_b31 (f7_clashes_l31 n) (nI a) (nI b) (nI r) (nI i) σ1 := rfl
    try dsimp only
    rw [hsh]
    unfold f7_clashes_b31 f7_clashes_b109 f7_clashes_b111
    rw [e_stateMany h.1 hg, bnd_s, if_neg (nI_ge (by omega) (by omega)), grd_t (inB_nI (by omega) (by omega)), nI_clamp (by omega), hv.1 i hi, if10, nI_1 i]
    have z0 : nI r = nI (r + 0) := rfl
    by_cases q : zval w (znv w).2.2.1 i = true
    · rw [if_pos q, e_goesTo hg hv ha hi, bnd_s]
      cases h1 : zgo w (znv w).2.2.1 a i with
      | none =>
        have : zcl1 w (znv w) a b i = 0 := by unfold zcl1; rw [if_pos q, h1]
        rw [this]; rfl
      | some x =>
        have hx := (zgo_lt hg ha hi h1).1
        rw [show oN (some x) = nI x from rfl, if_neg (nI_nm1 (by omega)), e_goesTo hg hv hb hi, bnd_s]
        cases h2 : zgo w (znv w).2.2.1 b i with
        | none =>
          have : zcl1 w (znv w) a b i = 0 := by unfold zcl1; rw [if_pos q, h1, h2]
          rw [this]; rfl
        | some y =>
          have hy := (zgo_lt hg hb hi h2).1
          have hm := zmg_lt w (znv w).1 (znv w).2.1 i x y
          rw [show oN (some y) = nI y from rfl, if_neg (nI_nm1 (by omega)), e_goesTo hg hv ha hi, bnd_s, e_goesTo hg hv hb hi, bnd_s, h1, h2, show oN (some x) = nI x from rfl, show oN (some y) = nI y from rfl, e_mergeOf h.1 hg h.2.1 (znv_ok hg) hi hx hy, bnd_s, grd_t (inB_nI (by omega) (by omega)), nI_clamp (by omega), hv.1 _ hm, if10]
          have e : zcl1 w (znv w) a b i = zb1 (!zval w (znv w).2.2.1 (zmg w (znv w).1 (znv w).2.1 i x y)) := by unfold zcl1; rw [if_pos q, h1, h2]
          rw [e]
          by_cases q2 : zval w (znv w).2.2.1 (zmg w (znv w).1 (znv w).2.1 i x y) = true
          · rw [if_pos q2, q2]; show f7_clashes_l31 n _ _ (nI r + nI 0) _ _ = _; rw [nI_add]; rfl
          · rw [if_neg q2, Bool.eq_false_iff.mpr q2]; show f7_clashes_l31 n _ _ (nI r + nI 1) _ _ = _; rw [nI_add]; rfl
    · have : zcl1 w (znv w) a b i = 0 := by unfold zcl1; rw [if_neg q]
      rw [if_neg q, this]; rfl
