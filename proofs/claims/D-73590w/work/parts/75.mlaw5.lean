/-! THE MODEL by its numbers: loops, one for all; the questions -/
theorem lpI {A R α : Type} (L : Nat → A → R) (en : Nat → α → A) (step : Nat → α → α) (N : Nat) (fin : α → R) (I : Nat → α → Prop)
    (hz : ∀ n a, I N a → L (n + 1) (en N a) = fin a) (hs : ∀ n i a, i < N → I i a → L (n + 1) (en i a) = L n (en (i + 1) (step i a)) ∧ I (i + 1) (step i a)) : ∀ k i a n, i + k = N → k < n → I i a → L n (en i a) = fin (itf step i k a)
  | _, _, _, 0, _, h, _ => absurd h (Nat.not_lt_zero _)
  | 0, i, a, n + 1, h1, _, hi => by
    obtain rfl : i = N := by omega
    exact hz n a hi
  | k + 1, i, a, n + 1, h1, h2, hi => by
    obtain ⟨e, hi2⟩ := hs n i a (by omega) hi
    rw [e, lpI L en step N fin I hz hs k (i + 1) _ n (by omega) (by omega) hi2]
    rfl
theorem lpE {A α β : Type} (L : Nat → A → MS → Option β) (en : Nat → α → A) (step : Nat → α → α) (N : Nat) (fin : α → MS → Option β) (P : MS → Prop) (Fr : List Nat) (I : Nat → α → Prop)
    (hz : ∀ n a σ, I N a → P σ → L (n + 1) (en N a) σ = fin a σ) (hs : ∀ n i a σ, i < N → I i a → P σ → ∃ σ', L (n + 1) (en i a) σ = L n (en (i + 1) (step i a)) σ' ∧ FR Fr σ σ' ∧ P σ' ∧ I (i + 1) (step i a)) : ∀ k i a n σ, i + k = N → k < n → I i a → P σ → ∃ σ', L n (en i a) σ = fin (itf step i k a) σ' ∧ FR Fr σ σ' ∧ P σ' ∧ I N (itf step i k a)
  | _, _, _, 0, _, _, h, _, _ => absurd h (Nat.not_lt_zero _)
  | 0, i, a, n + 1, σ, h1, _, hi, hp => by
    obtain rfl : i = N := by omega
    exact ⟨σ, hz n a σ hi hp, FR.rfl' _ _, hp, hi⟩
  | k + 1, i, a, n + 1, σ, h1, h2, hi, hp => by
    obtain ⟨σ1, e, f, p1, hi2⟩ := hs n i a σ (by omega) hi hp
    obtain ⟨σ', r1, r2, r3, r4⟩ := lpE L en step N fin P Fr I hz hs k (i + 1) _ n σ1 (by omega) (by omega) hi2 p1
    exact ⟨σ', e.trans r1, f.trans r2, r3, r4⟩
def zb1 (b : Bool) : Nat := if b = true then 1 else 0
theorem zb1_le (b : Bool) : zb1 b ≤ 1 := by unfold zb1; split <;> omega
theorem nI_zb (b : Bool) : (if b = true then (1 : Int32) else 0) = nI (zb1 b) := by cases b <;> rfl
/-- how many states are valid -/
def zcv (w : WV) (dr : Nat) : Nat := itf (fun s a => a + zb1 (zval w dr s)) 0 (zN w) 0
theorem e_validMany {w : WV} {dr : Nat} {σ : MS} (hw : MW w σ) (hg : GW w) (hv : AV w dr σ) : f7_validMany σ = some (nI (zcv w dr), σ) := by
  have hN := zN_le hg
  refine lpI (A := Int32 × Int32) (fun n p => f7_validMany_l4 n p.1 p.2 σ) (fun i a => (nI a, nI i)) _ (zN w) (fun a => some (nI a, σ)) (fun _ _ => True) (fun n a _ => ?_) (fun n i a hi _ => ⟨?_, trivial⟩) (zN w) 0 0 FU (by omega) (by rw [FU_e]; omega) trivial
  · show f7_validMany_b4 _ _ _ _ = _
    unfold f7_validMany_b4
    rw [e_stateMany hw hg, bnd_s, if_pos (nI_le (by omega) (by omega))]
  · show f7_validMany_b4 (f7_validMany_l4 n) (nI a) (nI i) σ = f7_validMany_l4 n (nI (a + zb1 (zval w dr i))) (nI (i + 1)) σ
    unfold f7_validMany_b4 f7_validMany_b27
    rw [e_stateMany hw hg, bnd_s, if_neg (nI_ge (by omega) (by omega)), grd_t (inB_nI (by omega) (by omega)), nI_clamp (by omega), hv.1 i hi, if10, nI_1]
    by_cases q : zval w dr i = true
    · rw [if_pos q, q, nI_1]; rfl
    · rw [if_neg q, Bool.eq_false_iff.mpr q]; show f7_validMany_l4 n (nI a + nI 0) (nI i + 1) _ = _; rw [nI_add, nI_1]; rfl
/-- what a question answers, or that it can't be asked -/
def zif (c : Bool) (x : Int32) : Int32 := if c = true then x else -2
def zq_states (w : WV) : Int32 := zif (decide (0 < w 7)) (nI (zN w))
theorem p_states {w : WV} {σ : MS} (hw : MW w σ) (hg : GW w) : f7_states σ = some (zq_states w, σ) := by
  unfold f7_states zq_states zif
  rw [e_isBase hw hg, bnd_s, if10]
  by_cases h : 0 < w 7
  · rw [if_pos h, e_stateMany hw hg, bnd_s, if_pos (decide_eq_true h)]
  · rw [if_neg h, if_neg (by rw [decide_eq_false h]; decide)]
def zq_value (w : WV) (s c : Int32) : Int32 := zif (zisS w s.toInt && zin c.toInt (w 3)) (nI (zvl w s.toInt.toNat c.toInt.toNat))
theorem tn {k : Nat} (h : k < 2 ^ 31) : (nI k).toInt.toNat = k := by rw [nI_toInt h]; rfl
theorem p_value {w : WV} {σ : MS} (hw : MW w σ) (hg : GW w) (x y : Int32) : f7_value x y σ = some (zq_value w x y, σ) := by
  have hN := zN_le hg
  have h3 := hg.2.2.2.1
  unfold f7_value zq_value zif
  rw [e_isState hw hg, bnd_s, if10]
  by_cases h : zisS w x.toInt = true
  · obtain ⟨_, s, hs, rfl⟩ := zisS_nI h
    rw [if_pos h, e_isCell hw hg, bnd_s, if10, h, Bool.true_and]
    by_cases h2 : zin y.toInt (w 3) = true
    · obtain ⟨c, hc, rfl⟩ := zin_nI h2
      rw [if_pos h2, e_valueOf hw hg (by omega) (by omega), bnd_s, if_pos h2, tn (by omega), tn (by omega)]
    · rw [if_neg h2, if_neg h2]
  · rw [if_neg h, Bool.eq_false_iff.mpr h, Bool.false_and]; rfl
def zwt (w : WV) (s : Nat) : Nat := itf (fun c a => a + zvl w s c) 0 (w 3) 0
def zq_weight (w : WV) (s : Int32) : Int32 := zif (zisS w s.toInt) (nI (zwt w s.toInt.toNat))
theorem p_weight {w : WV} {σ : MS} (hw : MW w σ) (hg : GW w) (x : Int32) : f7_weight x σ = some (zq_weight w x, σ) := by
  have hN := zN_le hg
  have h3 := hg.2.2.2.1
  unfold f7_weight zq_weight zif
  rw [e_isState hw hg, bnd_s, if10]
  by_cases h : zisS w x.toInt = true
  · obtain ⟨_, s, hs, rfl⟩ := zisS_nI h
    rw [if_pos h, if_pos h, tn (by omega)]
    refine lpI (A := Int32 × Int32) (fun n p => f7_weight_l16 n (nI s) p.1 p.2 σ) (fun i a => (nI a, nI i)) _ (w 3) (fun a => some (nI a, σ)) (fun _ _ => True) (fun n a _ => ?_) (fun n i a hi _ => ⟨?_, trivial⟩) (w 3) 0 0 FU (by omega) (by rw [FU_e]; omega) trivial
    · show f7_weight_b16 _ _ _ _ _ = _
      unfold f7_weight_b16
      rw [e_cells hw, bnd_s, if_pos (nI_le (by omega) (by omega))]
    · show f7_weight_b16 _ _ _ _ _ = _
      unfold f7_weight_b16
      rw [e_cells hw, bnd_s, if_neg (nI_ge (by omega) (by omega)), e_valueOf hw hg (by omega) (by omega), bnd_s, nI_add, nI_1]
  · rw [if_neg h, if_neg h]
def zq_holds (w : WV) (r s : Int32) : Int32 := zif (zisS w s.toInt && zin r.toInt (w 4)) (nI (zb1 (zhold w r.toInt.toNat s.toInt.toNat)))
theorem p_holds {w : WV} {σ : MS} (hw : MW w σ) (hg : GW w) (y x : Int32) : f7_holds y x σ = some (zq_holds w y x, σ) := by
  have hN := zN_le hg
  have h4 := hg.2.2.2.2.1
  unfold f7_holds zq_holds zif
  rw [e_isState hw hg, bnd_s, if10]
  by_cases h : zisS w x.toInt = true
  · obtain ⟨_, s, hs, rfl⟩ := zisS_nI h
    rw [if_pos h, e_isRule hw hg, bnd_s, if10, h, Bool.true_and]
    by_cases h2 : zin y.toInt (w 4) = true
    · obtain ⟨c, hc, rfl⟩ := zin_nI h2
      rw [if_pos h2, e_holdsIn hw hg (by omega) (by omega), bnd_s, if10, if_pos h2, tn (by omega), tn (by omega)]
      unfold zb1
      split <;> rfl
    · rw [if_neg h2, if_neg h2]
  · rw [if_neg h, Bool.eq_false_iff.mpr h, Bool.false_and]; rfl
/-- a question of a base: it is asked first -/
theorem p_asks {w : WV} {σ : MS} (hw : MW w σ) (hg : GW w) {K : MS → oI Int32} {x : Int32} (hk : ∀ σ1, FR [15, 16, 17, 18, 19, 20] σ σ1 → BW w (znv w) σ1 → 0 < w 7 → ∃ σ', K σ1 = some (x, σ') ∧ FR MSC σ1 σ') :
    ∃ σ', (bnd (f7_asks σ) fun r2 σ1 => if r2 = 0 then (some ((-2), σ1)) else K σ1) = some (zif (decide (0 < w 7)) x, σ') ∧ FR MSC σ σ' := by
  obtain ⟨σ1, a1, a2, a3, a4⟩ := e_asks hw hg
  rw [a1, bnd_s, if10]
  by_cases h : 0 < w 7
  · obtain ⟨σ', r1, r2⟩ := hk σ1 a2 ⟨hw.fr a2 (by decide), a3, a4 h⟩ h
    refine ⟨σ', ?_, (a2.mono (by decide)).trans r2⟩
    rw [if_pos h, r1, decide_eq_true h]; rfl
  · refine ⟨σ1, ?_, a2.mono (by decide)⟩
    rw [if_neg h, decide_eq_false h]; rfl
theorem zif_and {a b : Bool} {x : Int32} : zif a (zif b x) = zif (a && b) x := by cases a <;> cases b <;> rfl
/-- then of a state -/
theorem p_state {w : WV} {σ : MS} (hw : BW w (znv w) σ) (hg : GW w) {y : Int32} {K : MS → oI Int32} {x : Int32} (hk : ∀ s, s < zN w → y = nI s → ∃ σ', K σ = some (x, σ') ∧ FR MSC σ σ') :
    ∃ σ', (bnd (f7_isState y.toInt64 σ) fun r2 σ1 => if r2 = 0 then (some ((-2), σ1)) else K σ1) = some (zif (zisS w y.toInt) x, σ') ∧ FR MSC σ σ' := by
  rw [e_isState hw.1 hg, bnd_s, if10]
  by_cases h : zisS w y.toInt = true
  · obtain ⟨_, s, hs, e⟩ := zisS_nI h
    obtain ⟨σ', r1, r2⟩ := hk s hs e
    exact ⟨σ', by rw [if_pos h, r1, h]; rfl, r2⟩
  · exact ⟨σ, by rw [if_neg h, Bool.eq_false_iff.mpr h]; rfl, FR.rfl' _ _⟩
theorem p_cellq {w : WV} {σ : MS} (hw : MW w σ) (hg : GW w) {y : Int32} {K : MS → oI Int32} {x : Int32} (hk : ∀ s, s < w 3 → y = nI s → ∃ σ', K σ = some (x, σ') ∧ FR MSC σ σ') :
    ∃ σ', (bnd (f7_isCell y σ) fun r2 σ1 => if r2 = 0 then (some ((-2), σ1)) else K σ1) = some (zif (zin y.toInt (w 3)) x, σ') ∧ FR MSC σ σ' := by
  rw [e_isCell hw hg, bnd_s, if10]
  by_cases h : zin y.toInt (w 3) = true
  · obtain ⟨s, hs, e⟩ := zin_nI h
    obtain ⟨σ', r1, r2⟩ := hk s hs e
    exact ⟨σ', by rw [if_pos h, r1, h]; rfl, r2⟩
  · exact ⟨σ, by rw [if_neg h, Bool.eq_false_iff.mpr h]; rfl, FR.rfl' _ _⟩
theorem p_ruleq {w : WV} {σ : MS} (hw : MW w σ) (hg : GW w) {y : Int32} {K : MS → oI Int32} {x : Int32} (hk : ∀ s, s < w 4 → y = nI s → ∃ σ', K σ = some (x, σ') ∧ FR MSC σ σ') :
    ∃ σ', (bnd (f7_isRule y σ) fun r2 σ1 => if r2 = 0 then (some ((-2), σ1)) else K σ1) = some (zif (zin y.toInt (w 4)) x, σ') ∧ FR MSC σ σ' := by
  rw [e_isRule hw hg, bnd_s, if10]
  by_cases h : zin y.toInt (w 4) = true
  · obtain ⟨s, hs, e⟩ := zin_nI h
    obtain ⟨σ', r1, r2⟩ := hk s hs e
    exact ⟨σ', by rw [if_pos h, r1, h]; rfl, r2⟩
  · exact ⟨σ, by rw [if_neg h, Bool.eq_false_iff.mpr h]; rfl, FR.rfl' _ _⟩
theorem p_opq {w : WV} {σ : MS} (hw : MW w σ) (hg : GW w) {y : Int32} {K : MS → oI Int32} {x : Int32} (hk : ∀ s, s < w 5 → y = nI s → ∃ σ', K σ = some (x, σ') ∧ FR MSC σ σ') :
    ∃ σ', (bnd (f7_isOp y σ) fun r2 σ1 => if r2 = 0 then (some ((-2), σ1)) else K σ1) = some (zif (zin y.toInt (w 5)) x, σ') ∧ FR MSC σ σ' := by
  rw [e_isOp hw hg, bnd_s, if10]
  by_cases h : zin y.toInt (w 5) = true
  · obtain ⟨s, hs, e⟩ := zin_nI h
    obtain ⟨σ', r1, r2⟩ := hk s hs e
    exact ⟨σ', by rw [if_pos h, r1, h]; rfl, r2⟩
  · exact ⟨σ, by rw [if_neg h, Bool.eq_false_iff.mpr h]; rfl, FR.rfl' _ _⟩
theorem p_deepq {σ : MS} {y : Int32} {K : oI Int32} {x : Int32} (hk : ∀ s, s < 4 → y = nI s → ∃ σ', K = some (x, σ') ∧ FR MSC σ σ') :
    ∃ σ', (bn1 (f7_isDepth y) fun r4 => if r4 = 0 then (some ((-2), σ)) else K) = some (zif (zin y.toInt 4) x, σ') ∧ FR MSC σ σ' := by
  rw [e_isDepth, bn1_s, if10]
  by_cases h : zin y.toInt 4 = true
  · obtain ⟨s, hs, e⟩ := zin_nI h
    obtain ⟨σ', r1, r2⟩ := hk s hs e
    exact ⟨σ', by rw [if_pos h, r1, h]; rfl, r2⟩
  · exact ⟨σ, by rw [if_neg h, Bool.eq_false_iff.mpr h]; rfl, FR.rfl' _ _⟩
def zq_dropped (w : WV) : Int32 := zif (decide (0 < w 7)) (nI (zdr w))
theorem p_dropped {w : WV} {σ : MS} (hw : MW w σ) (hg : GW w) : ∃ σ', f7_dropped σ = some (zq_dropped w, σ') ∧ FR MSC σ σ' :=
  p_asks hw hg (K := fun σ1 => some (gI σ1 18, σ1)) (fun σ1 _ h _ => ⟨σ1, by rw [h.2.1.2.2.1]; rfl, FR.rfl' _ _⟩)
def zq_locked (w : WV) : Int32 := zif (decide (0 < w 7)) (nI (zlk w))
theorem p_locked {w : WV} {σ : MS} (hw : MW w σ) (hg : GW w) : ∃ σ', f7_locked σ = some (zq_locked w, σ') ∧ FR MSC σ σ' :=
  p_asks hw hg (K := fun σ1 => some (gI σ1 17, σ1)) (fun σ1 _ h _ => ⟨σ1, by rw [h.2.1.2.1]; rfl, FR.rfl' _ _⟩)
def zq_valid (w : WV) (s : Int32) : Int32 := zif (decide (0 < w 7)) (zif (zisS w s.toInt) (nI (zb1 (zval w (zdr w) s.toInt.toNat))))
theorem p_valid {w : WV} {σ : MS} (hw : MW w σ) (hg : GW w) (y : Int32) : ∃ σ', f7_valid y σ = some (zq_valid w y, σ') ∧ FR MSC σ σ' := by
  have hN := zN_le hg
  refine p_asks hw hg (fun σ1 _ h _ => p_state h hg (fun s hs e => ⟨σ1, ?_, FR.rfl' _ _⟩))
  subst e
  rw [grd_t (inB_nI (by omega) (by omega)), nI_clamp (by omega), h.2.2.1 s hs, if10, tn (by omega)]
  unfold zb1
  show (if zval w (zdr w) s = true then _ else _) = _
  split <;> rfl
def zq_valids (w : WV) : Int32 := zif (decide (0 < w 7)) (nI (zcv w (zdr w)))
theorem p_valids {w : WV} {σ : MS} (hw : MW w σ) (hg : GW w) : ∃ σ', f7_valids σ = some (zq_valids w, σ') ∧ FR MSC σ σ' := by
  refine p_asks hw hg (K := fun σ1 => bnd (f7_validMany σ1) fun r5 σ4 => some (r5, σ4)) (fun σ1 _ h _ => ⟨σ1, ?_, FR.rfl' _ _⟩)
  rw [e_validMany h.1 hg h.2.2]
  rfl
def zq_breaks (w : WV) (s : Int32) : Int32 := zif (decide (0 < w 7)) (zif (zisS w s.toInt) (oN (zbrk w (zdr w) s.toInt.toNat)))
theorem p_breaks {w : WV} {σ : MS} (hw : MW w σ) (hg : GW w) (y : Int32) : ∃ σ', f7_breaks y σ = some (zq_breaks w y, σ') ∧ FR MSC σ σ' := by
  have hN := zN_le hg
  refine p_asks hw hg (fun σ1 _ h _ => p_state h hg (fun s hs e => ⟨σ1, ?_, FR.rfl' _ _⟩))
  subst e
  rw [e_brokenBy h.1 hg h.2.1.2.2.1 (zdr_lt hg) (by omega), bnd_s, tn (by omega)]
  rfl
def zq_does (w : WV) (o s : Int32) : Int32 := zif (decide (0 < w 7)) (zif (zisS w s.toInt) (zif (zin o.toInt (w 5)) (oN (zgo w (zdr w) o.toInt.toNat s.toInt.toNat))))
theorem p_does {w : WV} {σ : MS} (hw : MW w σ) (hg : GW w) (x y : Int32) : ∃ σ', f7_does x y σ = some (zq_does w x y, σ') ∧ FR MSC σ σ' := by
  have hN := zN_le hg
  have h5 := hg.2.2.2.2.2.1
  refine p_asks hw hg (fun σ1 _ h _ => p_state h hg (fun s hs e => p_opq h.1 hg (fun o ho e2 => ⟨σ1, ?_, FR.rfl' _ _⟩)))
  subst e
  subst e2
  rw [e_goesTo hg h.2.2 ho hs, bnd_s, tn (by omega), tn (by omega)]
  rfl
/-- at how many states an operation works -/
def zwk (w : WV) (dr o : Nat) : Nat := itf (fun s a => a + zb1 (zval w dr s && (zgo w dr o s).isSome)) 0 (zN w) 0
theorem e_worksOf {w : WV} {dr : Nat} {σ : MS} (hw : MW w σ) (hg : GW w) (hv : AV w dr σ) {o : Nat} (ho : o < w 5) : f7_worksOf (nI o) σ = some (nI (zwk w dr o), σ) := by
  have hN := zN_le hg
  refine lpI (A := Int32 × Int32) (fun n p => f7_worksOf_l4 n (nI o) p.1 p.2 σ) (fun i a => (nI a, nI i)) _ (zN w) (fun a => some (nI a, σ)) (fun _ _ => True) (fun n a _ => ?_) (fun n i a hi _ => ⟨?_, trivial⟩) (zN w) 0 0 FU (by omega) (by rw [FU_e]; omega) trivial
  · show f7_worksOf_b4 _ _ _ _ _ = _
    unfold f7_worksOf_b4
    rw [e_stateMany hw hg, bnd_s, if_pos (nI_le (by omega) (by omega))]
  · show f7_worksOf_b4 _ _ _ _ _ = _
    unfold f7_worksOf_b4 f7_worksOf_b36 f7_worksOf_b37
    rw [e_stateMany hw hg, bnd_s, if_neg (nI_ge (by omega) (by omega)), grd_t (inB_nI (by omega) (by omega)), nI_clamp (by omega), hv.1 i hi, if10, e_goesTo hg hv ho hi, bnd_s, nI_1]
    show _ = f7_worksOf_l4 n (nI o) (nI (a + zb1 (zval w dr i && (zgo w dr o i).isSome))) (nI (i + 1)) σ
    by_cases q : zval w dr i = true
    · rw [if_pos q, q, Bool.true_and]
      cases hgo : zgo w dr o i with
      | none => rw [if_pos oN_n]; show f7_worksOf_l4 n _ (nI a + nI 0) _ _ = _; rw [nI_add]; rfl
      | some t =>
        have ht := (zgo_lt hg ho hi hgo).1
        rw [show oN (some t) = nI t from rfl, if_neg (nI_nm1 (by omega))]; show f7_worksOf_l4 n _ (nI a + nI 1) _ _ = _; rw [nI_add]; rfl
    · rw [if_neg q, Bool.eq_false_iff.mpr q, Bool.false_and]; show f7_worksOf_l4 n _ (nI a + nI 0) _ _ = _; rw [nI_add]; rfl
def zq_works (w : WV) (o : Int32) : Int32 := zif (decide (0 < w 7)) (zif (zin o.toInt (w 5)) (nI (zwk w (zdr w) o.toInt.toNat)))
theorem p_works {w : WV} {σ : MS} (hw : MW w σ) (hg : GW w) (x : Int32) : ∃ σ', f7_works x σ = some (zq_works w x, σ') ∧ FR MSC σ σ' := by
  have h5 := hg.2.2.2.2.2.1
  refine p_asks hw hg (fun σ1 _ h _ => p_opq h.1 hg (fun o ho e2 => ⟨σ1, ?_, FR.rfl' _ _⟩))
  subst e2
  rw [e_worksOf h.1 hg h.2.2 ho, bnd_s, tn (by omega)]
  rfl
def zq_merge (w : WV) (b x y : Int32) : Int32 := zif (decide (0 < w 7)) (zif (zisS w b.toInt) (zif (zisS w x.toInt) (zif (zisS w y.toInt) (nI (zmg w (zmb w) (w 1) b.toInt.toNat x.toInt.toNat y.toInt.toNat)))))
theorem p_merge {w : WV} {σ : MS} (hw : MW w σ) (hg : GW w) (b x y : Int32) : ∃ σ', f7_merge b x y σ = some (zq_merge w b x y, σ') ∧ FR MSC σ σ' := by
  have hN := zN_le hg
  refine p_asks hw hg (fun σ1 _ h _ => p_state h hg (fun s hs e => p_state h hg (fun s2 hs2 e2 => p_state h hg (fun s3 hs3 e3 => ⟨σ1, ?_, FR.rfl' _ _⟩))))
  subst e e2 e3
  rw [e_mergeOf h.1 hg h.2.1 (znv_ok hg) hs hs2 hs3, bnd_s, tn (by omega), tn (by omega), tn (by omega)]
  rfl
def zq_even (w : WV) (b x y : Int32) : Int32 := zif (decide (0 < w 7)) (zif (zisS w b.toInt) (zif (zisS w x.toInt) (zif (zisS w y.toInt) (nI (zb1 (decide (zmg w (zmb w) (w 1) b.toInt.toNat x.toInt.toNat y.toInt.toNat = zmg w (zmb w) (w 1) b.toInt.toNat y.toInt.toNat x.toInt.toNat)))))))
theorem p_even {w : WV} {σ : MS} (hw : MW w σ) (hg : GW w) (b x y : Int32) : ∃ σ', f7_even b x y σ = some (zq_even w b x y, σ') ∧ FR MSC σ σ' := by
  have hN := zN_le hg
  refine p_asks hw hg (fun σ1 _ h _ => p_state h hg (fun s hs e => p_state h hg (fun s2 hs2 e2 => p_state h hg (fun s3 hs3 e3 => ⟨σ1, ?_, FR.rfl' _ _⟩))))
  subst e e2 e3
  have m1 := zmg_lt w (zmb w) (w 1) s s2 s3
  have m2 := zmg_lt w (zmb w) (w 1) s s3 s2
  rw [e_mergeOf h.1 hg h.2.1 (znv_ok hg) hs hs2 hs3, bnd_s, e_mergeOf h.1 hg h.2.1 (znv_ok hg) hs hs3 hs2, bnd_s, tn (by omega), tn (by omega), tn (by omega)]
  show (if nI (zmg w (zmb w) (w 1) s s2 s3) = nI (zmg w (zmb w) (w 1) s s3 s2) then _ else _) = _
  rw [nI_eqk (by omega) (by omega)]
  by_cases q : zmg w (zmb w) (w 1) s s2 s3 = zmg w (zmb w) (w 1) s s3 s2
  · rw [if_pos q, decide_eq_true q]; rfl
  · rw [if_neg q, decide_eq_false q]; rfl
