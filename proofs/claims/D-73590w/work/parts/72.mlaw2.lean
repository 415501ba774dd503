/-! THE MODEL by its numbers: broken rules, operations, as it is, merges -/
/-- as it is counted now -/
def AN (v : NV) (σ : MS) : Prop := gI σ 16 = nI v.2.1 ∧ gI σ 17 = nI v.2.2.2 ∧ gI σ 18 = nI v.2.2.1 ∧ ∀ c, c < 3 → gA σ 15 c = nI (v.1 c)
/-- bounds -/
def VG (v : NV) : Prop := v.2.1 ≤ 3 ∧ v.2.2.1 < 32 ∧ v.2.2.2 < 32 ∧ ∀ c, c < 3 → v.1 c ≤ 3
/-- valid states, where operations go -/
def AV (w : WV) (dr : Nat) (σ : MS) : Prop := (∀ s, s < zN w → gA σ 19 s = if zval w dr s = true then 1 else 0) ∧ ∀ o s, o < w 5 → s < zN w → gA σ 20 (64 * o + s) = oN (zgo w dr o s)
theorem AN.fr {v : NV} {σ σ' : MS} {L : List Nat} (h : AN v σ) (hf : FR L σ σ') (h1 : 15 ∉ L ∧ 16 ∉ L ∧ 17 ∉ L ∧ 18 ∉ L) : AN v σ' :=
  ⟨(hf.1 16 h1.2.1).trans h.1, (hf.1 17 h1.2.2.1).trans h.2.1, (hf.1 18 h1.2.2.2).trans h.2.2.1, fun c hc => (hf.2.2.1 15 h1.1 c).trans (h.2.2.2 c hc)⟩
theorem AV.fr {w : WV} {dr : Nat} {σ σ' : MS} {L : List Nat} (h : AV w dr σ) (hf : FR L σ σ') (h1 : 19 ∉ L ∧ 20 ∉ L) : AV w dr σ' :=
  ⟨fun s hs => (hf.2.2.1 19 h1.1 s).trans (h.1 s hs), fun o s ho hs => (hf.2.2.1 20 h1.2 _).trans (h.2 o s ho hs)⟩
theorem e_brokenBy_l {w : WV} {dr : Nat} {σ : MS} (hw : MW w σ) (hg : GW w) (hd : gI σ 18 = nI dr) (hdr : dr < 32) {s : Nat} (hs : s < 2 ^ 31) : ∀ (k i n : Nat), i + k = w 4 → k < n → f7_brokenBy_l2 n (nI s) (nI i) σ = some (oN (fnd (zbad w dr s) i k), σ)
  | _, _, 0, _, h => absurd h (Nat.not_lt_zero _)
  | 0, i, n + 1, h1, _ => by
    have h4 := hg.2.2.2.2.1
    show f7_brokenBy_b2 _ _ _ _ = _
    unfold f7_brokenBy_b2
    rw [e_rules hw, bnd_s, if_pos (nI_le (by omega) (by omega))]
    rfl
  | k + 1, i, n + 1, h1, h2 => by
    have h4 := hg.2.2.2.2.1
    have ih := e_brokenBy_l hw hg hd hdr hs k (i + 1) n (by omega) (by omega)
    show f7_brokenBy_b2 _ _ _ _ = _
    unfold f7_brokenBy_b2 f7_brokenBy_b32
    rw [e_rules hw, bnd_s, if_neg (nI_ge (by omega) (by omega)), hd, e_bit (by omega) (by omega), bn1_s, if10, fnd_s, nI_1, ih]
    by_cases hb : dr.testBit i = true
    · have hz : zbad w dr s i = false := by unfold zbad; rw [hb]; rfl
      rw [if_pos hb, hz]; first | rfl | exact ih
    · have hb' : dr.testBit i = false := Bool.eq_false_iff.mpr hb
      rw [if_neg hb, e_holdsIn hw hg (by omega) hs, bnd_s, if10]
      by_cases hh : zhold w i s = true
      · have hz : zbad w dr s i = false := by unfold zbad; rw [hb', hh]; rfl
        rw [if_pos hh, hz]; first | rfl | exact ih
      · have hz : zbad w dr s i = true := by unfold zbad; rw [hb', Bool.eq_false_iff.mpr hh]; rfl
        rw [if_neg hh, hz]; rfl
theorem e_brokenBy {w : WV} {dr : Nat} {σ : MS} (hw : MW w σ) (hg : GW w) (hd : gI σ 18 = nI dr) (hdr : dr < 32) {s : Nat} (hs : s < 2 ^ 31) : f7_brokenBy (nI s) σ = some (oN (zbrk w dr s), σ) :=
  e_brokenBy_l hw hg hd hdr hs (w 4) 0 FU (by omega) (by have := hg.2.2.2.2.1; rw [FU_e]; omega)
theorem oN_none {o : Option Nat} (h : ∀ k, o = some k → k < 2 ^ 31) : (oN o = -1) ↔ o = none := by
  cases o with
  | none => exact ⟨fun _ => rfl, fun _ => rfl⟩
  | some k =>
    refine ⟨fun q => ?_, fun q => by cases q⟩
    have := congrArg Int32.toInt q
    rw [show oN (some k) = nI k from rfl, nI_toInt (h k rfl)] at this
    rw [show (-1 : Int32).toInt = -1 from by decide] at this
    omega
theorem nI_nm1 {k : Nat} (h : k < 2 ^ 31) : ¬ nI k = -1 := fun q => by
  have := (oN_none (o := some k) (fun j hj => by injection hj with hj; omega)).mp q
  cases this
theorem zbrk_lt {w : WV} {dr s r : Nat} (h : zbrk w dr s = some r) : r < w 4 := by
  have := (fnd_some h).2.1; omega
theorem zadd_lt {w : WV} {s c n t : Nat} (h : zadd w s c n = some t) (hs : s < zN w) (hc : c < w 3) : t < zN w := by
  unfold zadd at h
  by_cases q : zvl w s c + n ≤ w 0
  · rw [if_pos q] at h; injection h with h; subst h; exact zwv_lt hs hc q
  · rw [if_neg q] at h; cases h
theorem zsub_lt {w : WV} {s c n t : Nat} (h : zsub w s c n = some t) (hs : s < zN w) (hc : c < w 3) : t < zN w := by
  unfold zsub at h
  by_cases q : n ≤ zvl w s c
  · rw [if_pos q] at h; injection h with h; subst h; exact zwv_lt hs hc (by have := zvl_le w s c; omega)
  · rw [if_neg q] at h; cases h
theorem zraw_lt {w : WV} (hg : GW w) {o s t : Nat} (ho : o < w 5) (hs : s < zN w) (h : zraw w o s = some t) : t < zN w := by
  obtain ⟨g0, g1, g2, g3⟩ := hg.2.2.2.2.2.2.2.2.2.2.1 o ho
  unfold zraw at h
  by_cases k0 : zpo w o 0 = 0
  · rw [if_pos k0] at h; exact zadd_lt h hs g1
  · rw [if_neg k0] at h
    by_cases k1 : zpo w o 0 = 1
    · rw [if_pos k1] at h; exact zsub_lt h hs g1
    · rw [if_neg k1] at h
      by_cases k2 : zpo w o 0 = 2
      · rw [if_pos k2] at h; injection h with h; subst h; exact zwv_lt hs g1 (g2 (Or.inr (Or.inr k2)))
      · rw [if_neg k2] at h
        obtain ⟨t1, t2⟩ := Option.bind_eq_some_iff.mp h
        exact zadd_lt t2.2 (zsub_lt t2.1 hs g1) (g3 (by omega)).1
theorem zgo_lt {w : WV} (hg : GW w) {dr o s t : Nat} (ho : o < w 5) (hs : s < zN w) (h : zgo w dr o s = some t) : t < zN w ∧ zval w dr t = true := by
  unfold zgo at h
  obtain ⟨t1, h1, h2⟩ := Option.bind_eq_some_iff.mp h
  by_cases q : zval w dr t1 = true
  · rw [if_pos q] at h2; injection h2 with h2; subst h2; exact ⟨zraw_lt hg ho hs h1, q⟩
  · rw [if_neg q] at h2; cases h2
theorem e_done129 {w : WV} {dr : Nat} {σ : MS} (hg : GW w) (hv : ∀ s, s < zN w → gA σ 19 s = if zval w dr s = true then 1 else 0) {x : Option Nat} (hx : ∀ t, x = some t → t < zN w) : f7_doneBy_b129 (oN x) σ = some (oN (x.bind fun t => if zval w dr t = true then some t else none), σ) := by
  have hN := zN_le hg
  unfold f7_doneBy_b129
  cases x with
  | none => rfl
  | some t =>
    have ht := hx t rfl
    show (if nI t = -1 then _ else _) = _
    rw [if_neg (nI_nm1 (by omega)), show oN (some t) = nI t from rfl, grd_t (inB_nI (by omega) (by omega)), nI_clamp (by omega), hv t ht, if10]
    by_cases q : zval w dr t = true
    · rw [if_pos q]; show _ = some (oN (if _ then _ else _), σ); rw [if_pos q]; rfl
    · rw [if_neg q]; show _ = some (oN (if _ then _ else _), σ); rw [if_neg q]; rfl
theorem e_doneBy {w : WV} {dr : Nat} {σ : MS} (hw : MW w σ) (hg : GW w) (hv : ∀ s, s < zN w → gA σ 19 s = if zval w dr s = true then 1 else 0) {o s : Nat} (ho : o < w 5) (hs : s < zN w) : f7_doneBy (nI o) (nI s) σ = some (oN (zgo w dr o s), σ) := by
  have h0 := hg.1
  have h3 := hg.2.2.2.1
  have hN := zN_le hg
  have h5 : o < 5 := by have := hg.2.2.2.2.2.1; omega
  obtain ⟨g0, g1, g2, g3⟩ := hg.2.2.2.2.2.2.2.2.2.2.1 o ho
  unfold f7_doneBy
  rw [e_po1 hw h5, bnd_s, e_po2 hw h5, bnd_s, e_po0 hw h5, bnd_s, ifL0 (by omega), ifL1 (by omega), ifL2 (by omega)]
  have hx : ∀ t, zraw w o s = some t → t < zN w := fun t ht => zraw_lt hg ho hs ht
  unfold zgo
  unfold zraw at hx ⊢
  by_cases k0 : zpo w o 0 = 0
  · have := g2 (Or.inl k0)
    rw [if_pos k0] at hx
    rw [if_pos k0, if_pos k0, e_added hw hg (by omega) (by omega) (by omega), bnd_s, e_done129 hg hv hx]
  · rw [if_neg k0] at hx
    rw [if_neg k0, if_neg k0]
    by_cases k1 : zpo w o 0 = 1
    · have := g2 (Or.inr (Or.inl k1))
      rw [if_pos k1] at hx
      rw [if_pos k1, if_pos k1, e_subbed hw hg (by omega) (by omega) (by omega), bnd_s, e_done129 hg hv hx]
    · rw [if_neg k1] at hx
      rw [if_neg k1, if_neg k1]
      by_cases k2 : zpo w o 0 = 2
      · rw [if_pos k2] at hx
        rw [if_pos k2, if_pos k2, e_withValue hw hg (by omega) (by omega), bnd_s, show nI (zwv w s (zpo w o 1) (zpo w o 2)) = oN (some (zwv w s (zpo w o 1) (zpo w o 2))) from rfl, e_done129 hg hv hx]
      · rw [if_neg k2] at hx
        obtain ⟨t1, t2, t3⟩ := g3 (by omega)
        rw [if_neg k2, if_neg k2, e_po3 hw h5, bnd_s, e_subbed hw hg (by omega) (by omega) (by omega), bnd_s]
        cases hq : zsub w s (zpo w o 1) (zpo w o 3) with
        | none => rfl
        | some t =>
          have ht := zsub_lt hq hs g1
          rw [hq] at hx
          show (if nI t = -1 then _ else _) = _
          rw [if_neg (nI_nm1 (by omega)), e_po3 hw h5, bnd_s, show oN (some t) = nI t from rfl, e_added hw hg (by omega) (by omega) (by omega), bnd_s]
          exact e_done129 hg hv hx
/-- the arrays of states are laid -/
theorem e_lay48 {w : WV} {dr : Nat} (hg : GW w) {o : Nat} (ho : o < w 5) (K : Int32 → MS → Option MS) : ∀ (k i n : Nat) (σ : MS), i + k = zN w → k < n → MW w σ → (∀ s, s < zN w → gA σ 19 s = if zval w dr s = true then 1 else 0) →
    ∃ σ', f7_layStates_l48 K n (nI o) (nI i) σ = K (nI (o + 1)) σ' ∧ FR [20] σ σ' ∧ (∀ s, i ≤ s → s < zN w → gA σ' 20 (64 * o + s) = oN (zgo w dr o s)) ∧ ∀ q, (q < 64 * o + i ∨ 64 * o + zN w ≤ q) → gA σ' 20 q = gA σ 20 q
  | _, _, 0, _, _, h, _, _ => absurd h (Nat.not_lt_zero _)
  | 0, i, n + 1, σ, h1, _, hw, hv => by
    have hN := zN_le hg
    refine ⟨σ, ?_, FR.rfl' _ _, fun s a b => by omega, fun q _ => rfl⟩
    show f7_layStates_b48 _ _ _ _ _ = _
    unfold f7_layStates_b48
    rw [e_stateMany hw hg, bnd_s, if_pos (nI_le (by omega) (by omega)), nI_1]
  | k + 1, i, n + 1, σ, h1, h2, hw, hv => by
    have hN := zN_le hg
    have h5 := hg.2.2.2.2.2.1
    have f1 : FR [20] σ (sA σ 20 (64 * o + i) (oN (zgo w dr o i))) := FR.sA σ _ _ (by decide)
    obtain ⟨σ', e1, e2, e3, e4⟩ := e_lay48 (dr := dr) hg ho K k (i + 1) n (sA σ 20 (64 * o + i) (oN (zgo w dr o i))) (by omega) (by omega) (hw.fr f1 (by decide)) (fun s hs => (f1.2.2.1 19 (by decide) s).trans (hv s hs))
    refine ⟨σ', ?_, f1.trans e2, fun s a b => ?_, fun q hq => ?_⟩
    · show f7_layStates_b48 _ _ _ _ _ = _
      unfold f7_layStates_b48
      rw [e_stateMany hw hg, bnd_s, if_neg (nI_ge (by omega) (by omega)), e_doneBy hw hg hv ho (by omega), bnd_s, show (64 : Int32) = nI 64 from rfl, pk_mul, nI_add, grd_t (inB_nI (by omega) (by omega)), nI_clamp (by omega), nxt_e, nI_1, e1]
    · by_cases hs : s = i
      · subst hs
        rw [e4 _ (Or.inl (by omega)), gA_sA, if_pos rfl, if_pos rfl]
      · exact e3 s (by omega) b
    · rw [e4 q (by omega), gA_sA, if_pos rfl, if_neg (by omega)]
theorem e_lay38 {w : WV} {dr : Nat} (hg : GW w) : ∀ (k i n : Nat) (σ : MS), i + k = w 5 → k < n → MW w σ → (∀ s, s < zN w → gA σ 19 s = if zval w dr s = true then 1 else 0) → (∀ o s, o < i → s < zN w → gA σ 20 (64 * o + s) = oN (zgo w dr o s)) →
    ∃ σ', f7_layStates_l38 n (nI i) σ = some σ' ∧ FR [20] σ σ' ∧ ∀ o s, o < w 5 → s < zN w → gA σ' 20 (64 * o + s) = oN (zgo w dr o s)
  | _, _, 0, _, _, h, _, _, _ => absurd h (Nat.not_lt_zero _)
  | 0, i, n + 1, σ, h1, _, hw, hv, hq => by
    have h5 := hg.2.2.2.2.2.1
    refine ⟨σ, ?_, FR.rfl' _ _, fun o s a b => hq o s (by omega) b⟩
    show f7_layStates_b38 _ _ _ = _
    unfold f7_layStates_b38
    rw [e_ops hw, bnd_s, if_pos (nI_le (by omega) (by omega))]
  | k + 1, i, n + 1, σ, h1, h2, hw, hv, hq => by
    have h5 := hg.2.2.2.2.2.1
    have hN := zN_le hg
    obtain ⟨σ1, e1, e2, e3, e4⟩ := e_lay48 (dr := dr) hg (o := i) (by omega) (f7_layStates_l38 n) (zN w) 0 FU σ (by omega) (by rw [FU_e]; omega) hw hv
    obtain ⟨σ', g1, g2, g3⟩ := e_lay38 (dr := dr) hg k (i + 1) n σ1 (by omega) (by omega) (hw.fr e2 (by decide)) (fun s hs => (e2.2.2.1 19 (by decide) s).trans (hv s hs)) (fun o s ho hs => by
      by_cases h : o = i
      · subst h; exact e3 s (by omega) hs
      · rw [e4 _ (Or.inl (by omega))]; exact hq o s (by omega) hs)
    refine ⟨σ', ?_, e2.trans g2, g3⟩
    show f7_layStates_b38 _ _ _ = _
    unfold f7_layStates_b38
    rw [e_ops hw, bnd_s, if_neg (nI_ge (by omega) (by omega)), ← g1, ← e1]
    rfl
theorem zval_brk (w : WV) (dr s : Nat) : zval w dr s = true ↔ zbrk w dr s = none := Option.isNone_iff_eq_none
theorem e_lay2 {w : WV} {dr : Nat} (hg : GW w) (hdr : dr < 32) : ∀ (k i n : Nat) (σ : MS), i + k = zN w → k < n → MW w σ → gI σ 18 = nI dr → (∀ s, s < i → gA σ 19 s = if zval w dr s = true then 1 else 0) →
    ∃ σ', f7_layStates_l2 n (nI i) σ = some σ' ∧ FR [19, 20] σ σ' ∧ AV w dr σ'
  | _, _, 0, _, _, h, _, _, _ => absurd h (Nat.not_lt_zero _)
  | 0, i, n + 1, σ, h1, _, hw, hd, hv => by
    have hN := zN_le hg
    have hv' : ∀ s, s < zN w → gA σ 19 s = if zval w dr s = true then 1 else 0 := fun s hs => hv s (by omega)
    obtain ⟨σ', g1, g2, g3⟩ := e_lay38 (dr := dr) hg (w 5) 0 FU σ (by omega) (by have := hg.2.2.2.2.2.1; rw [FU_e]; omega) hw hv' (fun o s ho => by omega)
    refine ⟨σ', ?_, g2.mono (by decide), fun s hs => (g2.2.2.1 19 (by decide) s).trans (hv' s hs), g3⟩
    show f7_layStates_b2 _ _ _ = _
    unfold f7_layStates_b2
    rw [e_stateMany hw hg, bnd_s, if_pos (nI_le (by omega) (by omega))]
    exact g1
  | k + 1, i, n + 1, σ, h1, h2, hw, hd, hv => by
    have hN := zN_le hg
    have f1 : FR [19, 20] σ (sA σ 19 i (if zval w dr i = true then 1 else 0)) := FR.sA σ _ _ (by decide)
    obtain ⟨σ', e1, e2, e3⟩ := e_lay2 (dr := dr) hg hdr k (i + 1) n (sA σ 19 i (if zval w dr i = true then 1 else 0)) (by omega) (by omega) (hw.fr f1 (by decide)) ((f1.1 18 (by decide)).trans hd) (fun s hs => by
      rw [gA_sA, if_pos rfl]
      by_cases h : s = i
      · rw [if_pos h, h]
      · rw [if_neg h]; exact hv s (by omega))
    refine ⟨σ', ?_, f1.trans e2, e3⟩
    show f7_layStates_b2 _ _ _ = _
    unfold f7_layStates_b2 f7_layStates_b29
    rw [e_stateMany hw hg, bnd_s, if_neg (nI_ge (by omega) (by omega)), e_brokenBy hw hg hd hdr (by omega), bnd_s, nI_clamp (by omega), nI_1]
    by_cases q : zbrk w dr i = none
    · rw [q, if_pos oN_n, grd_t (inB_nI (by omega) (by omega)), nxt_e, ← e1, if_pos ((zval_brk w dr i).mpr q)]
      rfl
    · rw [if_neg (fun h => q ((oN_none (fun j hj => by have := zbrk_lt hj; have := hg.2.2.2.2.1; omega)).mp h)), grd_t (inB_nI (by omega) (by omega)), nxt_e, ← e1, if_neg (fun h => q ((zval_brk w dr i).mp h))]
      rfl
theorem e_layStates {w : WV} {dr : Nat} {σ : MS} (hw : MW w σ) (hg : GW w) (hd : gI σ 18 = nI dr) (hdr : dr < 32) : ∃ σ', f7_layStates σ = some σ' ∧ FR [19, 20] σ σ' ∧ AV w dr σ' :=
  e_lay2 hg hdr (zN w) 0 FU σ (by omega) (by have := zN_le hg; rw [FU_e]; omega) hw hd (fun s hs => by omega)
/-! as it is by the acts -/
theorem ac_or : ∀ l, l < 32 → ∀ o, o < 5 → nI l ||| ((1 : Int32) <<< (nI o &&& 31)) = nI (l ||| 2 ^ o) := by decide +kernel
theorem ac_and : ∀ l, l < 32 → ∀ o, o < 5 → nI l &&& (((1 : Int32) <<< (nI o &&& 31)) ^^^ (-1)) = nI (l &&& (31 ^^^ 2 ^ o)) := by decide +kernel
theorem or_lt : ∀ l, l < 32 → ∀ o, o < 5 → l ||| 2 ^ o < 32 := by decide +kernel
theorem and_lt' : ∀ l, l < 32 → ∀ o, o < 5 → l &&& (31 ^^^ 2 ^ o) < 32 := by decide +kernel
theorem zacts_lt {w : WV} (hg : GW w) : ∀ n, n ≤ w 6 → (zacts w n).1 < 32 ∧ (zacts w n).2 < 32
  | 0, _ => ⟨(by decide : 0 < 32), (by decide : 0 < 32)⟩
  | n + 1, h => by
    have ih := zacts_lt hg n (by omega)
    have h4 := hg.2.2.2.2.1
    have h5 := hg.2.2.2.2.2.1
    have e : zacts w (n + 1) = zact (w (56 + n)) (zacts w n) := by
      unfold zacts
      rw [itf_last, Nat.zero_add]
    rw [e]
    unfold zact
    rcases hg.2.2.2.2.2.2.2.2.2.2.2 n (by omega) with ⟨o, ho, q⟩ | ⟨o, ho, q⟩ | ⟨o, ho, q⟩
    · rw [q, if_neg (by omega), if_neg (by omega), Nat.add_sub_cancel_left]
      exact ⟨or_lt _ ih.1 _ (by omega), ih.2⟩
    · rw [q, if_neg (by omega), if_pos (by omega), Nat.add_sub_cancel_left]
      exact ⟨and_lt' _ ih.1 _ (by omega), ih.2⟩
    · rw [q, if_pos (by omega), Nat.add_sub_cancel_left]
      exact ⟨ih.1, or_lt _ ih.2 _ (by omega)⟩
theorem zdr_lt {w : WV} (hg : GW w) : zdr w < 32 := (zacts_lt hg _ (Nat.le_refl _)).2
theorem zlk_lt {w : WV} (hg : GW w) : zlk w < 32 := (zacts_lt hg _ (Nat.le_refl _)).1
theorem znv_ok {w : WV} (hg : GW w) : VG (znv w) := ⟨hg.2.1, zdr_lt hg, zlk_lt hg, fun c hc => hg.2.2.2.2.2.2.2.2.1 c hc⟩
theorem e_as50 {w : WV} (hg : GW w) : ∀ (k i n : Nat) (σ : MS), i + k = w 6 → k < n → MW w σ → gI σ 17 = nI (zacts w i).1 → gI σ 18 = nI (zacts w i).2 →
    ∃ σ', f7_asItIs_l50 n (nI i) σ = some σ' ∧ FR [17, 18] σ σ' ∧ gI σ' 17 = nI (zlk w) ∧ gI σ' 18 = nI (zdr w)
  | _, _, 0, _, _, h, _, _, _ => absurd h (Nat.not_lt_zero _)
  | 0, i, n + 1, σ, h1, _, hw, g17, g18 => by
    have h6 := hg.2.2.2.2.2.2.1
    obtain rfl : i = w 6 := by omega
    refine ⟨σ, ?_, FR.rfl' _ _, g17, g18⟩
    show f7_asItIs_b50 _ _ _ = _
    unfold f7_asItIs_b50
    rw [hw 6 (by decide), if_pos (nI_le (by omega) (by omega))]
  | k + 1, i, n + 1, σ, h1, h2, hw, g17, g18 => by
    have h6 := hg.2.2.2.2.2.2.1
    have h4 := hg.2.2.2.2.1
    have h5 := hg.2.2.2.2.2.1
    have hz := zacts_lt hg i (by omega)
    have e : zacts w (i + 1) = zact (w (56 + i)) (zacts w i) := by
      unfold zacts
      rw [itf_last, Nat.zero_add]
    have go : ∀ σ2 : MS, FR [17, 18] σ σ2 → gI σ2 17 = nI (zacts w (i + 1)).1 → gI σ2 18 = nI (zacts w (i + 1)).2 → ∃ σ', f7_asItIs_l50 n (nI (i + 1)) σ2 = some σ' ∧ FR [17, 18] σ σ' ∧ gI σ' 17 = nI (zlk w) ∧ gI σ' 18 = nI (zdr w) := fun σ2 f a b => by
      obtain ⟨σ', r1, r2, r3, r4⟩ := e_as50 hg k (i + 1) n σ2 (by omega) (by omega) (hw.fr f (by decide)) a b
      exact ⟨σ', r1, f.trans r2, r3, r4⟩
    have hsh : f7_asItIs_l50 (n + 1) (nI i) σ = f7_asItIs_b50 (f7_asItIs_l50 n) (nI i) σ := rfl
    rw [hsh]
    unfold f7_asItIs_b50 f7_asItIs_b140
    rw [hw 6 (by decide), if_neg (nI_ge (by omega) (by omega)), show (56 : Int32) = nI 56 from rfl, nI_add, grd_t (inB_nI (by omega) (by omega)), nI_clamp (by omega), hw _ (by omega), nxt_e, nI_1]
    rw [e] at go
    unfold zact at go
    rcases hg.2.2.2.2.2.2.2.2.2.2.2 i (by omega) with ⟨o, ho, q⟩ | ⟨o, ho, q⟩ | ⟨o, ho, q⟩
    · rw [q, if_neg (by omega), if_neg (by omega), Nat.add_sub_cancel_left] at go
      rw [q, if_pos (show nI (100 + o) < (300 : Int32) from nI_lt (b := 300) (by omega) (by omega)), if_pos (show nI (100 + o) < (200 : Int32) from nI_lt (b := 200) (by omega) (by omega)), show (100 : Int32) = nI 100 from rfl, pk_sub (by omega), Nat.add_sub_cancel_left, g17, ac_or _ hz.1 _ (by omega), nxt_e]
      exact go _ (FR.sI _ _ (by decide)) (by rw [gI_sI, if_pos rfl]) (by rw [gI_sI, if_neg (by decide)]; exact g18)
    · rw [q, if_neg (by omega), if_pos (by omega), Nat.add_sub_cancel_left] at go
      rw [q, if_pos (show nI (200 + o) < (300 : Int32) from nI_lt (b := 300) (by omega) (by omega)), if_neg (show ¬ nI (200 + o) < (200 : Int32) from nI_nlt (b := 200) (by omega) (by omega)), show (200 : Int32) = nI 200 from rfl, pk_sub (by omega), Nat.add_sub_cancel_left, g17, ac_and _ hz.1 _ (by omega), nxt_e]
      exact go _ (FR.sI _ _ (by decide)) (by rw [gI_sI, if_pos rfl]) (by rw [gI_sI, if_neg (by decide)]; exact g18)
    · rw [q, if_pos (by omega), Nat.add_sub_cancel_left] at go
      rw [q, if_neg (show ¬ nI (300 + o) < (300 : Int32) from nI_nlt (b := 300) (by omega) (by omega)), show (300 : Int32) = nI 300 from rfl, pk_sub (by omega), Nat.add_sub_cancel_left, g18, ac_or _ hz.2 _ (by omega), nxt_e]
      exact go _ (FR.sI _ _ (by decide)) (by rw [gI_sI, if_neg (by decide)]; exact g17) (by rw [gI_sI, if_pos rfl])
theorem e_as22 {w : WV} (hg : GW w) : ∀ (k i n : Nat) (σ : MS), i + k = 3 → k < n → MW w σ → gI σ 17 = nI 0 → gI σ 18 = nI 0 → (∀ c, c < i → gA σ 15 c = nI (w (8 + c))) →
    ∃ σ', f7_asItIs_l22 n (nI i) σ = some σ' ∧ FR [15, 17, 18] σ σ' ∧ gI σ' 17 = nI (zlk w) ∧ gI σ' 18 = nI (zdr w) ∧ ∀ c, c < 3 → gA σ' 15 c = nI (w (8 + c))
  | _, _, 0, _, _, h, _, _, _, _ => absurd h (Nat.not_lt_zero _)
  | 0, i, n + 1, σ, h1, _, hw, g17, g18, hm => by
    obtain ⟨σ', r1, r2, r3, r4⟩ := e_as50 hg (w 6) 0 FU σ (by omega) (by have := hg.2.2.2.2.2.2.1; rw [FU_e]; omega) hw g17 g18
    refine ⟨σ', ?_, r2.mono (by decide), r3, r4, fun c hc => (r2.2.2.1 15 (by decide) c).trans (hm c (by omega))⟩
    show f7_asItIs_b22 _ _ _ = _
    unfold f7_asItIs_b22
    rw [if_pos (show (3 : Int32) ≤ nI i from nI_le (a := 3) (by omega) (by omega))]
    exact r1
  | k + 1, i, n + 1, σ, h1, h2, hw, g17, g18, hm => by
    have f1 : FR [15, 17, 18] σ (sA σ 15 i (nI (w (8 + i)))) := FR.sA σ _ _ (by decide)
    obtain ⟨σ', r1, r2, r3, r4, r5⟩ := e_as22 hg k (i + 1) n (sA σ 15 i (nI (w (8 + i)))) (by omega) (by omega) (hw.fr f1 (by decide)) g17 g18 (fun c hc => by
      rw [gA_sA, if_pos rfl]
      by_cases h : c = i
      · rw [if_pos h, h]
      · rw [if_neg h]; exact hm c (by omega))
    refine ⟨σ', ?_, f1.trans r2, r3, r4, r5⟩
    show f7_asItIs_b22 _ _ _ = _
    unfold f7_asItIs_b22
    rw [if_neg (show ¬ (3 : Int32) ≤ nI i from nI_ge (b := 3) (by omega) (by omega)), show (8 : Int32) = nI 8 from rfl, nI_add, grd_t (inB_nI (by omega) (by omega)), grd_t (inB_nI (by omega) (by omega)), nI_clamp (by omega), nI_clamp (by omega), hw _ (by omega), nxt_e, nI_1]
    exact r1
theorem e_asItIs {w : WV} {σ : MS} (hw : MW w σ) (hg : GW w) : ∃ σ', f7_asItIs σ = some σ' ∧ FR [15, 16, 17, 18] σ σ' ∧ AN (znv w) σ' := by
  unfold f7_asItIs
  rw [hw 1 (by decide), nxt_e, nxt_e, nxt_e]
  obtain ⟨σ', r1, r2, r3, r4, r5⟩ := e_as22 hg 3 0 FU (sI (sI (sI σ 16 (nI (w 1))) 17 0) 18 0) (by omega) (by rw [FU_e]; omega) hw rfl rfl (fun c hc => by omega)
  have f0 : FR [15, 16, 17, 18] σ (sI (sI (sI σ 16 (nI (w 1))) 17 0) 18 0) := ((FR.sI _ _ (by decide)).trans (FR.sI _ _ (by decide))).trans (FR.sI _ _ (by decide))
  exact ⟨σ', r1, f0.trans (r2.mono (by decide)), (r2.1 16 (by decide)).trans rfl, r3, r4, r5⟩
/-- it is asked: states are laid as it is -/
theorem e_asks {w : WV} {σ : MS} (hw : MW w σ) (hg : GW w) : ∃ σ', f7_asks σ = some (if 0 < w 7 then 1 else 0, σ') ∧ FR [15, 16, 17, 18, 19, 20] σ σ' ∧ AN (znv w) σ' ∧ (0 < w 7 → AV w (zdr w) σ') := by
  obtain ⟨σ1, e1, e2, e3⟩ := e_asItIs hw hg
  have hw1 := hw.fr e2 (by decide)
  unfold f7_asks
  rw [e1, bn1_s, e_isBase hw1 hg, bnd_s, if10]
  by_cases h : 0 < w 7
  · obtain ⟨σ2, g1, g2, g3⟩ := e_layStates hw1 hg e3.2.2.1 (zdr_lt hg)
    refine ⟨σ2, ?_, (e2.mono (by decide)).trans (g2.mono (by decide)), e3.fr g2 (by decide), fun _ => g3⟩
    rw [if_pos h, g1, bn1_s, if_pos h]
  · refine ⟨σ1, ?_, e2.mono (by decide), e3, fun q => absurd q h⟩
    rw [if_neg h, if_neg h]
/-! merges -/
theorem e_lateOf {σ : MS} {law b x y : Nat} (hl : gI σ 16 = nI law) (h1 : law ≤ 3) (hb : b < 2 ^ 20) (hx : x < 2 ^ 20) (hy : y < 2 ^ 20) : f7_lateOf (nI b) (nI x) (nI y) σ = some (nI (zlate law b x y), σ) := by
  unfold f7_lateOf zlate
  rw [nI_eqk (by omega) (by omega), nI_eqk (by omega) (by omega), hl, show (0 : Int32) = nI 0 from rfl, show (1 : Int32) = nI 1 from rfl, show (2 : Int32) = nI 2 from rfl, nI_eqk (by omega) (by omega), nI_eqk (by omega) (by omega), nI_eqk (by omega) (by omega)]
  by_cases k1 : x = b
  · rw [if_pos k1, if_pos k1]
  · rw [if_neg k1, if_neg k1]
    by_cases k2 : y = b
    · rw [if_pos k2, if_pos k2]
    · rw [if_neg k2, if_neg k2]
      by_cases k3 : law = 0
      · rw [if_pos k3, if_pos k3]
      · rw [if_neg k3, if_neg k3]
        by_cases k4 : law = 1
        · rw [if_pos k4, if_pos k4]
        · rw [if_neg k4, if_neg k4]
          by_cases k5 : law = 2
          · rw [if_pos k5, if_pos k5]
            by_cases q : x < y
            · rw [if_pos (nI_lt q (by omega)), Nat.max_eq_right (by omega)]
            · rw [if_neg (nI_nlt (by omega) (by omega)), Nat.max_eq_left (by omega)]
          · rw [if_neg k5, if_neg k5]
theorem nI_sums {t b x y : Nat} (ht : t < 2 ^ 20) (hb : b < 2 ^ 20) (hx : x < 2 ^ 20) (hy : y < 2 ^ 20) :
    (if 0 < (if ((nI x + nI y) - nI b) < nI t then ((nI x + nI y) - nI b) else nI t) then (if ((nI x + nI y) - nI b) < nI t then ((nI x + nI y) - nI b) else nI t) else (0 : Int32)) = nI (min t (x + y - b)) := by
  rw [nI_add]
  by_cases h : b ≤ x + y
  · rw [pk_sub h]
    by_cases q : x + y - b < t
    · rw [if_pos (nI_lt q (by omega)), Nat.min_eq_right (by omega)]
      by_cases r : 0 < x + y - b
      · rw [if_pos (show (0 : Int32) < nI _ from nI_lt (a := 0) r (by omega))]
      · rw [if_neg (show ¬ (0 : Int32) < nI _ from nI_nlt (a := 0) (by omega) (by omega)), show x + y - b = 0 by omega]; rfl
    · rw [if_neg (nI_nlt (by omega) (by omega)), Nat.min_eq_left (by omega)]
      by_cases r : 0 < t
      · rw [if_pos (show (0 : Int32) < nI _ from nI_lt (a := 0) r (by omega))]
      · rw [if_neg (show ¬ (0 : Int32) < nI _ from nI_nlt (a := 0) (by omega) (by omega)), show t = 0 by omega]; rfl
  · have hn := pk_sub_toInt (a := x + y) (b := b) (by omega) (by omega)
    have hneg : (nI (x + y) - nI b) < nI t := by rw [Int32.lt_iff_toInt_lt, hn, nI_toInt (by omega)]; omega
    rw [if_pos hneg, if_neg (by rw [Int32.lt_iff_toInt_lt, hn]; show ¬ (0 : Int) < _; omega), show x + y - b = 0 by omega, Nat.min_eq_right (by omega)]
    rfl
theorem e_mergedOf {w : WV} {σ : MS} (hw : MW w σ) (hg : GW w) {law k b x y : Nat} (hl : gI σ 16 = nI law) (h1 : law ≤ 3) (hk : k ≤ 3) (hb : b < 2 ^ 20) (hx : x < 2 ^ 20) (hy : y < 2 ^ 20) : f7_mergedOf (nI k) (nI b) (nI x) (nI y) σ = some (nI (zmv w law k b x y), σ) := by
  have h0 := hg.1
  unfold f7_mergedOf zmv
  rw [show (if nI k = 0 then _ else _ : oI Int32) = _ from nI_eqk (b := 0) (by omega) (by omega), show (if nI k = 1 then _ else _ : oI Int32) = _ from nI_eqk (b := 1) (by omega) (by omega), show (if nI k = 2 then _ else _ : oI Int32) = _ from nI_eqk (b := 2) (by omega) (by omega)]
  by_cases k0 : k = 0
  · rw [if_pos k0, if_pos k0]
    by_cases q : x < y
    · rw [if_pos (nI_lt q (by omega)), Nat.max_eq_right (by omega)]
    · rw [if_neg (nI_nlt (by omega) (by omega)), Nat.max_eq_left (by omega)]
  · rw [if_neg k0, if_neg k0]
    by_cases k1 : k = 1
    · rw [if_pos k1, if_pos k1]
      by_cases q : y < x
      · rw [if_pos (nI_lt q (by omega)), Nat.min_eq_right (by omega)]
      · rw [if_neg (nI_nlt (by omega) (by omega)), Nat.min_eq_left (by omega)]
    · rw [if_neg k1, if_neg k1]
      by_cases k2 : k = 2
      · rw [if_pos k2, if_pos k2, hw 0 (by decide), nI_sums (by omega) hb hx hy]
      · rw [if_neg k2, if_neg k2, e_lateOf hl h1 hb hx hy, bnd_s]
theorem zmv_le {w : WV} {law k b x y : Nat} (hb : b ≤ w 0) (hx : x ≤ w 0) (hy : y ≤ w 0) : zmv w law k b x y ≤ w 0 := by
  unfold zmv zlate
  repeat' split
  all_goals omega
theorem zmgn_lt (w : WV) (mb : Nat → Nat) (law b x y : Nat) : ∀ c, zmgn w mb law b x y c < zT w ^ c
  | 0 => Nat.one_pos
  | c + 1 => by
    have ih := zmgn_lt w mb law b x y c
    have hv : zmv w law (mb c) (zvl w b c) (zvl w x c) (zvl w y c) ≤ w 0 := zmv_le (zvl_le w b c) (zvl_le w x c) (zvl_le w y c)
    show zmgn w mb law b x y c + zT w ^ c * _ < _
    have h1 : zT w ^ c * zmv w law (mb c) (zvl w b c) (zvl w x c) (zvl w y c) + zT w ^ c ≤ zT w ^ (c + 1) := by
      rw [← Nat.mul_succ, Nat.pow_succ]; exact Nat.mul_le_mul_left _ (by unfold zT; omega)
    omega
theorem zmg_lt (w : WV) (mb : Nat → Nat) (law b x y : Nat) : zmg w mb law b x y < zN w := zmgn_lt w mb law b x y _
theorem zwv_new {w : WV} {m c v : Nat} (h : m < zT w ^ c) : zwv w m c v = m + zT w ^ c * v := by
  unfold zwv zvl
  rw [Nat.div_eq_of_lt h, Nat.zero_mod, Nat.mul_zero, Nat.sub_zero]
theorem e_mergeOf_l {w : WV} {v : NV} {σ : MS} (hw : MW w σ) (hg : GW w) (hv : AN v σ) (hvg : VG v) {b x y : Nat} (hb : b < zN w) (hx : x < zN w) (hy : y < zN w) : ∀ (k i n : Nat), i + k = w 3 → k < n → f7_mergeOf_l6 n (nI b) (nI x) (nI y) (nI (zmgn w v.1 v.2.1 b x y i)) (nI i) σ = some (nI (zmg w v.1 v.2.1 b x y), σ)
  | _, _, 0, _, h => absurd h (Nat.not_lt_zero _)
  | 0, i, n + 1, h1, _ => by
    have h3 := hg.2.2.2.1
    obtain rfl : i = w 3 := by omega
    show f7_mergeOf_b6 _ _ _ _ _ _ _ = _
    unfold f7_mergeOf_b6
    rw [e_cells hw, bnd_s, if_pos (nI_le (by omega) (by omega))]
    rfl
  | k + 1, i, n + 1, h1, h2 => by
    have h3 := hg.2.2.2.1
    have h0 := hg.1
    have hN := zN_le hg
    have hm := zmgn_lt w v.1 v.2.1 b x y i
    have hp := zP_le (w := w) h0 (c := i) (by omega)
    have b1 := zvl_le w b i
    have b2 := zvl_le w x i
    have b3 := zvl_le w y i
    show f7_mergeOf_b6 _ _ _ _ _ _ _ = _
    unfold f7_mergeOf_b6
    rw [e_cells hw, bnd_s, if_neg (nI_ge (by omega) (by omega)), grd_t (inB_nI (by omega) (by omega)), e_valueOf hw hg (by omega) (by omega), bnd_s, e_valueOf hw hg (by omega) (by omega), bnd_s, e_valueOf hw hg (by omega) (by omega), bnd_s, nI_clamp (by omega), hv.2.2.2 i (by omega),
      e_mergedOf hw hg hv.1 hvg.1 (hvg.2.2.2 i (by omega)) (by omega) (by omega) (by omega), bnd_s, e_withValue hw hg (by omega) (by omega), bnd_s, zwv_new hm, nI_1]
    exact e_mergeOf_l hw hg hv hvg hb hx hy k (i + 1) n (by omega) (by omega)
theorem e_mergeOf {w : WV} {v : NV} {σ : MS} (hw : MW w σ) (hg : GW w) (hv : AN v σ) (hvg : VG v) {b x y : Nat} (hb : b < zN w) (hx : x < zN w) (hy : y < zN w) : f7_mergeOf (nI b) (nI x) (nI y) σ = some (nI (zmg w v.1 v.2.1 b x y), σ) :=
  e_mergeOf_l hw hg hv hvg hb hx hy (w 3) 0 FU (by omega) (by have := hg.2.2.2.1; rw [FU_e]; omega)
