/-! THE MODEL by its numbers: sides (printed by gen/mktmpl.py) -/
/-- where a side has got to: in the midst of a round -/
def zmk (w : WV) (dr wo b k : Nat) (m : Nat → Bool) (t : Nat) : Nat := if zlev w dr wo b k t = true then zfar w dr wo b t k else if m t = true then k + 1 else zFAR
theorem zmk_bd (w : WV) (dr wo b : Nat) {k : Nat} (hk : k ≤ 2) (m : Nat → Bool) (t : Nat) : zmk w dr wo b k m t ≤ zFAR := by
  unfold zmk
  by_cases q : zlev w dr wo b k t = true
  · rw [if_pos q]; exact zfar_bd w dr wo b t (by omega)
  · rw [if_neg q]
    by_cases q2 : m t = true
    · rw [if_pos q2]; unfold zFAR; omega
    · rw [if_neg q2]; exact Nat.le_refl _
theorem zmk_congr {w : WV} {dr wo b k : Nat} {m m' : Nat → Bool} {t : Nat} (h : m t = m' t) : zmk w dr wo b k m t = zmk w dr wo b k m' t := by unfold zmk; rw [h]
/-- one more is marked -/
theorem zmk_mark {w : WV} {dr wo b k : Nat} (hk : k ≤ 2) {m m' : Nat → Bool} {t : Nat} (h : m' t = true) : (if nI (k + 1) < nI (zmk w dr wo b k m t) then nI (k + 1) else nI (zmk w dr wo b k m t)) = nI (zmk w dr wo b k m' t) := by
  have hb := zmk_bd w dr wo b hk m t
  unfold zFAR at hb
  by_cases q : zlev w dr wo b k t = true
  · have e1 : zmk w dr wo b k m t = zfar w dr wo b t k := by unfold zmk; rw [if_pos q]
    have e2 : zmk w dr wo b k m' t = zfar w dr wo b t k := by unfold zmk; rw [if_pos q]
    have := zfar_le q
    rw [e1, e2, if_neg (nI_nlt (by omega) (by omega))]
  · have e2 : zmk w dr wo b k m' t = k + 1 := by unfold zmk; rw [if_neg q, if_pos h]
    rw [e2]
    by_cases q2 : m t = true
    · have e1 : zmk w dr wo b k m t = k + 1 := by unfold zmk; rw [if_neg q, if_pos q2]
      rw [e1, if_neg (nI_nlt (by omega) (by omega))]
    · have e1 : zmk w dr wo b k m t = zFAR := by unfold zmk; rw [if_neg q, if_neg q2]
      rw [e1, if_pos (nI_lt (by unfold zFAR; omega) (by unfold zFAR; omega))]
theorem zmk_0 (w : WV) (dr wo b k t : Nat) : zmk w dr wo b k (fun _ => false) t = zfar w dr wo b t k := by
  unfold zmk
  by_cases q : zlev w dr wo b k t = true
  · rw [if_pos q]
  · rw [if_neg q, if_neg (show ¬ false = true from by decide), zfar_no q]
/-- whom those at a level reach -/
def zround (w : WV) (dr wo b k : Nat) (n t : Nat) : Bool := zany (fun u => decide (zfar w dr wo b u k = k) && zedge w dr wo u t) n
theorem zmk_N {w : WV} {dr wo b k t : Nat} (hk : k ≤ 2) : zmk w dr wo b k (zround w dr wo b k (zN w)) t = zfar w dr wo b t (k + 1) := by
  unfold zmk
  rw [zfar_s]
  by_cases q : zlev w dr wo b k t = true
  · rw [if_pos q, if_pos q]
  · rw [if_neg q, if_neg q]
    have e : zlev w dr wo b (k + 1) t = zround w dr wo b k (zN w) t := by
      have e1 : zlev w dr wo b (k + 1) t = (zlev w dr wo b k t || zany (fun u => zlev w dr wo b k u && zedge w dr wo u t) (zN w)) := rfl
      rw [e1, Bool.eq_false_iff.mpr q, Bool.false_or]
      unfold zround
      refine zany_congr (fun u hu => ?_)
      by_cases he : zedge w dr wo u t = true
      · rw [he, Bool.and_true, Bool.and_true]
        by_cases hl : zfar w dr wo b u k = k
        · rw [decide_eq_true hl, ((zfar_eq (by omega)).mp hl).1]
        · rw [decide_eq_false hl]
          cases hq : zlev w dr wo b k u with
          | false => rfl
          | true =>
            exfalso
            refine hl ((zfar_eq (by omega)).mpr ⟨hq, fun j hj => ?_⟩)
            cases hj2 : zlev w dr wo b j u with
            | false => rfl
            | true =>
              exfalso
              have h3 : zlev w dr wo b (j + 1) t = true := by
                show (zlev w dr wo b j t || zany _ _) = true
                rw [Bool.or_eq_true]
                exact Or.inr (zany_t.mpr ⟨u, hu, by rw [hj2, he]; rfl⟩)
              have := zlev_mono h3 (k - (j + 1))
              rw [show j + 1 + (k - (j + 1)) = k by omega] at this
              exact q this
      · rw [Bool.eq_false_iff.mpr he, Bool.and_false, Bool.and_false]
    rw [e]
theorem zedge_lt {w : WV} (hg : GW w) {dr wo u t : Nat} (hu : u < zN w) (h : zedge w dr wo u t = true) : t < zN w := by
  obtain ⟨o, ho, h2⟩ := zany_t.mp h
  rw [Bool.and_eq_true] at h2
  exact (zgo_lt hg ho hu (of_decide_eq_true h2.2)).1
theorem e_goesTo {w : WV} {dr : Nat} {σ : MS} (hg : GW w) (hv : AV w dr σ) {o s : Nat} (ho : o < w 5) (hs : s < zN w) : f7_goesTo (nI o) (nI s) σ = some (oN (zgo w dr o s), σ) := by
  have hN := zN_le hg
  have h5 := hg.2.2.2.2.2.1
  unfold f7_goesTo
  rw [show (64 : Int32) = nI 64 from rfl, pk_mul, nI_add, grd_t (inB_nI (by omega) (by omega)), nI_clamp (by omega), hv.2 o s ho hs]
theorem oN_go {w : WV} (hg : GW w) {dr o s : Nat} (ho : o < w 5) (hs : s < zN w) : (oN (zgo w dr o s) = -1) ↔ zgo w dr o s = none :=
  oN_none (fun k hk => by have := (zgo_lt hg ho hs hk).1; have := zN_le hg; omega)
/-- how far: laid in an array -/
def FA (w : WV) (dr wo b j k : Nat) (σ : MS) : Prop := ∀ t, t < 64 → gA σ j t = nI (zfar w dr wo b t k)
theorem e_far21_73 {w : WV} {dr wo b k : Nat} (hg : GW w) (hk : k ≤ 2) (hwo : wo < 32) {s : Nat} (hs : s < zN w) (m : Nat → Bool) (K40 : Int32 → Int32 → MS → Option MS) (K49 : Int32 → Int32 → Int32 → MS → Option MS) : ∀ (r i n : Nat) (σ : MS), i + r = w 5 → r < n → MW w σ → AV w dr σ →
    (∀ t, t < 64 → gA σ 21 t = nI (zmk w dr wo b k (fun t => m t || zany (fun o => !wo.testBit o && decide (zgo w dr o s = some t)) i) t)) →
    ∃ σ', f7_layFar_21_l73 K40 K49 n (nI wo) (nI k) (nI s) (nI i) σ = K49 (nI wo) (nI k) (nI (s + 1)) σ' ∧ FR [21] σ σ' ∧ ∀ t, t < 64 → gA σ' 21 t = nI (zmk w dr wo b k (fun t => m t || zedge w dr wo s t) t)
  | _, _, 0, _, _, h, _, _, _ => absurd h (Nat.not_lt_zero _)
  | 0, i, n + 1, σ, h1, _, hw, hv, hm => by
    have h5 := hg.2.2.2.2.2.1
    obtain rfl : i = w 5 := by omega
    refine ⟨σ, ?_, FR.rfl' _ _, hm⟩
    show f7_layFar_21_b73 _ _ _ _ _ _ _ _ = _
    unfold f7_layFar_21_b73 f7_layFar_21_b136
    rw [e_ops hw, bnd_s, if_pos (nI_le (by omega) (by omega)), nI_1]
  | r + 1, i, n + 1, σ, h1, h2, hw, hv, hm => by
    have h5 := hg.2.2.2.2.2.1
    have hN := zN_le hg
    have hi : i < w 5 := by omega
    have go : ∀ σ2 : MS, FR [21] σ σ2 → (∀ t, t < 64 → gA σ2 21 t = nI (zmk w dr wo b k (fun t => m t || zany (fun o => !wo.testBit o && decide (zgo w dr o s = some t)) (i + 1)) t)) →
        ∃ σ', f7_layFar_21_l73 K40 K49 n (nI wo) (nI k) (nI s) (nI (i + 1)) σ2 = K49 (nI wo) (nI k) (nI (s + 1)) σ' ∧ FR [21] σ σ' ∧ ∀ t, t < 64 → gA σ' 21 t = nI (zmk w dr wo b k (fun t => m t || zedge w dr wo s t) t) := fun σ2 f a => by
      obtain ⟨σ', r1, r2, r3⟩ := e_far21_73 hg hk hwo hs m K40 K49 r (i + 1) n σ2 (by omega) (by omega) (hw.fr f (by decide)) (hv.fr f (by decide)) a
      exact ⟨σ', r1, f.trans r2, r3⟩
    have hsh : f7_layFar_21_l73 K40 K49 (n + 1) (nI wo) (nI k) (nI s) (nI i) σ = f7_layFar_21_b73 K40 K49 (f7_layFar_21_l73 K40 K49 n) (nI wo) (nI k) (nI s) (nI i) σ := rfl
    rw [hsh]
    unfold f7_layFar_21_b73 f7_layFar_21_b130
    rw [e_ops hw, bnd_s, if_neg (nI_ge (by omega) (by omega)), e_bit (by omega) (by omega), bn1_s, if10, nI_1]
    by_cases hb : wo.testBit i = true
    · rw [if_pos hb]
      refine go σ (FR.rfl' _ _) (fun t ht => (hm t ht).trans (congrArg nI (zmk_congr ?_)))
      show (m t || zany _ i) = (m t || zany _ (i + 1))
      rw [zany_s, hb, Bool.not_true, Bool.false_and, Bool.or_false]
    · have hb' := Bool.eq_false_iff.mpr hb
      rw [if_neg hb, e_goesTo hg hv hi hs, bnd_s]
      cases hgo : zgo w dr i s with
      | none =>
        rw [if_pos oN_n]
        refine go σ (FR.rfl' _ _) (fun t ht => (hm t ht).trans (congrArg nI (zmk_congr ?_)))
        show (m t || zany _ i) = (m t || zany _ (i + 1))
        rw [zany_s, hgo, show decide (none = some t) = false from rfl, Bool.and_false, Bool.or_false]
      | some u =>
        have hu := (zgo_lt hg hi hs hgo).1
        rw [show oN (some u) = nI u from rfl, if_neg (nI_nm1 (by omega)), e_goesTo hg hv hi hs, hgo, bnd_s, e_goesTo hg hv hi hs, hgo, bnd_s, show oN (some u) = nI u from rfl, grd_t (inB_nI (by omega) (by omega)), grd_t (inB_nI (by omega) (by omega)), nI_clamp (by omega), nxt_e, nI_1, hm u (by omega),
          zmk_mark (m' := fun t => m t || zany (fun o => !wo.testBit o && decide (zgo w dr o s = some t)) (i + 1)) hk (by
            show (m u || zany _ (i + 1)) = true
            rw [zany_s, hb', hgo, decide_eq_true rfl]; simp)]
        refine go _ (FR.sA _ _ _ (by decide)) (fun t ht => ?_)
        rw [gA_sA, if_pos rfl]
        by_cases htu : t = u
        · rw [if_pos htu, htu]
        · rw [if_neg htu, hm t ht]
          refine congrArg nI (zmk_congr ?_)
          show (m t || zany _ i) = (m t || zany _ (i + 1))
          rw [zany_s, hgo, decide_eq_false (fun q => htu (by injection q with q; exact q.symm)), Bool.and_false, Bool.or_false]
theorem e_far21_49 {w : WV} {dr wo b k : Nat} (hg : GW w) (hk : k ≤ 2) (hwo : wo < 32) (K40 : Int32 → Int32 → MS → Option MS) : ∀ (r i n : Nat) (σ : MS), i + r = zN w → r < n → MW w σ → AV w dr σ →
    (∀ t, t < 64 → gA σ 21 t = nI (zmk w dr wo b k (zround w dr wo b k i) t)) →
    ∃ σ', f7_layFar_21_l49 K40 n (nI wo) (nI k) (nI i) σ = K40 (nI wo) (nI (k + 1)) σ' ∧ FR [21] σ σ' ∧ FA w dr wo b 21 (k + 1) σ'
  | _, _, 0, _, _, h, _, _, _ => absurd h (Nat.not_lt_zero _)
  | 0, i, n + 1, σ, h1, _, hw, hv, hm => by
    have hN := zN_le hg
    obtain rfl : i = zN w := by omega
    refine ⟨σ, ?_, FR.rfl' _ _, fun t ht => (hm t ht).trans (congrArg nI (zmk_N hk))⟩
    show f7_layFar_21_b49 _ _ _ _ _ _ = _
    unfold f7_layFar_21_b49
    rw [e_stateMany hw hg, bnd_s, if_pos (nI_le (by omega) (by omega)), nI_1]
  | r + 1, i, n + 1, σ, h1, h2, hw, hv, hm => by
    have hN := zN_le hg
    have hbd := zfar_bd w dr wo b i (k := k) (by omega)
    unfold zFAR at hbd
    have hsh : f7_layFar_21_l49 K40 (n + 1) (nI wo) (nI k) (nI i) σ = f7_layFar_21_b49 K40 (f7_layFar_21_l49 K40 n) (nI wo) (nI k) (nI i) σ := rfl
    rw [hsh]
    unfold f7_layFar_21_b49
    rw [e_stateMany hw hg, bnd_s, if_neg (nI_ge (by omega) (by omega)), grd_t (inB_nI (by omega) (by omega)), nI_clamp (by omega), hm i (by omega)]
    have hbd2 := zmk_bd w dr wo b hk (zround w dr wo b k i) i
    unfold zFAR at hbd2
    rw [nI_eqk (by omega) (by omega)]
    have hiff : zmk w dr wo b k (zround w dr wo b k i) i = k ↔ zfar w dr wo b i k = k := by
      unfold zmk
      by_cases q : zlev w dr wo b k i = true
      · rw [if_pos q]
      · rw [if_neg q, zfar_no q]
        by_cases q2 : zround w dr wo b k i i = true
        · rw [if_pos q2]; unfold zFAR; omega
        · rw [if_neg q2]
    by_cases hq : zfar w dr wo b i k = k
    · rw [if_pos (hiff.mpr hq)]
      obtain ⟨σ1, a1, a2, a3⟩ := e_far21_73 hg hk hwo (s := i) (by omega) (zround w dr wo b k i) K40 (f7_layFar_21_l49 K40 n) (w 5) 0 FU σ (by omega) (by have := hg.2.2.2.2.2.1; rw [FU_e]; omega) hw hv (fun t ht => (hm t ht).trans (congrArg nI (zmk_congr (by
        show _ = (_ || zany _ 0)
        show _ = (_ || false)
        rw [Bool.or_false]))))
      obtain ⟨σ', r1, r2, r3⟩ := e_far21_49 hg hk hwo K40 r (i + 1) n σ1 (by omega) (by omega) (hw.fr a2 (by decide)) (hv.fr a2 (by decide)) (fun t ht => (a3 t ht).trans (congrArg nI (zmk_congr (by
        show (zround w dr wo b k i t || zedge w dr wo i t) = zround w dr wo b k (i + 1) t
        unfold zround
        rw [zany_s, decide_eq_true hq, Bool.true_and]))))
      exact ⟨σ', a1.trans r1, a2.trans r2, r3⟩
    · rw [if_neg (fun q => hq (hiff.mp q))]
      unfold f7_layFar_21_b136
      rw [nI_1]
      exact e_far21_49 hg hk hwo K40 r (i + 1) n σ (by omega) (by omega) hw hv (fun t ht => (hm t ht).trans (congrArg nI (zmk_congr (by
        unfold zround
        rw [zany_s, decide_eq_false hq, Bool.false_and, Bool.or_false]))))
theorem e_far21_40 {w : WV} {dr wo b : Nat} (hg : GW w) (hwo : wo < 32) : ∀ (r i n : Nat) (σ : MS), i + r = 3 → r < n → MW w σ → AV w dr σ → FA w dr wo b 21 i σ →
    ∃ σ', f7_layFar_21_l40 n (nI wo) (nI i) σ = some σ' ∧ FR [21] σ σ' ∧ FA w dr wo b 21 3 σ'
  | _, _, 0, _, _, h, _, _, _ => absurd h (Nat.not_lt_zero _)
  | 0, i, n + 1, σ, h1, _, hw, hv, hm => by
    obtain rfl : i = 3 := by omega
    exact ⟨σ, rfl, FR.rfl' _ _, hm⟩
  | r + 1, i, n + 1, σ, h1, h2, hw, hv, hm => by
    have hN := zN_le hg
    have hsh : f7_layFar_21_l40 (n + 1) (nI wo) (nI i) σ = f7_layFar_21_b40 (f7_layFar_21_l40 n) (nI wo) (nI i) σ := rfl
    rw [hsh]
    unfold f7_layFar_21_b40
    rw [if_neg (show ¬ (3 : Int32) ≤ nI i from nI_ge (b := 3) (by omega) (by omega))]
    obtain ⟨σ1, a1, a2, a3⟩ := e_far21_49 hg (k := i) (b := b) (by omega) hwo (f7_layFar_21_l40 n) (zN w) 0 FU σ (by omega) (by rw [FU_e]; omega) hw hv (fun t ht => (hm t ht).trans (congrArg nI (zmk_0 w dr wo b i t).symm))
    obtain ⟨σ', r1, r2, r3⟩ := e_far21_40 hg hwo r (i + 1) n σ1 (by omega) (by omega) (hw.fr a2 (by decide)) (hv.fr a2 (by decide)) a3
    exact ⟨σ', a1.trans r1, a2.trans r2, r3⟩
theorem e_far21_3 {w : WV} {dr wo b : Nat} (hg : GW w) (hwo : wo < 32) (hb : b < zN w) : ∀ (r i n : Nat) (σ : MS), i + r = 64 → r < n → MW w σ → AV w dr σ → (∀ t, t < i → gA σ 21 t = nI zFAR) →
    ∃ σ', f7_layFar_21_l3 n (nI b) (nI wo) (nI i) σ = some σ' ∧ FR [21] σ σ' ∧ FA w dr wo b 21 3 σ'
  | _, _, 0, _, _, h, _, _, _ => absurd h (Nat.not_lt_zero _)
  | 0, i, n + 1, σ, h1, _, hw, hv, hm => by
    have hN := zN_le hg
    obtain rfl : i = 64 := by omega
    have hsh : f7_layFar_21_l3 (n + 1) (nI b) (nI wo) (nI 64) σ = f7_layFar_21_b3 (f7_layFar_21_l3 n) (nI b) (nI wo) (nI 64) σ := rfl
    rw [hsh]
    unfold f7_layFar_21_b3
    rw [if_pos (show (64 : Int32) ≤ nI 64 from nI_le (a := 64) (b := 64) (by omega) (by omega)), grd_t (inB_nI (by omega) (by omega)), nI_clamp (by omega), hv.1 b hb, if10]
    by_cases q : zval w dr b = true
    · rw [if_pos q, grd_t (inB_nI (by omega) (by omega)), nxt_e]
      have f1 : FR [21] σ (sA σ 21 b 0) := FR.sA _ _ _ (by decide)
      obtain ⟨σ', r1, r2, r3⟩ := e_far21_40 hg hwo (b := b) 3 0 FU (sA σ 21 b 0) (by omega) (by rw [FU_e]; omega) (hw.fr f1 (by decide)) (hv.fr f1 (by decide)) (fun t ht => by
        rw [gA_sA, if_pos rfl]
        have e0 : zfar w dr wo b t 0 = if (zval w dr b && decide (t = b)) = true then 0 else zFAR := rfl
        rw [e0, q, Bool.true_and]
        by_cases h : t = b
        · rw [if_pos h, if_pos (decide_eq_true h)]; rfl
        · rw [if_neg h, if_neg (by rw [decide_eq_false h]; decide)]; exact hm t ht)
      exact ⟨σ', r1, f1.trans r2, r3⟩
    · rw [if_neg q]
      exact ⟨σ, rfl, FR.rfl' _ _, fun t ht => by rw [hm t ht, zfar_no (by rw [zlev_no (Bool.eq_false_iff.mpr q)]; decide)]⟩
  | r + 1, i, n + 1, σ, h1, h2, hw, hv, hm => by
    have hN := zN_le hg
    have hsh : f7_layFar_21_l3 (n + 1) (nI b) (nI wo) (nI i) σ = f7_layFar_21_b3 (f7_layFar_21_l3 n) (nI b) (nI wo) (nI i) σ := rfl
    rw [hsh]
    unfold f7_layFar_21_b3
    rw [if_neg (show ¬ (64 : Int32) ≤ nI i from nI_ge (b := 64) (by omega) (by omega)), grd_t (inB_nI (by omega) (by omega)), nI_clamp (by omega), nxt_e, nI_1]
    have f1 : FR [21] σ (sA σ 21 i 1000000000) := FR.sA _ _ _ (by decide)
    obtain ⟨σ', r1, r2, r3⟩ := e_far21_3 hg hwo hb r (i + 1) n (sA σ 21 i 1000000000) (by omega) (by omega) (hw.fr f1 (by decide)) (hv.fr f1 (by decide)) (fun t ht => by
      rw [gA_sA, if_pos rfl]
      by_cases h : t = i
      · rw [if_pos h]; rfl
      · rw [if_neg h]; exact hm t (by omega))
    exact ⟨σ', r1, f1.trans r2, r3⟩
theorem e_layFar21 {w : WV} {dr wo b : Nat} {σ : MS} (hw : MW w σ) (hg : GW w) (hv : AV w dr σ) (hwo : wo < 32) (hb : b < zN w) : ∃ σ', f7_layFar_21 (nI b) (nI wo) σ = some σ' ∧ FR [21] σ σ' ∧ FA w dr wo b 21 3 σ' :=
  e_far21_3 hg hwo hb 64 0 FU σ (by omega) (by rw [FU_e]; omega) hw hv (fun t ht => absurd ht (Nat.not_lt_zero _))
theorem e_far22_73 {w : WV} {dr wo b k : Nat} (hg : GW w) (hk : k ≤ 2) (hwo : wo < 32) {s : Nat} (hs : s < zN w) (m : Nat → Bool) (K40 : Int32 → Int32 → MS → Option MS) (K49 : Int32 → Int32 → Int32 → MS → Option MS) : ∀ (r i n : Nat) (σ : MS), i + r = w 5 → r < n → MW w σ → AV w dr σ →
    (∀ t, t < 64 → gA σ 22 t = nI (zmk w dr wo b k (fun t => m t || zany (fun o => !wo.testBit o && decide (zgo w dr o s = some t)) i) t)) →
    ∃ σ', f7_layFar_22_l73 K40 K49 n (nI wo) (nI k) (nI s) (nI i) σ = K49 (nI wo) (nI k) (nI (s + 1)) σ' ∧ FR [22] σ σ' ∧ ∀ t, t < 64 → gA σ' 22 t = nI (zmk w dr wo b k (fun t => m t || zedge w dr wo s t) t)
  | _, _, 0, _, _, h, _, _, _ => absurd h (Nat.not_lt_zero _)
  | 0, i, n + 1, σ, h1, _, hw, hv, hm => by
    have h5 := hg.2.2.2.2.2.1
    obtain rfl : i = w 5 := by omega
    refine ⟨σ, ?_, FR.rfl' _ _, hm⟩
    show f7_layFar_22_b73 _ _ _ _ _ _ _ _ = _
    unfold f7_layFar_22_b73 f7_layFar_22_b136
    rw [e_ops hw, bnd_s, if_pos (nI_le (by omega) (by omega)), nI_1]
  | r + 1, i, n + 1, σ, h1, h2, hw, hv, hm => by
    have h5 := hg.2.2.2.2.2.1
    have hN := zN_le hg
    have hi : i < w 5 := by omega
    have go : ∀ σ2 : MS, FR [22] σ σ2 → (∀ t, t < 64 → gA σ2 22 t = nI (zmk w dr wo b k (fun t => m t || zany (fun o => !wo.testBit o && decide (zgo w dr o s = some t)) (i + 1)) t)) →
        ∃ σ', f7_layFar_22_l73 K40 K49 n (nI wo) (nI k) (nI s) (nI (i + 1)) σ2 = K49 (nI wo) (nI k) (nI (s + 1)) σ' ∧ FR [22] σ σ' ∧ ∀ t, t < 64 → gA σ' 22 t = nI (zmk w dr wo b k (fun t => m t || zedge w dr wo s t) t) := fun σ2 f a => by
      obtain ⟨σ', r1, r2, r3⟩ := e_far22_73 hg hk hwo hs m K40 K49 r (i + 1) n σ2 (by omega) (by omega) (hw.fr f (by decide)) (hv.fr f (by decide)) a
      exact ⟨σ', r1, f.trans r2, r3⟩
    have hsh : f7_layFar_22_l73 K40 K49 (n + 1) (nI wo) (nI k) (nI s) (nI i) σ = f7_layFar_22_b73 K40 K49 (f7_layFar_22_l73 K40 K49 n) (nI wo) (nI k) (nI s) (nI i) σ := rfl
    rw [hsh]
    unfold f7_layFar_22_b73 f7_layFar_22_b130
    rw [e_ops hw, bnd_s, if_neg (nI_ge (by omega) (by omega)), e_bit (by omega) (by omega), bn1_s, if10, nI_1]
    by_cases hb : wo.testBit i = true
    · rw [if_pos hb]
      refine go σ (FR.rfl' _ _) (fun t ht => (hm t ht).trans (congrArg nI (zmk_congr ?_)))
      show (m t || zany _ i) = (m t || zany _ (i + 1))
      rw [zany_s, hb, Bool.not_true, Bool.false_and, Bool.or_false]
    · have hb' := Bool.eq_false_iff.mpr hb
      rw [if_neg hb, e_goesTo hg hv hi hs, bnd_s]
      cases hgo : zgo w dr i s with
      | none =>
        rw [if_pos oN_n]
        refine go σ (FR.rfl' _ _) (fun t ht => (hm t ht).trans (congrArg nI (zmk_congr ?_)))
        show (m t || zany _ i) = (m t || zany _ (i + 1))
        rw [zany_s, hgo, show decide (none = some t) = false from rfl, Bool.and_false, Bool.or_false]
      | some u =>
        have hu := (zgo_lt hg hi hs hgo).1
        rw [show oN (some u) = nI u from rfl, if_neg (nI_nm1 (by omega)), e_goesTo hg hv hi hs, hgo, bnd_s, e_goesTo hg hv hi hs, hgo, bnd_s, show oN (some u) = nI u from rfl, grd_t (inB_nI (by omega) (by omega)), grd_t (inB_nI (by omega) (by omega)), nI_clamp (by omega), nxt_e, nI_1, hm u (by omega),
          zmk_mark (m' := fun t => m t || zany (fun o => !wo.testBit o && decide (zgo w dr o s = some t)) (i + 1)) hk (by
            show (m u || zany _ (i + 1)) = true
            rw [zany_s, hb', hgo, decide_eq_true rfl]; simp)]
        refine go _ (FR.sA _ _ _ (by decide)) (fun t ht => ?_)
        rw [gA_sA, if_pos rfl]
        by_cases htu : t = u
        · rw [if_pos htu, htu]
        · rw [if_neg htu, hm t ht]
          refine congrArg nI (zmk_congr ?_)
          show (m t || zany _ i) = (m t || zany _ (i + 1))
          rw [zany_s, hgo, decide_eq_false (fun q => htu (by injection q with q; exact q.symm)), Bool.and_false, Bool.or_false]
theorem e_far22_49 {w : WV} {dr wo b k : Nat} (hg : GW w) (hk : k ≤ 2) (hwo : wo < 32) (K40 : Int32 → Int32 → MS → Option MS) : ∀ (r i n : Nat) (σ : MS), i + r = zN w → r < n → MW w σ → AV w dr σ →
    (∀ t, t < 64 → gA σ 22 t = nI (zmk w dr wo b k (zround w dr wo b k i) t)) →
    ∃ σ', f7_layFar_22_l49 K40 n (nI wo) (nI k) (nI i) σ = K40 (nI wo) (nI (k + 1)) σ' ∧ FR [22] σ σ' ∧ FA w dr wo b 22 (k + 1) σ'
  | _, _, 0, _, _, h, _, _, _ => absurd h (Nat.not_lt_zero _)
  | 0, i, n + 1, σ, h1, _, hw, hv, hm => by
    have hN := zN_le hg
    obtain rfl : i = zN w := by omega
    refine ⟨σ, ?_, FR.rfl' _ _, fun t ht => (hm t ht).trans (congrArg nI (zmk_N hk))⟩
    show f7_layFar_22_b49 _ _ _ _ _ _ = _
    unfold f7_layFar_22_b49
    rw [e_stateMany hw hg, bnd_s, if_pos (nI_le (by omega) (by omega)), nI_1]
  | r + 1, i, n + 1, σ, h1, h2, hw, hv, hm => by
    have hN := zN_le hg
    have hbd := zfar_bd w dr wo b i (k := k) (by omega)
    unfold zFAR at hbd
    have hsh : f7_layFar_22_l49 K40 (n + 1) (nI wo) (nI k) (nI i) σ = f7_layFar_22_b49 K40 (f7_layFar_22_l49 K40 n) (nI wo) (nI k) (nI i) σ := rfl
    rw [hsh]
    unfold f7_layFar_22_b49
    rw [e_stateMany hw hg, bnd_s, if_neg (nI_ge (by omega) (by omega)), grd_t (inB_nI (by omega) (by omega)), nI_clamp (by omega), hm i (by omega)]
    have hbd2 := zmk_bd w dr wo b hk (zround w dr wo b k i) i
    unfold zFAR at hbd2
    rw [nI_eqk (by omega) (by omega)]
    have hiff : zmk w dr wo b k (zround w dr wo b k i) i = k ↔ zfar w dr wo b i k = k := by
      unfold zmk
      by_cases q : zlev w dr wo b k i = true
      · rw [if_pos q]
      · rw [if_neg q, zfar_no q]
        by_cases q2 : zround w dr wo b k i i = true
        · rw [if_pos q2]; unfold zFAR; omega
        · rw [if_neg q2]
    by_cases hq : zfar w dr wo b i k = k
    · rw [if_pos (hiff.mpr hq)]
      obtain ⟨σ1, a1, a2, a3⟩ := e_far22_73 hg hk hwo (s := i) (by omega) (zround w dr wo b k i) K40 (f7_layFar_22_l49 K40 n) (w 5) 0 FU σ (by omega) (by have := hg.2.2.2.2.2.1; rw [FU_e]; omega) hw hv (fun t ht => (hm t ht).trans (congrArg nI (zmk_congr (by
        show _ = (_ || zany _ 0)
        show _ = (_ || false)
        rw [Bool.or_false]))))
      obtain ⟨σ', r1, r2, r3⟩ := e_far22_49 hg hk hwo K40 r (i + 1) n σ1 (by omega) (by omega) (hw.fr a2 (by decide)) (hv.fr a2 (by decide)) (fun t ht => (a3 t ht).trans (congrArg nI (zmk_congr (by
        show (zround w dr wo b k i t || zedge w dr wo i t) = zround w dr wo b k (i + 1) t
        unfold zround
        rw [zany_s, decide_eq_true hq, Bool.true_and]))))
      exact ⟨σ', a1.trans r1, a2.trans r2, r3⟩
    · rw [if_neg (fun q => hq (hiff.mp q))]
      unfold f7_layFar_22_b136
      rw [nI_1]
      exact e_far22_49 hg hk hwo K40 r (i + 1) n σ (by omega) (by omega) hw hv (fun t ht => (hm t ht).trans (congrArg nI (zmk_congr (by
        unfold zround
        rw [zany_s, decide_eq_false hq, Bool.false_and, Bool.or_false]))))
theorem e_far22_40 {w : WV} {dr wo b : Nat} (hg : GW w) (hwo : wo < 32) : ∀ (r i n : Nat) (σ : MS), i + r = 3 → r < n → MW w σ → AV w dr σ → FA w dr wo b 22 i σ →
    ∃ σ', f7_layFar_22_l40 n (nI wo) (nI i) σ = some σ' ∧ FR [22] σ σ' ∧ FA w dr wo b 22 3 σ'
  | _, _, 0, _, _, h, _, _, _ => absurd h (Nat.not_lt_zero _)
  | 0, i, n + 1, σ, h1, _, hw, hv, hm => by
    obtain rfl : i = 3 := by omega
    exact ⟨σ, rfl, FR.rfl' _ _, hm⟩
  | r + 1, i, n + 1, σ, h1, h2, hw, hv, hm => by
    have hN := zN_le hg
    have hsh : f7_layFar_22_l40 (n + 1) (nI wo) (nI i) σ = f7_layFar_22_b40 (f7_layFar_22_l40 n) (nI wo) (nI i) σ := rfl
    rw [hsh]
    unfold f7_layFar_22_b40
    rw [if_neg (show ¬ (3 : Int32) ≤ nI i from nI_ge (b := 3) (by omega) (by omega))]
    obtain ⟨σ1, a1, a2, a3⟩ := e_far22_49 hg (k := i) (b := b) (by omega) hwo (f7_layFar_22_l40 n) (zN w) 0 FU σ (by omega) (by rw [FU_e]; omega) hw hv (fun t ht => (hm t ht).trans (congrArg nI (zmk_0 w dr wo b i t).symm))
    obtain ⟨σ', r1, r2, r3⟩ := e_far22_40 hg hwo r (i + 1) n σ1 (by omega) (by omega) (hw.fr a2 (by decide)) (hv.fr a2 (by decide)) a3
    exact ⟨σ', a1.trans r1, a2.trans r2, r3⟩
theorem e_far22_3 {w : WV} {dr wo b : Nat} (hg : GW w) (hwo : wo < 32) (hb : b < zN w) : ∀ (r i n : Nat) (σ : MS), i + r = 64 → r < n → MW w σ → AV w dr σ → (∀ t, t < i → gA σ 22 t = nI zFAR) →
    ∃ σ', f7_layFar_22_l3 n (nI b) (nI wo) (nI i) σ = some σ' ∧ FR [22] σ σ' ∧ FA w dr wo b 22 3 σ'
  | _, _, 0, _, _, h, _, _, _ => absurd h (Nat.not_lt_zero _)
  | 0, i, n + 1, σ, h1, _, hw, hv, hm => by
    have hN := zN_le hg
    obtain rfl : i = 64 := by omega
    have hsh : f7_layFar_22_l3 (n + 1) (nI b) (nI wo) (nI 64) σ = f7_layFar_22_b3 (f7_layFar_22_l3 n) (nI b) (nI wo) (nI 64) σ := rfl
    rw [hsh]
    unfold f7_layFar_22_b3
    rw [if_pos (show (64 : Int32) ≤ nI 64 from nI_le (a := 64) (b := 64) (by omega) (by omega)), grd_t (inB_nI (by omega) (by omega)), nI_clamp (by omega), hv.1 b hb, if10]
    by_cases q : zval w dr b = true
    · rw [if_pos q, grd_t (inB_nI (by omega) (by omega)), nxt_e]
      have f1 : FR [22] σ (sA σ 22 b 0) := FR.sA _ _ _ (by decide)
      obtain ⟨σ', r1, r2, r3⟩ := e_far22_40 hg hwo (b := b) 3 0 FU (sA σ 22 b 0) (by omega) (by rw [FU_e]; omega) (hw.fr f1 (by decide)) (hv.fr f1 (by decide)) (fun t ht => by
        rw [gA_sA, if_pos rfl]
        have e0 : zfar w dr wo b t 0 = if (zval w dr b && decide (t = b)) = true then 0 else zFAR := rfl
        rw [e0, q, Bool.true_and]
        by_cases h : t = b
        · rw [if_pos h, if_pos (decide_eq_true h)]; rfl
        · rw [if_neg h, if_neg (by rw [decide_eq_false h]; decide)]; exact hm t ht)
      exact ⟨σ', r1, f1.trans r2, r3⟩
    · rw [if_neg q]
      exact ⟨σ, rfl, FR.rfl' _ _, fun t ht => by rw [hm t ht, zfar_no (by rw [zlev_no (Bool.eq_false_iff.mpr q)]; decide)]⟩
  | r + 1, i, n + 1, σ, h1, h2, hw, hv, hm => by
    have hN := zN_le hg
    have hsh : f7_layFar_22_l3 (n + 1) (nI b) (nI wo) (nI i) σ = f7_layFar_22_b3 (f7_layFar_22_l3 n) (nI b) (nI wo) (nI i) σ := rfl
    rw [hsh]
    unfold f7_layFar_22_b3
    rw [if_neg (show ¬ (64 : Int32) ≤ nI i from nI_ge (b := 64) (by omega) (by omega)), grd_t (inB_nI (by omega) (by omega)), nI_clamp (by omega), nxt_e, nI_1]
    have f1 : FR [22] σ (sA σ 22 i 1000000000) := FR.sA _ _ _ (by decide)
    obtain ⟨σ', r1, r2, r3⟩ := e_far22_3 hg hwo hb r (i + 1) n (sA σ 22 i 1000000000) (by omega) (by omega) (hw.fr f1 (by decide)) (hv.fr f1 (by decide)) (fun t ht => by
      rw [gA_sA, if_pos rfl]
      by_cases h : t = i
      · rw [if_pos h]; rfl
      · rw [if_neg h]; exact hm t (by omega))
    exact ⟨σ', r1, f1.trans r2, r3⟩
theorem e_layFar22 {w : WV} {dr wo b : Nat} {σ : MS} (hw : MW w σ) (hg : GW w) (hv : AV w dr σ) (hwo : wo < 32) (hb : b < zN w) : ∃ σ', f7_layFar_22 (nI b) (nI wo) σ = some σ' ∧ FR [22] σ σ' ∧ FA w dr wo b 22 3 σ' :=
  e_far22_3 hg hwo hb 64 0 FU σ (by omega) (by rw [FU_e]; omega) hw hv (fun t ht => absurd ht (Nat.not_lt_zero _))
theorem FA.fr {w : WV} {dr wo b j k : Nat} {σ σ' : MS} {L : List Nat} (h : FA w dr wo b j k σ) (hf : FR L σ σ') (h1 : j ∉ L) : FA w dr wo b j k σ' := fun t ht => (hf.2.2.1 j h1 t).trans (h t ht)
theorem e_laySides {w : WV} {v : NV} {b : Nat} {σ : MS} (hw : MW w σ) (hg : GW w) (hn : AN v σ) (hvg : VG v) (hv : AV w v.2.2.1 σ) (hb : b < zN w) : ∃ σ', f7_laySides (nI b) σ = some σ' ∧ FR [21, 22] σ σ' ∧ FA w v.2.2.1 0 b 21 3 σ' ∧ FA w v.2.2.1 v.2.2.2 b 22 3 σ' := by
  obtain ⟨σ1, a1, a2, a3⟩ := e_layFar21 hw hg hv (show 0 < 32 by decide) hb
  obtain ⟨σ2, b1, b2, b3⟩ := e_layFar22 (hw.fr a2 (by decide)) hg (hv.fr a2 (by decide)) hvg.2.2.1 hb
  refine ⟨σ2, ?_, (a2.mono (by decide)).trans (b2.mono (by decide)), a3.fr b2 (by decide), b3⟩
  unfold f7_laySides
  rw [show f7_layFar_21 (nI b) 0 σ = some σ1 from a1, bn1_s, (hn.fr a2 (by decide)).2.1, b1, bn1_s]
