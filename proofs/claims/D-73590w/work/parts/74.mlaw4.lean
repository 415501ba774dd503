/-! THE MODEL by its numbers: breaks -/
/-- what is kept of breaks: how many, pairs, hits by rules, the least: operations, base, two sides -/
abbrev BA : Type := Nat × (Nat → Bool) × (Nat → Nat) × Nat × Nat × Nat × Nat
def zba0 : BA := (0, fun _ => false, fun _ => 0, zFAR, 0, 0, 0)
def zleast (w : WV) (v : NV) (b x y : Nat) (l : Nat × Nat × Nat × Nat) : Nat × Nat × Nat × Nat :=
  if zfar w v.2.2.1 0 b x 3 + zfar w v.2.2.1 0 b y 3 < l.1 then (zfar w v.2.2.1 0 b x 3 + zfar w v.2.2.1 0 b y 3, b, x, y) else l
def zhits (w : WV) (v : NV) (b x y : Nat) (f : Nat → Nat) (r : Nat) : Nat := f r + if r < w 4 ∧ zbad w v.2.2.1 (zmg w v.1 v.2.1 b x y) r = true then 1 else 0
def zkeep (w : WV) (v : NV) (b x y : Nat) (a : BA) : BA := (a.1 + 1, fun k => decide (k = 64 * x + y) || a.2.1 k, zhits w v b x y a.2.2.1, zleast w v b x y a.2.2.2)
def BS (a : BA) (σ : MS) : Prop := gI σ 25 = nI a.1 ∧ (∀ k, k < 4096 → gA σ 23 k = if a.2.1 k = true then 1 else 0) ∧ (∀ r, r < 5 → gA σ 24 r = nI (a.2.2.1 r)) ∧ gI σ 26 = nI a.2.2.2.1 ∧ a.2.2.2.1 ≤ zFAR ∧ (a.2.2.2.1 < zFAR → gI σ 27 = nI a.2.2.2.2.1 ∧ gI σ 28 = nI a.2.2.2.2.2.1 ∧ gI σ 29 = nI a.2.2.2.2.2.2 ∧ a.2.2.2.2.1 < 64 ∧ a.2.2.2.2.2.1 < 64 ∧ a.2.2.2.2.2.2 < 64)
theorem BS.fr {a : BA} {σ σ' : MS} {L : List Nat} (h : BS a σ) (hf : FR L σ σ') (h1 : 23 ∉ L ∧ 24 ∉ L ∧ 25 ∉ L ∧ 26 ∉ L ∧ 27 ∉ L ∧ 28 ∉ L ∧ 29 ∉ L) : BS a σ' :=
  ⟨(hf.1 25 h1.2.2.1).trans h.1, fun k hk => (hf.2.2.1 23 h1.1 k).trans (h.2.1 k hk), fun k hk => (hf.2.2.1 24 h1.2.1 k).trans (h.2.2.1 k hk), (hf.1 26 h1.2.2.2.1).trans h.2.2.2.1, h.2.2.2.2.1, fun q => by
    obtain ⟨q1, q2, q3, q4⟩ := h.2.2.2.2.2 q
    exact ⟨(hf.1 27 h1.2.2.2.2.1).trans q1, (hf.1 28 h1.2.2.2.2.2.1).trans q2, (hf.1 29 h1.2.2.2.2.2.2).trans q3, q4⟩⟩
/-- all that stands while breaks are looked for -/
def BW (w : WV) (v : NV) (σ : MS) : Prop := MW w σ ∧ AN v σ ∧ AV w v.2.2.1 σ
theorem BW.fr {w : WV} {v : NV} {σ σ' : MS} {L : List Nat} (h : BW w v σ) (hf : FR L σ σ') (h1 : 1 ∉ L ∧ 15 ∉ L ∧ 16 ∉ L ∧ 17 ∉ L ∧ 18 ∉ L ∧ 19 ∉ L ∧ 20 ∉ L) : BW w v σ' :=
  ⟨h.1.fr hf h1.1, h.2.1.fr hf ⟨h1.2.1, h1.2.2.1, h1.2.2.2.1, h1.2.2.2.2.1⟩, h.2.2.fr hf ⟨h1.2.2.2.2.2.1, h1.2.2.2.2.2.2⟩⟩
def zhit1 (w : WV) (v : NV) (m i : Nat) (f : Nat → Nat) (r : Nat) : Nat := f r + if r < i ∧ zbad w v.2.2.1 m r = true then 1 else 0
theorem e_keep34 {w : WV} {v : NV} (hg : GW w) (hvg : VG v) {b x y : Nat} (hb : b < zN w) (hx : x < zN w) (hy : y < zN w) (a : BA) {m : Nat} (hm : m < zN w) : ∀ (k i n : Nat) (σ : MS), i + k = w 4 → k < n → BW w v σ → FA w v.2.2.1 0 b 21 3 σ → BS (a.1, a.2.1, zhit1 w v m i a.2.2.1, a.2.2.2) σ →
    ∃ σ', f7_keepBreak_l34 n (nI b) (nI x) (nI y) (nI m) (nI i) σ = some σ' ∧ FR [23, 24, 25, 26, 27, 28, 29] σ σ' ∧ BS (a.1, a.2.1, zhit1 w v m (w 4) a.2.2.1, zleast w v b x y a.2.2.2) σ'
  | _, _, 0, _, _, h, _, _, _ => absurd h (Nat.not_lt_zero _)
  | 0, i, n + 1, σ, h1, _, hw, hf, hs => by
    have h4 := hg.2.2.2.2.1
    have hN := zN_le hg
    obtain rfl : i = w 4 := by omega
    have hsh : f7_keepBreak_l34 (n + 1) (nI b) (nI x) (nI y) (nI m) (nI (w 4)) σ = f7_keepBreak_b34 (f7_keepBreak_l34 n) (nI b) (nI x) (nI y) (nI m) (nI (w 4)) σ := rfl
    rw [hsh]
    unfold f7_keepBreak_b34
    have b1 := zfar_bd w v.2.2.1 0 b x (k := 3) (by omega)
    have b2 := zfar_bd w v.2.2.1 0 b y (k := 3) (by omega)
    have b3 := hs.2.2.2.2.1
    unfold zFAR at b1 b2
    have b4 : a.2.2.2.1 ≤ 1000000000 := b3
    rw [e_rules hw.1, bnd_s, if_pos (nI_le (by omega) (by omega)), grd_t (inB_nI (by omega) (by omega)), grd_t (inB_nI (by omega) (by omega)), nI_clamp (by omega), nI_clamp (by omega), hf x (by omega), hf y (by omega), nxt_e, nI_add, hs.2.2.2.1]
    unfold zleast
    by_cases q : zfar w v.2.2.1 0 b x 3 + zfar w v.2.2.1 0 b y 3 < a.2.2.2.1
    · rw [if_pos (show nI _ < nI a.2.2.2.1 from nI_lt q (by omega)), nxt_e, nxt_e, nxt_e, nxt_e, if_pos q]
      refine ⟨_, rfl, (((FR.sI _ _ (by decide)).trans (FR.sI _ _ (by decide))).trans (FR.sI _ _ (by decide))).trans (FR.sI _ _ (by decide)), ?_, ?_, ?_, rfl, ?_, fun _ => ⟨rfl, rfl, rfl, (show b < 64 by omega), (show x < 64 by omega), (show y < 64 by omega)⟩⟩
      · exact hs.1
      · exact hs.2.1
      · exact hs.2.2.1
      · show _ ≤ 1000000000
        show zfar w v.2.2.1 0 b x 3 + zfar w v.2.2.1 0 b y 3 ≤ 1000000000
        omega
    · rw [if_neg (show ¬ nI _ < nI a.2.2.2.1 from nI_nlt (by omega) (by omega)), if_neg q]
      exact ⟨σ, rfl, FR.rfl' _ _, hs⟩
  | k + 1, i, n + 1, σ, h1, h2, hw, hf, hs => by
    have h4 := hg.2.2.2.2.1
    have hN := zN_le hg
    have hsh : f7_keepBreak_l34 (n + 1) (nI b) (nI x) (nI y) (nI m) (nI i) σ = f7_keepBreak_b34 (f7_keepBreak_l34 n) (nI b) (nI x) (nI y) (nI m) (nI i) σ := rfl
    rw [hsh]
    have go : ∀ z : Nat, zhit1 w v m (i + 1) a.2.2.1 i = zhit1 w v m i a.2.2.1 i + z → ∃ σ', f7_keepBreak_b79 (f7_keepBreak_l34 n) (nI b) (nI x) (nI y) (nI m) (nI i) (nI i) (nI (zhit1 w v m i a.2.2.1 i)) (nI z) σ = some σ' ∧ FR [23, 24, 25, 26, 27, 28, 29] σ σ' ∧ BS (a.1, a.2.1, zhit1 w v m (w 4) a.2.2.1, zleast w v b x y a.2.2.2) σ' := fun z hz => by
      unfold f7_keepBreak_b79
      rw [grd_t (inB_nI (by omega) (by omega)), nI_clamp (by omega), nxt_e, nI_add, nI_1, ← hz]
      have f1 : FR [23, 24, 25, 26, 27, 28, 29] σ (sA σ 24 i (nI (zhit1 w v m (i + 1) a.2.2.1 i))) := FR.sA _ _ _ (by decide)
      obtain ⟨σ', r1, r2, r3⟩ := e_keep34 hg hvg hb hx hy a hm k (i + 1) n (sA σ 24 i (nI (zhit1 w v m (i + 1) a.2.2.1 i))) (by omega) (by omega) (hw.fr f1 (by decide)) (hf.fr f1 (by decide)) ⟨hs.1, hs.2.1, fun r hr => by
        show _ = nI (zhit1 w v m (i + 1) a.2.2.1 r)
        rw [gA_sA, if_pos rfl]
        by_cases h : r = i
        · rw [if_pos h, h]
        · rw [if_neg h]
          have e1 : gA σ 24 r = nI (zhit1 w v m i a.2.2.1 r) := hs.2.2.1 r hr
          rw [e1]
          have e2 : (r < i ∧ zbad w v.2.2.1 m r = true) ↔ (r < i + 1 ∧ zbad w v.2.2.1 m r = true) := by
            constructor
            · exact fun q => ⟨by omega, q.2⟩
            · exact fun q => ⟨by omega, q.2⟩
          unfold zhit1
          simp only [e2], hs.2.2.2⟩
      exact ⟨σ', r1, f1.trans r2, r3⟩
    unfold f7_keepBreak_b34 f7_keepBreak_b78
    have e24 : gA σ 24 i = nI (zhit1 w v m i a.2.2.1 i) := hs.2.2.1 i (by omega)
    rw [e_rules hw.1, bnd_s, if_neg (nI_ge (by omega) (by omega)), grd_t (inB_nI (by omega) (by omega)), nI_clamp (by omega), hw.2.1.2.2.1, e_bit (by have := hvg.2.1; omega) (by omega), bn1_s, if10, e24]
    have z0 : zhit1 w v m i a.2.2.1 i = a.2.2.1 i := by unfold zhit1; rw [if_neg (by omega)]; rfl
    by_cases hb1 : v.2.2.1.testBit i = true
    · rw [if_pos hb1]
      refine go 0 ?_
      rw [z0]
      unfold zhit1 zbad
      rw [hb1, if_neg (by simp)]
    · have hb2 := Bool.eq_false_iff.mpr hb1
      rw [if_neg hb1, e_holdsIn hw.1 hg (by omega) (by omega), bnd_s, if10]
      by_cases hh : zhold w i m = true
      · rw [if_pos hh]
        refine go 0 ?_
        rw [z0]
        unfold zhit1 zbad
        rw [hh, if_neg (by simp)]
      · have hh2 := Bool.eq_false_iff.mpr hh
        rw [if_neg hh]
        refine go 1 ?_
        rw [z0]
        unfold zhit1 zbad
        rw [hh2, hb2, if_pos ⟨by omega, by rfl⟩]
theorem e_keepBreak {w : WV} {v : NV} (hg : GW w) (hvg : VG v) {b x y : Nat} (hb : b < zN w) (hx : x < zN w) (hy : y < zN w) {a : BA} {σ : MS} (hw : BW w v σ) (hf : FA w v.2.2.1 0 b 21 3 σ) (hs : BS a σ) :
    ∃ σ', f7_keepBreak (nI b) (nI x) (nI y) σ = some σ' ∧ FR [23, 24, 25, 26, 27, 28, 29] σ σ' ∧ BS (zkeep w v b x y a) σ' := by
  have hN := zN_le hg
  unfold f7_keepBreak
  rw [nxt_e, show (64 : Int32) = nI 64 from rfl, pk_mul, nI_add, grd_t (inB_nI (by omega) (by omega)), nI_clamp (by omega), nxt_e, hs.1, nI_1]
  have f1 : FR [23, 24, 25, 26, 27, 28, 29] σ (sA (sI σ 25 (nI (a.1 + 1))) 23 (64 * x + y) (vp_nar .boolean 1)) := (FR.sI _ _ (by decide)).trans (FR.sA _ _ _ (by decide))
  have hw1 := hw.fr f1 (by decide)
  rw [e_mergeOf hw1.1 hg hw1.2.1 hvg hb hx hy, bnd_s]
  obtain ⟨σ', r1, r2, r3⟩ := e_keep34 hg hvg hb hx hy (a.1 + 1, fun k => decide (k = 64 * x + y) || a.2.1 k, a.2.2) (zmg_lt w v.1 v.2.1 b x y) (w 4) 0 FU _ (by omega) (by have := hg.2.2.2.2.1; rw [FU_e]; omega) hw1 (hf.fr f1 (by decide)) ⟨rfl, fun k hk => by
    rw [gA_sA, if_pos rfl]
    show _ = if (decide (k = 64 * x + y) || a.2.1 k) = true then 1 else 0
    by_cases h : k = 64 * x + y
    · rw [if_pos h, decide_eq_true h, Bool.true_or, if_pos rfl]; rfl
    · rw [if_neg h, decide_eq_false h, Bool.false_or]; exact hs.2.1 k hk, fun r hr => by
    have : zhit1 w v (zmg w v.1 v.2.1 b x y) 0 a.2.2.1 r = a.2.2.1 r := by unfold zhit1; rw [if_neg (by omega)]; rfl
    show _ = nI (zhit1 w v (zmg w v.1 v.2.1 b x y) 0 a.2.2.1 r)
    rw [this]; exact hs.2.2.1 r hr, hs.2.2.2⟩
  exact ⟨σ', r1, f1.trans r2, r3⟩
/-- one pair of sides -/
def zpairF (w : WV) (v : NV) (d b x y : Nat) (a : BA) : BA := if zbr w v d b x y = true then zkeep w v b x y a else a
theorem zkeepF (w : WV) (v : NV) (d b : Nat) (a : BA) : zbF w v d (zkeep w v) b a = itf (fun x a => itf (fun y a => zpairF w v d b x y a) x (zN w - x) a) 0 (zN w) a := rfl
theorem e_find31 {w : WV} {v : NV} (hg : GW w) (hvg : VG v) {d b x : Nat} (hd : d ≤ 3) (hb : b < zN w) (hx : x < zN w) (hxd : zlev w v.2.2.1 0 b d x = true) (K : Int32 → Int32 → Int32 → MS → Option MS) : ∀ (k y n : Nat) (a : BA) (σ : MS), y + k = zN w → k < n → BW w v σ → FA w v.2.2.1 0 b 21 3 σ → FA w v.2.2.1 v.2.2.2 b 22 3 σ → BS a σ →
    ∃ σ', f7_findFrom_l31 K n (nI b) (nI d) (nI x) (nI y) σ = K (nI b) (nI d) (nI (x + 1)) σ' ∧ FR [23, 24, 25, 26, 27, 28, 29] σ σ' ∧ BS (itf (fun y a => zpairF w v d b x y a) y k a) σ'
  | _, _, 0, _, _, _, h, _, _, _, _ => absurd h (Nat.not_lt_zero _)
  | 0, y, n + 1, a, σ, h1, _, hw, _, _, hs => by
    have hN := zN_le hg
    refine ⟨σ, ?_, FR.rfl' _ _, hs⟩
    show f7_findFrom_b31 _ _ _ _ _ _ _ = _
    unfold f7_findFrom_b31 f7_findFrom_b105
    rw [e_stateMany hw.1 hg, bnd_s, if_pos (nI_le (by omega) (by omega)), nI_1]
  | k + 1, y, n + 1, a, σ, h1, h2, hw, hf1, hf2, hs => by
    have hN := zN_le hg
    have hy : y < zN w := by omega
    have hsh : f7_findFrom_l31 K (n + 1) (nI b) (nI d) (nI x) (nI y) σ = f7_findFrom_b31 K (f7_findFrom_l31 K n) (nI b) (nI d) (nI x) (nI y) σ := rfl
    rw [hsh]
    have b1 := zfar_bd w v.2.2.1 0 b y (k := 3) (by omega)
    have b2 := zfar_bd w v.2.2.1 v.2.2.2 b x (k := 3) (by omega)
    have b3 := zfar_bd w v.2.2.1 v.2.2.2 b y (k := 3) (by omega)
    unfold zFAR at b1 b2 b3
    have skip : zbr w v d b x y = false → ∃ σ', f7_findFrom_l31 K n (nI b) (nI d) (nI x) (nI (y + 1)) σ = K (nI b) (nI d) (nI (x + 1)) σ' ∧ FR [23, 24, 25, 26, 27, 28, 29] σ σ' ∧ BS (itf (fun y a => zpairF w v d b x y a) y (k + 1) a) σ' := fun hz => by
      obtain ⟨σ', r1, r2, r3⟩ := e_find31 hg hvg hd hb hx hxd K k (y + 1) n a σ (by omega) (by omega) hw hf1 hf2 hs
      refine ⟨σ', r1, r2, ?_⟩
      rw [itf_s]
      have : zpairF w v d b x y a = a := by unfold zpairF; rw [hz]; rfl
      rw [this]; exact r3
    have hit : (zlev w v.2.2.1 0 b d y = true) → (zlev w v.2.2.1 v.2.2.2 b d x = true ∨ zlev w v.2.2.1 v.2.2.2 b d y = true) → ∃ σ', f7_findFrom_b72 K (f7_findFrom_l31 K n) (nI b) (nI d) (nI x) (nI y) σ = K (nI b) (nI d) (nI (x + 1)) σ' ∧ FR [23, 24, 25, 26, 27, 28, 29] σ σ' ∧ BS (itf (fun y a => zpairF w v d b x y a) y (k + 1) a) σ' := fun hy1 hy2 => by
      have hmg := zmg_lt w v.1 v.2.1 b x y
      unfold f7_findFrom_b72 f7_findFrom_b99
      rw [e_mergeOf hw.1 hg hw.2.1 hvg hb hx hy, bnd_s, grd_t (inB_nI (by omega) (by omega)), nI_clamp (by omega), hw.2.2.1 _ hmg, if10, nI_1]
      have hor : (zlev w v.2.2.1 v.2.2.2 b d x || zlev w v.2.2.1 v.2.2.2 b d y) = true := by rw [Bool.or_eq_true]; exact hy2
      by_cases q : zval w v.2.2.1 (zmg w v.1 v.2.1 b x y) = true
      · rw [if_pos q]
        refine skip ?_
        unfold zbr; rw [q]; simp
      · have q2 := Bool.eq_false_iff.mpr q
        rw [if_neg q]
        obtain ⟨σ1, c1, c2, c3⟩ := e_keepBreak hg hvg hb hx hy hw hf1 hs
        obtain ⟨σ', r1, r2, r3⟩ := e_find31 hg hvg hd hb hx hxd K k (y + 1) n _ σ1 (by omega) (by omega) (hw.fr c2 (by decide)) (hf1.fr c2 (by decide)) (hf2.fr c2 (by decide)) c3
        refine ⟨σ', ?_, c2.trans r2, ?_⟩
        · rw [c1, bn1_s, r1]
        · rw [itf_s]
          have : zpairF w v d b x y a = zkeep w v b x y a := by unfold zpairF zbr; rw [hxd, hy1, hor, q2]; rfl
          rw [this]; exact r3
    unfold f7_findFrom_b31 f7_findFrom_b99
    rw [e_stateMany hw.1 hg, bnd_s, if_neg (nI_ge (by omega) (by omega)), grd_t (inB_nI (by omega) (by omega)), nI_clamp (by omega), hf1 y (by omega), nI_1]
    by_cases k1 : zfar w v.2.2.1 0 b y 3 ≤ d
    · have l1 := (zfar_up hd (by omega)).mp k1
      rw [if_neg (nI_nlt k1 (by omega)), grd_t (inB_nI (by omega) (by omega)), nI_clamp (by omega), hf2 x (by omega)]
      by_cases k2 : zfar w v.2.2.1 v.2.2.2 b x 3 ≤ d
      · rw [if_pos (nI_le k2 (by omega))]
        exact hit l1 (Or.inl ((zfar_up hd (by omega)).mp k2))
      · rw [if_neg (nI_ge (by omega) (by omega)), grd_t (inB_nI (by omega) (by omega)), hf2 y (by omega)]
        by_cases k3 : zfar w v.2.2.1 v.2.2.2 b y 3 ≤ d
        · rw [if_neg (nI_nlt k3 (by omega))]
          exact hit l1 (Or.inr ((zfar_up hd (by omega)).mp k3))
        · rw [if_pos (nI_lt (by omega) (by omega))]
          refine skip ?_
          unfold zbr
          rw [Bool.eq_false_iff.mpr (fun q => k2 ((zfar_up hd (by omega)).mpr q)), Bool.eq_false_iff.mpr (fun q => k3 ((zfar_up hd (by omega)).mpr q))]
          simp
    · rw [if_pos (nI_lt (by omega) (by omega))]
      refine skip ?_
      unfold zbr
      rw [Bool.eq_false_iff.mpr (fun q => k1 ((zfar_up hd (by omega)).mpr q))]
      simp
theorem e_find7 {w : WV} {v : NV} (hg : GW w) (hvg : VG v) {d b : Nat} (hd : d ≤ 3) (hb : b < zN w) : ∀ (k x n : Nat) (a : BA) (σ : MS), x + k = zN w → k < n → BW w v σ → FA w v.2.2.1 0 b 21 3 σ → FA w v.2.2.1 v.2.2.2 b 22 3 σ → BS a σ →
    ∃ σ', f7_findFrom_l7 n (nI b) (nI d) (nI x) σ = some σ' ∧ FR [23, 24, 25, 26, 27, 28, 29] σ σ' ∧ BS (itf (fun x a => itf (fun y a => zpairF w v d b x y a) x (zN w - x) a) x k a) σ'
  | _, _, 0, _, _, _, h, _, _, _, _ => absurd h (Nat.not_lt_zero _)
  | 0, x, n + 1, a, σ, h1, _, hw, _, _, hs => by
    have hN := zN_le hg
    refine ⟨σ, ?_, FR.rfl' _ _, hs⟩
    show f7_findFrom_b7 _ _ _ _ _ = _
    unfold f7_findFrom_b7
    rw [e_stateMany hw.1 hg, bnd_s, if_pos (nI_le (by omega) (by omega))]
  | k + 1, x, n + 1, a, σ, h1, h2, hw, hf1, hf2, hs => by
    have hN := zN_le hg
    have hx : x < zN w := by omega
    have b1 := zfar_bd w v.2.2.1 0 b x (k := 3) (by omega)
    unfold zFAR at b1
    have hsh : f7_findFrom_l7 (n + 1) (nI b) (nI d) (nI x) σ = f7_findFrom_b7 (f7_findFrom_l7 n) (nI b) (nI d) (nI x) σ := rfl
    rw [hsh]
    unfold f7_findFrom_b7 f7_findFrom_b105
    rw [e_stateMany hw.1 hg, bnd_s, if_neg (nI_ge (by omega) (by omega)), grd_t (inB_nI (by omega) (by omega)), nI_clamp (by omega), hf1 x (by omega), nI_1, itf_s]
    by_cases k1 : zfar w v.2.2.1 0 b x 3 ≤ d
    · rw [if_pos (nI_le k1 (by omega))]
      obtain ⟨σ1, c1, c2, c3⟩ := e_find31 hg hvg hd hb hx ((zfar_up hd (by omega)).mp k1) (f7_findFrom_l7 n) (zN w - x) x FU a σ (by omega) (by rw [FU_e]; omega) hw hf1 hf2 hs
      obtain ⟨σ', r1, r2, r3⟩ := e_find7 hg hvg hd hb k (x + 1) n _ σ1 (by omega) (by omega) (hw.fr c2 (by decide)) (hf1.fr c2 (by decide)) (hf2.fr c2 (by decide)) c3
      exact ⟨σ', c1.trans r1, c2.trans r2, r3⟩
    · rw [if_neg (nI_ge (by omega) (by omega))]
      have hid : itf (fun y a => zpairF w v d b x y a) x (zN w - x) a = a := itf_id _ _ _ (fun y a _ _ => by
        unfold zpairF zbr
        rw [Bool.eq_false_iff.mpr (fun q => k1 ((zfar_up hd (by omega)).mpr q))]
        rfl)
      rw [hid]
      exact e_find7 hg hvg hd hb k (x + 1) n a σ (by omega) (by omega) hw hf1 hf2 hs
theorem e_findFrom {w : WV} {v : NV} (hg : GW w) (hvg : VG v) {d b : Nat} (hd : d ≤ 3) (hb : b < zN w) {a : BA} {σ : MS} (hw : BW w v σ) (hs : BS a σ) :
    ∃ σ', f7_findFrom (nI b) (nI d) σ = some σ' ∧ FR [21, 22, 23, 24, 25, 26, 27, 28, 29] σ σ' ∧ BS (zbF w v d (zkeep w v) b a) σ' := by
  obtain ⟨σ1, a1, a2, a3, a4⟩ := e_laySides hw.1 hg hw.2.1 hvg hw.2.2 hb
  obtain ⟨σ', r1, r2, r3⟩ := e_find7 hg hvg hd hb (zN w) 0 FU a σ1 (by omega) (by have := zN_le hg; rw [FU_e]; omega) (hw.fr a2 (by decide)) a3 a4 (hs.fr a2 (by decide))
  refine ⟨σ', ?_, (a2.mono (by decide)).trans (r2.mono (by decide)), r3⟩
  unfold f7_findFrom
  rw [a1, bn1_s]
  exact r1
theorem e_beg36 : ∀ (k i n : Nat) (σ : MS), i + k = 5 → k < n → (∀ r, r < i → gA σ 24 r = nI 0) → ∃ σ', f7_begins_l36 n (nI i) σ = some σ' ∧ FR [24] σ σ' ∧ ∀ r, r < 5 → gA σ' 24 r = nI 0
  | _, _, 0, _, _, h, _ => absurd h (Nat.not_lt_zero _)
  | 0, i, n + 1, σ, h1, _, hs => by
    obtain rfl : i = 5 := by omega
    exact ⟨σ, rfl, FR.rfl' _ _, hs⟩
  | k + 1, i, n + 1, σ, h1, h2, hs => by
    have f1 : FR [24] σ (sA σ 24 i 0) := FR.sA _ _ _ (by decide)
    obtain ⟨σ', r1, r2, r3⟩ := e_beg36 k (i + 1) n (sA σ 24 i 0) (by omega) (by omega) (fun r hr => by
      rw [gA_sA, if_pos rfl]
      by_cases h : r = i
      · rw [if_pos h]; rfl
      · rw [if_neg h]; exact hs r (by omega))
    refine ⟨σ', ?_, f1.trans r2, r3⟩
    show f7_begins_b36 _ _ _ = _
    unfold f7_begins_b36
    rw [if_neg (show ¬ (5 : Int32) ≤ nI i from nI_ge (b := 5) (by omega) (by omega)), grd_t (inB_nI (by omega) (by omega)), nI_clamp (by omega), nxt_e, nI_1, r1]
theorem e_beg14 : ∀ (k i n : Nat) (σ : MS), i + k = 4096 → k < n → (∀ r, r < i → gA σ 23 r = 0) → ∃ σ', f7_begins_l14 n (nI i) σ = some σ' ∧ FR [23, 24] σ σ' ∧ (∀ r, r < 4096 → gA σ' 23 r = 0) ∧ ∀ r, r < 5 → gA σ' 24 r = nI 0
  | _, _, 0, _, _, h, _ => absurd h (Nat.not_lt_zero _)
  | 0, i, n + 1, σ, h1, _, hs => by
    obtain rfl : i = 4096 := by omega
    obtain ⟨σ', r1, r2, r3⟩ := e_beg36 5 0 FU σ (by omega) (by rw [FU_e]; omega) (fun r hr => absurd hr (Nat.not_lt_zero _))
    exact ⟨σ', r1, r2.mono (by decide), fun r hr => (r2.2.2.1 23 (by decide) r).trans (hs r hr), r3⟩
  | k + 1, i, n + 1, σ, h1, h2, hs => by
    have f1 : FR [23, 24] σ (sA σ 23 i (vp_nar .boolean 0)) := FR.sA _ _ _ (by decide)
    obtain ⟨σ', r1, r2, r3⟩ := e_beg14 k (i + 1) n (sA σ 23 i (vp_nar .boolean 0)) (by omega) (by omega) (fun r hr => by
      rw [gA_sA, if_pos rfl]
      by_cases h : r = i
      · rw [if_pos h]; rfl
      · rw [if_neg h]; exact hs r (by omega))
    refine ⟨σ', ?_, f1.trans r2, r3⟩
    show f7_begins_b14 _ _ _ = _
    unfold f7_begins_b14
    rw [if_neg (show ¬ (4096 : Int32) ≤ nI i from nI_ge (b := 4096) (by omega) (by omega)), grd_t (inB_nI (by omega) (by omega)), nI_clamp (by omega), nxt_e, nI_1, r1]
theorem e_begins (σ : MS) : ∃ σ', f7_begins σ = some σ' ∧ FR [23, 24, 25, 26] σ σ' ∧ BS zba0 σ' := by
  unfold f7_begins
  rw [nxt_e, nxt_e]
  obtain ⟨σ', r1, r2, r3, r4⟩ := e_beg14 4096 0 FU (sI (sI σ 25 0) 26 1000000000) (by omega) (by rw [FU_e]; omega) (fun r hr => absurd hr (Nat.not_lt_zero _))
  refine ⟨σ', r1, ((FR.sI _ _ (by decide)).trans (FR.sI _ _ (by decide))).trans (r2.mono (by decide)), (r2.1 25 (by decide)).trans rfl, fun k hk => (r3 k hk).trans rfl, r4, (r2.1 26 (by decide)).trans rfl, Nat.le_refl _, fun q => absurd q (Nat.lt_irrefl _)⟩
theorem e_breaksFrom {w : WV} {v : NV} (hg : GW w) (hvg : VG v) {d b : Nat} (hd : d ≤ 3) (hb : b < zN w) {σ : MS} (hw : BW w v σ) :
    ∃ σ', f7_breaksFrom (nI b) (nI d) σ = some (nI (zbF w v d (zkeep w v) b zba0).1, σ') ∧ FR [21, 22, 23, 24, 25, 26, 27, 28, 29] σ σ' ∧ BS (zbF w v d (zkeep w v) b zba0) σ' := by
  obtain ⟨σ1, a1, a2, a3⟩ := e_begins σ
  obtain ⟨σ', r1, r2, r3⟩ := e_findFrom hg hvg hd hb (hw.fr a2 (by decide)) a3
  refine ⟨σ', ?_, (a2.mono (by decide)).trans r2, r3⟩
  unfold f7_breaksFrom
  rw [a1, bn1_s, r1, bn1_s, r3.1]
theorem e_breaksIn6 {w : WV} {v : NV} (hg : GW w) (hvg : VG v) {d : Nat} (hd : d ≤ 3) : ∀ (k b n : Nat) (a : BA) (σ : MS), b + k = zN w → k < n → BW w v σ → BS a σ →
    ∃ σ', f7_breaksIn_l6 n (nI d) (nI b) σ = some (nI (itf (fun b a => zbF w v d (zkeep w v) b a) b k a).1, σ') ∧ FR [21, 22, 23, 24, 25, 26, 27, 28, 29] σ σ' ∧ BS (itf (fun b a => zbF w v d (zkeep w v) b a) b k a) σ'
  | _, _, 0, _, _, _, h, _, _ => absurd h (Nat.not_lt_zero _)
  | 0, b, n + 1, a, σ, h1, _, hw, hs => by
    have hN := zN_le hg
    refine ⟨σ, ?_, FR.rfl' _ _, hs⟩
    show f7_breaksIn_b6 _ _ _ _ = _
    unfold f7_breaksIn_b6
    rw [e_stateMany hw.1 hg, bnd_s, if_pos (nI_le (by omega) (by omega)), hs.1]
    rfl
  | k + 1, b, n + 1, a, σ, h1, h2, hw, hs => by
    have hN := zN_le hg
    obtain ⟨σ1, c1, c2, c3⟩ := e_findFrom hg hvg hd (show b < zN w by omega) hw hs
    obtain ⟨σ', r1, r2, r3⟩ := e_breaksIn6 hg hvg hd k (b + 1) n _ σ1 (by omega) (by omega) (hw.fr c2 (by decide)) c3
    refine ⟨σ', ?_, c2.trans r2, r3⟩
    show f7_breaksIn_b6 _ _ _ _ = _
    unfold f7_breaksIn_b6
    rw [e_stateMany hw.1 hg, bnd_s, if_neg (nI_ge (by omega) (by omega)), c1, bn1_s, nI_1, r1]
    rfl
/-- all breaks, kept -/
def zall (w : WV) (v : NV) (d : Nat) : BA := zbA w v d (zkeep w v) zba0
theorem e_breaksIn {w : WV} {v : NV} (hg : GW w) (hvg : VG v) {d : Nat} (hd : d ≤ 3) {σ : MS} (hw : BW w v σ) :
    ∃ σ', f7_breaksIn (nI d) σ = some (nI (zall w v d).1, σ') ∧ FR [21, 22, 23, 24, 25, 26, 27, 28, 29] σ σ' ∧ BS (zall w v d) σ' := by
  obtain ⟨σ1, a1, a2, a3⟩ := e_begins σ
  obtain ⟨σ', r1, r2, r3⟩ := e_breaksIn6 hg hvg hd (zN w) 0 FU zba0 σ1 (by omega) (by have := zN_le hg; rw [FU_e]; omega) (hw.fr a2 (by decide)) a3
  refine ⟨σ', ?_, (a2.mono (by decide)).trans r2, r3⟩
  unfold f7_breaksIn
  rw [a1, bn1_s]
  exact r1
/-- all scratch: what a question may change -/
def MSC : List Nat := [15, 16, 17, 18, 19, 20, 21, 22, 23, 24, 25, 26, 27, 28, 29, 30, 31, 32, 33, 34, 35, 36, 37]
theorem e_asksIn {w : WV} {σ : MS} (hw : MW w σ) (hg : GW w) (x : Int32) : ∃ σ', f7_asksIn x σ = some (if (decide (0 < w 7) && zin x.toInt 4) = true then 1 else 0, σ') ∧ FR MSC σ σ' ∧ AN (znv w) σ' ∧ ((decide (0 < w 7) && zin x.toInt 4) = true → AV w (zdr w) σ' ∧ BS (zall w (znv w) x.toInt.toNat) σ') := by
  obtain ⟨σ1, a1, a2, a3, a4⟩ := e_asks hw hg
  unfold f7_asksIn
  rw [a1, bnd_s, if10]
  by_cases h : 0 < w 7
  · rw [if_pos h, e_isDepth, bn1_s, if10, decide_eq_true h, Bool.true_and]
    by_cases hz : zin x.toInt 4 = true
    · obtain ⟨d, hd, rfl⟩ := zin_nI hz
      obtain ⟨σ', r1, r2, r3⟩ := e_breaksIn hg (znv_ok hg) (show d ≤ 3 by omega) ⟨hw.fr a2 (by decide), a3, a4 h⟩
      rw [if_pos hz, r1, bnd_s, if_pos hz]
      refine ⟨σ', rfl, (a2.mono (by decide)).trans (r2.mono (by decide)), a3.fr r2 (by decide), fun _ => ⟨(a4 h).fr r2 (by decide), ?_⟩⟩
      rw [nI_toInt (by omega), Int.toNat_natCast]
      exact r3
    · rw [if_neg hz, if_neg hz]
      exact ⟨σ1, rfl, a2.mono (by decide), a3, fun q => absurd q hz⟩
  · rw [if_neg h, decide_eq_false h]
    exact ⟨σ1, rfl, a2.mono (by decide), a3, fun q => by cases q⟩
