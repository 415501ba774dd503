/-! THE MODEL by its numbers: questions of sides and of breaks -/
/-- how many are reached -/
def zrc (w : WV) (dr wo b d : Nat) : Nat := itf (fun s a => a + zb1 (zlev w dr wo b d s)) 0 64 0
theorem e_asksSides {w : WV} {σ : MS} (hw : MW w σ) (hg : GW w) {y : Int32} {K : MS → oI Int32} {x : Int32} (hk : ∀ σ1 s, s < zN w → y = nI s → BW w (znv w) σ1 → FA w (zdr w) 0 s 21 3 σ1 → FA w (zdr w) (zlk w) s 22 3 σ1 → ∃ σ', K σ1 = some (x, σ') ∧ FR MSC σ1 σ') :
    ∃ σ', (bnd (f7_asksSides y σ) fun r2 σ1 => if r2 = 0 then (some ((-2), σ1)) else K σ1) = some (zif (decide (0 < w 7)) (zif (zisS w y.toInt) x), σ') ∧ FR MSC σ σ' := by
  obtain ⟨σ1, a1, a2, a3, a4⟩ := e_asks hw hg
  unfold f7_asksSides
  rw [a1, bnd_s, if10]
  by_cases h : 0 < w 7
  · rw [if_pos h, e_isState (hw.fr a2 (by decide)) hg, bnd_s, if10, decide_eq_true h]
    by_cases h2 : zisS w y.toInt = true
    · obtain ⟨_, s, hs, e⟩ := zisS_nI h2
      subst e
      obtain ⟨σ2, b1, b2, b3, b4⟩ := e_laySides (hw.fr a2 (by decide)) hg a3 (znv_ok hg) (a4 h) hs
      obtain ⟨σ', r1, r2⟩ := hk σ2 s hs rfl (BW.fr ⟨hw.fr a2 (by decide), a3, a4 h⟩ b2 (by decide)) b3 b4
      refine ⟨σ', ?_, ((a2.mono (by decide)).trans (b2.mono (by decide))).trans r2⟩
      rw [if_pos h2, b1, bn1_s, bnd_s, if_neg one_ne, r1, h2]
      rfl
    · rw [if_neg h2, bnd_s, if_pos rfl, Bool.eq_false_iff.mpr h2]
      exact ⟨σ1, rfl, a2.mono (by decide)⟩
  · rw [if_neg h, bnd_s, if_pos rfl, decide_eq_false h]
    exact ⟨σ1, rfl, a2.mono (by decide)⟩
theorem e_within21 {w : WV} {dr wo b d : Nat} {σ : MS} (hd : d ≤ 3) (hf : FA w dr wo b 21 3 σ) : f7_within_21 (nI d) σ = some (nI (zrc w dr wo b d), σ) := by
  refine lpI (A := Int32 × Int32) (fun n p => f7_within_21_l4 n (nI d) p.1 p.2 σ) (fun i a => (nI a, nI i)) _ 64 (fun a => some (nI a, σ)) (fun _ _ => True) (fun n a _ => rfl) (fun n i a hi _ => ⟨?_, trivial⟩) 64 0 0 FU (by omega) (by rw [FU_e]; omega) trivial
  have hb := zfar_bd w dr wo b i (k := 3) (by omega)
  unfold zFAR at hb
  show f7_within_21_b4 _ _ _ _ _ = _
  unfold f7_within_21_b4 f7_within_21_b23
  rw [if_neg (show ¬ (64 : Int32) ≤ nI i from nI_ge (b := 64) (by omega) (by omega)), grd_t (inB_nI (by omega) (by omega)), nI_clamp (by omega), hf i hi, nI_1]
  show _ = f7_within_21_l4 n (nI d) (nI (a + zb1 (zlev w dr wo b d i))) (nI (i + 1)) σ
  by_cases q : zlev w dr wo b d i = true
  · rw [if_neg (nI_nlt ((zfar_up hd (by omega)).mpr q) (by omega)), q]; show f7_within_21_l4 n _ (nI a + nI 1) _ _ = _; rw [nI_add]; rfl
  · have : ¬ zfar w dr wo b i 3 ≤ d := fun h => q ((zfar_up hd (by omega)).mp h)
    rw [if_pos (nI_lt (by omega) (by omega)), Bool.eq_false_iff.mpr q]; show f7_within_21_l4 n _ (nI a + nI 0) _ _ = _; rw [nI_add]; rfl
theorem e_within22 {w : WV} {dr wo b d : Nat} {σ : MS} (hd : d ≤ 3) (hf : FA w dr wo b 22 3 σ) : f7_within_22 (nI d) σ = some (nI (zrc w dr wo b d), σ) := by
  refine lpI (A := Int32 × Int32) (fun n p => f7_within_22_l4 n (nI d) p.1 p.2 σ) (fun i a => (nI a, nI i)) _ 64 (fun a => some (nI a, σ)) (fun _ _ => True) (fun n a _ => rfl) (fun n i a hi _ => ⟨?_, trivial⟩) 64 0 0 FU (by omega) (by rw [FU_e]; omega) trivial
  have hb := zfar_bd w dr wo b i (k := 3) (by omega)
  unfold zFAR at hb
  show f7_within_22_b4 _ _ _ _ _ = _
  unfold f7_within_22_b4 f7_within_22_b23
  rw [if_neg (show ¬ (64 : Int32) ≤ nI i from nI_ge (b := 64) (by omega) (by omega)), grd_t (inB_nI (by omega) (by omega)), nI_clamp (by omega), hf i hi, nI_1]
  show _ = f7_within_22_l4 n (nI d) (nI (a + zb1 (zlev w dr wo b d i))) (nI (i + 1)) σ
  by_cases q : zlev w dr wo b d i = true
  · rw [if_neg (nI_nlt ((zfar_up hd (by omega)).mpr q) (by omega)), q]; show f7_within_22_l4 n _ (nI a + nI 1) _ _ = _; rw [nI_add]; rfl
  · have : ¬ zfar w dr wo b i 3 ≤ d := fun h => q ((zfar_up hd (by omega)).mp h)
    rw [if_pos (nI_lt (by omega) (by omega)), Bool.eq_false_iff.mpr q]; show f7_within_22_l4 n _ (nI a + nI 0) _ _ = _; rw [nI_add]; rfl
theorem e_orNone {w : WV} {dr : Nat} {σ : MS} (hg : GW w) (hv : AV w dr σ) {s : Nat} (hs : s < zN w) (x : Int32) : f7_orNone (nI s) x σ = some (if zval w dr s = true then x else -1, σ) := by
  have hN := zN_le hg
  unfold f7_orNone
  rw [grd_t (inB_nI (by omega) (by omega)), nI_clamp (by omega), hv.1 s hs, if10]
  split <;> rfl
def zq_reach (w : WV) (b d : Int32) : Int32 := zif (decide (0 < w 7)) (zif (zisS w b.toInt) (zif (zin d.toInt 4) (if zval w (zdr w) b.toInt.toNat = true then nI (zrc w (zdr w) 0 b.toInt.toNat d.toInt.toNat) else -1)))
theorem p_reach {w : WV} {σ : MS} (hw : MW w σ) (hg : GW w) (b d : Int32) : ∃ σ', f7_reach b d σ = some (zq_reach w b d, σ') ∧ FR MSC σ σ' := by
  have hN := zN_le hg
  refine e_asksSides hw hg (fun σ1 s hs e h f1 f2 => p_deepq (fun k hk e2 => ⟨σ1, ?_, FR.rfl' _ _⟩))
  subst e e2
  rw [e_within21 (by omega) f1, bnd_s, e_orNone hg h.2.2 hs, bnd_s, tn (by omega), tn (by omega)]
  rfl
def zq_freely (w : WV) (b d : Int32) : Int32 := zif (decide (0 < w 7)) (zif (zisS w b.toInt) (zif (zin d.toInt 4) (if zval w (zdr w) b.toInt.toNat = true then nI (zrc w (zdr w) (zlk w) b.toInt.toNat d.toInt.toNat) else -1)))
theorem p_freely {w : WV} {σ : MS} (hw : MW w σ) (hg : GW w) (b d : Int32) : ∃ σ', f7_freely b d σ = some (zq_freely w b d, σ') ∧ FR MSC σ σ' := by
  have hN := zN_le hg
  refine e_asksSides hw hg (fun σ1 s hs e h f1 f2 => p_deepq (fun k hk e2 => ⟨σ1, ?_, FR.rfl' _ _⟩))
  subst e e2
  rw [e_within22 (by omega) f2, bnd_s, e_orNone hg h.2.2 hs, bnd_s, tn (by omega), tn (by omega)]
  rfl
/-- how far, as it is answered -/
def zfarI (w : WV) (dr wo b s : Nat) : Int32 := if zlev w dr wo b 3 s = true then nI (zfar w dr wo b s 3) else -1
def zq_far (w : WV) (b s : Int32) : Int32 := zif (decide (0 < w 7)) (zif (zisS w b.toInt) (zif (zisS w s.toInt) (zfarI w (zdr w) 0 b.toInt.toNat s.toInt.toNat)))
theorem p_far {w : WV} {σ : MS} (hw : MW w σ) (hg : GW w) (b s : Int32) : ∃ σ', f7_far b s σ = some (zq_far w b s, σ') ∧ FR MSC σ σ' := by
  have hN := zN_le hg
  refine e_asksSides hw hg (fun σ1 s hs e h f1 f2 => p_state h hg (fun k hk e2 => ⟨σ1, ?_, FR.rfl' _ _⟩))
  subst e e2
  have hb := zfar_bd w (zdr w) 0 s k (k := 3) (by omega)
  unfold zFAR at hb
  rw [grd_t (inB_nI (by omega) (by omega)), nI_clamp (by omega), f1 k (by omega), grd_t (inB_nI (by omega) (by omega)), show (1000000000 : Int32) = nI 1000000000 from rfl, nI_eqk (by omega) (by omega), tn (by omega), tn (by omega)]
  unfold zfarI
  by_cases q : zlev w (zdr w) 0 s 3 k = true
  · have := zfar_le q
    rw [if_neg (by omega), if_pos q]
  · rw [if_pos (by rw [zfar_no q]; rfl), if_neg q]
/-- the first operation of a way: the least whose state is one nearer -/
def zfirst (w : WV) (dr b s : Nat) (o : Nat) : Bool := match zgo w dr o b with
  | none => false
  | some t => decide (zfar w dr 0 t s 3 + 1 = zfar w dr 0 b s 3)
def zq_step (w : WV) (b s : Int32) : Int32 := zif (decide (0 < w 7)) (zif (zisS w b.toInt) (zif (zisS w s.toInt) (if zlev w (zdr w) 0 b.toInt.toNat 3 s.toInt.toNat = true ∧ ¬ zfar w (zdr w) 0 b.toInt.toNat s.toInt.toNat 3 = 0 then oN (fnd (zfirst w (zdr w) b.toInt.toNat s.toInt.toNat) 0 (w 5)) else -1)))
theorem e_step53 {w : WV} {v : NV} (hg : GW w) {b s : Nat} (hb : b < zN w) (hs : s < zN w) (h0 : ¬ zfar w v.2.2.1 0 b s 3 = 0) : ∀ (k i n : Nat) (σ : MS), i + k = w 5 → k < n → BW w v σ → ∃ σ', f7_step_l53 n (nI b) (nI s) (nI (zfar w v.2.2.1 0 b s 3)) (nI i) σ = some (oN (fnd (zfirst w v.2.2.1 b s) i k), σ') ∧ FR [21] σ σ'
  | _, _, 0, _, _, h, _ => absurd h (Nat.not_lt_zero _)
  | 0, i, n + 1, σ, h1, _, hw => by
    have h5 := hg.2.2.2.2.2.1
    refine ⟨σ, ?_, FR.rfl' _ _⟩
    show f7_step_b53 _ _ _ _ _ _ = _
    unfold f7_step_b53
    rw [e_ops hw.1, bnd_s, if_pos (nI_le (by omega) (by omega))]
    rfl
  | k + 1, i, n + 1, σ, h1, h2, hw => by
    have h5 := hg.2.2.2.2.2.1
    have hN := zN_le hg
    have hi : i < w 5 := by omega
    have hfb := zfar_bd w v.2.2.1 0 b s (k := 3) (by omega)
    unfold zFAR at hfb
    have go : ∀ σ2, FR [21] σ σ2 → zfirst w v.2.2.1 b s i = false → ∃ σ', f7_step_l53 n (nI b) (nI s) (nI (zfar w v.2.2.1 0 b s 3)) (nI (i + 1)) σ2 = some (oN (fnd (zfirst w v.2.2.1 b s) i (k + 1)), σ') ∧ FR [21] σ σ' := fun σ2 f hq => by
      obtain ⟨σ', r1, r2⟩ := e_step53 hg hb hs h0 k (i + 1) n σ2 (by omega) (by omega) (hw.fr f (by decide))
      refine ⟨σ', ?_, f.trans r2⟩
      rw [r1, fnd_s, hq]; rfl
    have hsh : f7_step_l53 (n + 1) (nI b) (nI s) (nI (zfar w v.2.2.1 0 b s 3)) (nI i) σ = f7_step_b53 (f7_step_l53 n) (nI b) (nI s) (nI (zfar w v.2.2.1 0 b s 3)) (nI i) σ := rfl
    rw [hsh]
    unfold f7_step_b53 f7_step_b107
    rw [e_ops hw.1, bnd_s, if_neg (nI_ge (by omega) (by omega)), e_goesTo hg hw.2.2 hi hb, bnd_s, nI_1]
    cases hgo : zgo w v.2.2.1 i b with
    | none =>
      rw [if_pos oN_n]
      exact go σ (FR.rfl' _ _) (by unfold zfirst; rw [hgo])
    | some t =>
      have ht := (zgo_lt hg hi hb hgo).1
      obtain ⟨σ1, a1, a2, a3⟩ := e_layFar21 hw.1 hg hw.2.2 (show 0 < 32 by decide) ht
      have hft := zfar_bd w v.2.2.1 0 t s (k := 3) (by omega)
      unfold zFAR at hft
      rw [show oN (some t) = nI t from rfl, if_neg (nI_nm1 (by omega)), e_goesTo hg hw.2.2 hi hb, hgo, bnd_s, show oN (some t) = nI t from rfl, show f7_layFar_21 (nI t) 0 σ = some σ1 from a1, bn1_s, grd_t (inB_nI (by omega) (by omega)), nI_clamp (by omega), a3 s (by omega), show (1 : Int32) = nI 1 from rfl, pk_sub (by omega), nI_eqk (by omega) (by omega)]
      by_cases q : zfar w v.2.2.1 0 t s 3 = zfar w v.2.2.1 0 b s 3 - 1
      · rw [if_pos q]
        refine ⟨σ1, ?_, a2⟩
        have : zfirst w v.2.2.1 b s i = true := by unfold zfirst; rw [hgo]; exact decide_eq_true (by omega)
        rw [fnd_s, if_pos this]; rfl
      · rw [if_neg q]
        exact go σ1 a2 (by unfold zfirst; rw [hgo]; exact decide_eq_false (by omega))
theorem p_step {w : WV} {σ : MS} (hw : MW w σ) (hg : GW w) (b s : Int32) : ∃ σ', f7_step b s σ = some (zq_step w b s, σ') ∧ FR MSC σ σ' := by
  have hN := zN_le hg
  refine e_asksSides hw hg (fun σ1 s hs e h f1 f2 => p_state h hg (fun k hk e2 => ?_))
  subst e e2
  have hb := zfar_bd w (zdr w) 0 s k (k := 3) (by omega)
  unfold zFAR at hb
  rw [grd_t (inB_nI (by omega) (by omega)), nI_clamp (by omega), f1 k (by omega), grd_t (inB_nI (by omega) (by omega)), show (1000000000 : Int32) = nI 1000000000 from rfl, nI_eqk (by omega) (by omega), tn (by omega), tn (by omega), grd_t (inB_nI (by omega) (by omega)), nxt_e, show (0 : Int32) = nI 0 from rfl, nI_eqk (by omega) (by omega)]
  by_cases q : zlev w (zdr w) 0 s 3 k = true
  · have := zfar_le q
    rw [if_neg (show ¬ zfar w (zdr w) 0 s k 3 = 1000000000 by omega)]
    by_cases q0 : zfar w (zdr w) 0 s k 3 = 0
    · rw [if_pos q0, if_neg (fun h => h.2 q0)]
      exact ⟨σ1, rfl, FR.rfl' _ _⟩
    · rw [if_neg q0, if_pos ⟨q, q0⟩]
      obtain ⟨σ', r1, r2⟩ := e_step53 (v := znv w) hg hs hk q0 (w 5) 0 FU σ1 (by omega) (by have := hg.2.2.2.2.2.1; rw [FU_e]; omega) h
      exact ⟨σ', r1, r2.mono (by decide)⟩
  · rw [if_pos (show zfar w (zdr w) 0 s k 3 = 1000000000 by rw [zfar_no q]; rfl), if_neg (fun h => q h.1)]
    exact ⟨σ1, rfl, FR.rfl' _ _⟩
/-! breaks -/
theorem zbF_map {α β : Type} (q : α → β) {w : WV} {v : NV} {d : Nat} {F : Nat → Nat → Nat → α → α} {F' : Nat → Nat → Nat → β → β} (h : ∀ b x y a, q (F b x y a) = F' b x y (q a)) (b : Nat) (a : α) : q (zbF w v d F b a) = zbF w v d F' b (q a) := by
  unfold zbF
  refine itf_map q _ _ _ (fun x a _ _ => itf_map q _ _ _ (fun y a _ _ => ?_))
  split
  · exact h _ _ _ _
  · rfl
theorem zbA_map {α β : Type} (q : α → β) {w : WV} {v : NV} {d : Nat} {F : Nat → Nat → Nat → α → α} {F' : Nat → Nat → Nat → β → β} (h : ∀ b x y a, q (F b x y a) = F' b x y (q a)) (a : α) : q (zbA w v d F a) = zbA w v d F' (q a) :=
  itf_map q _ _ _ (fun b a _ _ => zbF_map q h b a)
theorem zkeep_n (w : WV) (v : NV) (d b : Nat) : (zbF w v d (zkeep w v) b zba0).1 = zcF w v d b := zbF_map (fun a : BA => a.1) (fun _ _ _ _ => rfl) b zba0
theorem zall_n (w : WV) (v : NV) (d : Nat) : (zall w v d).1 = zcA w v d := zbA_map (fun a : BA => a.1) (fun _ _ _ _ => rfl) zba0
theorem zcF_le (w : WV) (v : NV) (d b : Nat) : zcF w v d b ≤ zN w * zN w := by
  unfold zcF zbF
  have h := itf_inv (α := Nat) (fun x a => a ≤ x * zN w) (f := fun x a => itf (fun y a => if zbr w v d b x y = true then a + 1 else a) x (zN w - x) a) (zN w) 0 0 (by omega) (fun x a h1 h2 ha => by
    have h3 := itf_inv (α := Nat) (fun y b => b + x ≤ a + y) (f := fun y a => if zbr w v d b x y = true then a + 1 else a) (zN w - x) x a (Nat.le_refl _) (fun y c g1 g2 hc => by
      show (if zbr w v d b x y = true then c + 1 else c) + x ≤ a + (y + 1)
      by_cases q : zbr w v d b x y = true
      · rw [if_pos q]; omega
      · rw [if_neg q]; omega)
    rw [show x + (zN w - x) = zN w by omega] at h3
    rw [Nat.succ_mul]
    omega)
  rw [Nat.zero_add] at h
  exact h
theorem zcA_le (w : WV) (v : NV) (d : Nat) : zcA w v d ≤ zN w * (zN w * zN w) := by
  unfold zcA zbA
  have h := itf_inv (α := Nat) (fun b a => a ≤ b * (zN w * zN w)) (f := fun b a => zbF w v d (fun _ _ _ n => n + 1) b a) (zN w) 0 0 (by omega) (fun b a h1 h2 ha => by
    have e : zbF w v d (fun _ _ _ n => n + 1) b a = zcF w v d b + a := by
      have := zbF_map (w := w) (v := v) (d := d) (fun n : Nat => n + a) (F := fun _ _ _ n => n + 1) (F' := fun _ _ _ n => n + 1) (fun _ _ _ n => by omega) b 0
      show _ = zbF w v d (fun _ _ _ n => n + 1) b 0 + a
      rw [this, Nat.zero_add]
    have := zcF_le w v d b
    rw [e, Nat.succ_mul]
    omega)
  rw [Nat.zero_add] at h
  exact h
theorem zN3 {w : WV} (hg : GW w) : zN w * (zN w * zN w) ≤ 262144 := by
  have h := zN_le hg
  calc zN w * (zN w * zN w) ≤ 64 * (64 * 64) := Nat.mul_le_mul h (Nat.mul_le_mul h h)
    _ = 262144 := by decide
theorem zN2 {w : WV} (hg : GW w) : zN w * zN w ≤ 4096 := by
  have h := zN_le hg
  calc zN w * zN w ≤ 64 * 64 := Nat.mul_le_mul h h
    _ = 4096 := by decide
def zq_bad (w : WV) (b d : Int32) : Int32 := zif (decide (0 < w 7)) (zif (zisS w b.toInt) (zif (zin d.toInt 4) (nI (zcF w (znv w) d.toInt.toNat b.toInt.toNat))))
theorem p_bad {w : WV} {σ : MS} (hw : MW w σ) (hg : GW w) (b d : Int32) : ∃ σ', f7_bad b d σ = some (zq_bad w b d, σ') ∧ FR MSC σ σ' := by
  have hN := zN_le hg
  refine p_asks hw hg (fun σ1 _ h _ => p_state h hg (fun s hs e => p_deepq (fun k hk e2 => ?_)))
  subst e e2
  obtain ⟨σ', r1, r2, r3⟩ := e_breaksFrom hg (znv_ok hg) (show k ≤ 3 by omega) hs h
  refine ⟨σ', ?_, r2.mono (by decide)⟩
  rw [r1, bnd_s, tn (by omega), tn (by omega), zkeep_n]
/-- a question over all breaks -/
theorem p_asksIn {w : WV} {σ : MS} (hw : MW w σ) (hg : GW w) {y : Int32} {K : MS → oI Int32} {x : Int32} (hk : ∀ σ1 d, d < 4 → y = nI d → BW w (znv w) σ1 → BS (zall w (znv w) d) σ1 → ∃ σ', K σ1 = some (x, σ') ∧ FR MSC σ1 σ') :
    ∃ σ', (bnd (f7_asksIn y σ) fun r2 σ1 => if r2 = 0 then (some ((-2), σ1)) else K σ1) = some (zif (decide (0 < w 7) && zin y.toInt 4) x, σ') ∧ FR MSC σ σ' := by
  obtain ⟨σ1, a1, a2, a3, a4⟩ := e_asksIn hw hg y
  rw [a1, bnd_s, if10]
  by_cases h : (decide (0 < w 7) && zin y.toInt 4) = true
  · obtain ⟨b1, b2⟩ := a4 h
    have hz : zin y.toInt 4 = true := ((Bool.and_eq_true _ _).mp h).2
    obtain ⟨d, hd, e⟩ := zin_nI hz
    subst e
    rw [tn (by omega)] at b2
    obtain ⟨σ', r1, r2⟩ := hk σ1 d hd rfl ⟨hw.fr a2 (by decide), a3, b1⟩ b2
    exact ⟨σ', by rw [if_pos h, r1, h]; rfl, a2.trans r2⟩
  · exact ⟨σ1, by rw [if_neg h, Bool.eq_false_iff.mpr h]; rfl, a2⟩
def zq_all (w : WV) (d : Int32) : Int32 := zif (decide (0 < w 7) && zin d.toInt 4) (nI (zcA w (znv w) d.toInt.toNat))
theorem p_all {w : WV} {σ : MS} (hw : MW w σ) (hg : GW w) (d : Int32) : ∃ σ', f7_all d σ = some (zq_all w d, σ') ∧ FR MSC σ σ' := by
  refine p_asksIn hw hg (K := fun σ1 => some (gI σ1 25, σ1)) (fun σ1 d hd e h hs => ⟨σ1, ?_, FR.rfl' _ _⟩)
  subst e
  show some (gI σ1 25, σ1) = _
  rw [hs.1, tn (by omega), zall_n]
def zq_safe (w : WV) (d : Int32) : Int32 := zif (decide (0 < w 7) && zin d.toInt 4) (nI (zb1 (decide (zcA w (znv w) d.toInt.toNat = 0))))
theorem p_safe {w : WV} {σ : MS} (hw : MW w σ) (hg : GW w) (d : Int32) : ∃ σ', f7_safe d σ = some (zq_safe w d, σ') ∧ FR MSC σ σ' := by
  refine p_asksIn hw hg (K := fun σ1 => if (gI σ1 25) = 0 then (some (1, σ1)) else (some (0, σ1))) (fun σ1 d hd e h hs => ⟨σ1, ?_, FR.rfl' _ _⟩)
  subst e
  have h1 := zcA_le w (znv w) d
  have h2 := zN3 hg
  show (if gI σ1 25 = nI 0 then _ else _) = _
  rw [hs.1, tn (by omega), zall_n, nI_eqk (by omega) (by omega)]
  by_cases q : zcA w (znv w) d = 0
  · rw [if_pos q, decide_eq_true q]; rfl
  · rw [if_neg q, decide_eq_false q]; rfl
/-- pairs that break: a set of numbers -/
def zps (w : WV) (v : NV) (d : Nat) : Nat → Bool := zbA w v d (fun _ x y p k => decide (k = 64 * x + y) || p k) (fun _ => false)
def zpc (w : WV) (v : NV) (d : Nat) : Nat := itf (fun k a => a + zb1 (zps w v d k)) 0 4096 0
theorem zall_p (w : WV) (v : NV) (d : Nat) : (zall w v d).2.1 = zps w v d := zbA_map (fun a : BA => a.2.1) (fun _ _ _ _ => rfl) zba0
def zq_pairs (w : WV) (d : Int32) : Int32 := zif (decide (0 < w 7) && zin d.toInt 4) (nI (zpc w (znv w) d.toInt.toNat))
theorem p_pairs {w : WV} {σ : MS} (hw : MW w σ) (hg : GW w) (d : Int32) : ∃ σ', f7_pairs d σ = some (zq_pairs w d, σ') ∧ FR MSC σ σ' := by
  refine p_asksIn hw hg (K := fun σ1 => f7_pairs_l15 FU 0 0 σ1) (fun σ1 d hd e h hs => ⟨σ1, ?_, FR.rfl' _ _⟩)
  subst e
  rw [tn (by omega)]
  refine lpI (A := Int32 × Int32) (fun n p => f7_pairs_l15 n p.1 p.2 σ1) (fun i a => (nI a, nI i)) _ 4096 (fun a => some (nI a, σ1)) (fun _ _ => True) (fun n a _ => rfl) (fun n i a hi _ => ⟨?_, trivial⟩) 4096 0 0 FU (by omega) (by rw [FU_e]; omega) trivial
  show f7_pairs_b15 _ _ _ _ = _
  unfold f7_pairs_b15 f7_pairs_b37
  have hp := hs.2.1 i hi
  rw [zall_p] at hp
  rw [if_neg (show ¬ (4096 : Int32) ≤ nI i from nI_ge (b := 4096) (by omega) (by omega)), grd_t (inB_nI (by omega) (by omega)), nI_clamp (by omega), hp, if10, nI_1]
  show _ = f7_pairs_l15 n (nI (a + zb1 (zps w (znv w) d i))) (nI (i + 1)) σ1
  by_cases q : zps w (znv w) d i = true
  · rw [if_pos q, q]; show f7_pairs_l15 n (nI (a + 1)) (nI i + 1) _ = _; rw [nI_1]; rfl
  · rw [if_neg q, Bool.eq_false_iff.mpr q]; show f7_pairs_l15 n (nI a + nI 0) (nI i + 1) _ = _; rw [nI_add, nI_1]; rfl
