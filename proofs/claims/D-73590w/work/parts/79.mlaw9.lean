/-! THE MODEL by its numbers: bare, calm, bound, hot, hits, worst, least, culprit, known, spare, room, asked, table -/
def zbare (w : WV) (v : NV) (d : Nat) : Nat := itf (fun b a => a + zb1 (decide (0 < zcF w v d b))) 0 (zN w) 0
def zq_bare (w : WV) (d : Int32) : Int32 := zif (decide (0 < w 7)) (zif (zin d.toInt 4) (nI (zbare w (znv w) d.toInt.toNat)))
theorem BW.fr9 {w : WV} {v : NV} {σ σ' : MS} (h : BW w v σ) (hf : FR [21, 22, 23, 24, 25, 26, 27, 28, 29] σ σ') : BW w v σ' := h.fr hf (by decide)
theorem p_bare {w : WV} {σ : MS} (hw : MW w σ) (hg : GW w) (y : Int32) : ∃ σ', f7_bare y σ = some (zq_bare w y, σ') ∧ FR MSC σ σ' := by
  have hN := zN_le hg
  refine p_asks hw hg (fun σ1 _ h _ => p_deepq (fun d hd e => ?_))
  subst e
  obtain ⟨σ', r1, r2, _, _⟩ := lpE (A := Int32 × Int32) (fun n p => f7_bare_l21 n (nI d) p.1 p.2) (fun i a => (nI a, nI i)) (fun b a => a + zb1 (decide (0 < zcF w (znv w) d b))) (zN w) (fun a σ => some (nI a, σ)) (BW w (znv w)) [21, 22, 23, 24, 25, 26, 27, 28, 29] (fun _ _ => True) (fun n a σ _ hp => by
      show f7_bare_b21 _ _ _ _ _ = _
      unfold f7_bare_b21
      rw [e_stateMany hp.1 hg, bnd_s, if_pos (nI_le (by omega) (by omega))]) (fun n i a σ hi _ hp => by
      obtain ⟨σ2, c1, c2, c3⟩ := e_breaksFrom hg (znv_ok hg) (show d ≤ 3 by omega) hi hp
      have hb := zcF_le w (znv w) d i
      have hb2 := zN2 hg
      refine ⟨σ2, ?_, c2, hp.fr9 c2, trivial⟩
      have hsh : f7_bare_l21 (n + 1) (nI d) (nI a) (nI i) σ = f7_bare_b21 (f7_bare_l21 n) (nI d) (nI a) (nI i) σ := rfl
      try dsimp only
      rw [hsh]
      unfold f7_bare_b21 f7_bare_b44
      rw [e_stateMany hp.1 hg, bnd_s, if_neg (nI_ge (by omega) (by omega)), c1, bnd_s, zkeep_n, nI_1 i]
      by_cases q : 0 < zcF w (znv w) d i
      · rw [if_neg (nI_nle q (by omega)), decide_eq_true q]; show f7_bare_l21 n _ (nI a + nI 1) _ _ = _; rw [nI_add]; rfl
      · rw [if_pos (show nI (zcF w (znv w) d i) ≤ (0 : Int32) from nI_le (b := 0) (by omega) (by omega)), decide_eq_false q]; show f7_bare_l21 n _ (nI a + nI 0) _ _ = _; rw [nI_add]; rfl) (zN w) 0 0 FU σ1 (by omega) (by rw [FU_e]; omega) trivial h
  refine ⟨σ', ?_, r2.mono (by decide)⟩
  rw [tn (by omega)]
  exact r1
/-- the deepest depth without a break, looked for from above -/
def zdown (p : Nat → Bool) : Nat → Int32
  | 0 => if p 0 = true then 0 else -1
  | d + 1 => if p (d + 1) = true then nI (d + 1) else zdown p d
theorem nI_m1 (d : Nat) : nI (d + 1) + (-1) = nI d := pk_m1 d
def zq_calm (w : WV) (s : Int32) : Int32 := zif (decide (0 < w 7)) (zif (zisS w s.toInt) (if zval w (zdr w) s.toInt.toNat = true then zdown (fun d => decide (zcF w (znv w) d s.toInt.toNat = 0)) 3 else -1))
theorem e_calm32 {w : WV} (hg : GW w) {s : Nat} (hs : s < zN w) : ∀ (d n : Nat) (σ : MS), d ≤ 3 → d + 1 < n → BW w (znv w) σ → ∃ σ', f7_calm_l32 n (nI s) (nI d) σ = some (zdown (fun d => decide (zcF w (znv w) d s = 0)) d, σ') ∧ FR [21, 22, 23, 24, 25, 26, 27, 28, 29] σ σ' := by
  have hb2 := zN2 hg
  intro d
  induction d with
  | zero =>
    intro n σ hd hn hp
    obtain ⟨m, rfl⟩ : ∃ m, n = m + 2 := ⟨n - 2, by omega⟩
    obtain ⟨σ2, c1, c2, c3⟩ := e_breaksFrom hg (znv_ok hg) (show 0 ≤ 3 by omega) hs hp
    have hb := zcF_le w (znv w) 0 s
    refine ⟨σ2, ?_, c2⟩
    have hsh : f7_calm_l32 (m + 2) (nI s) (nI 0) σ = f7_calm_b32 (f7_calm_l32 (m + 1)) (nI s) (nI 0) σ := rfl
    rw [hsh]
    unfold f7_calm_b32
    rw [if_neg (nI_pos (by omega)), c1, bnd_s, zkeep_n]
    show _ = some ((if decide (zcF w (znv w) 0 s = 0) = true then 0 else -1), σ2)
    by_cases q : zcF w (znv w) 0 s = 0
    · rw [q, if_pos (show nI 0 ≤ (0 : Int32) from nI_le (b := 0) (Nat.le_refl _) (by omega)), decide_eq_true rfl]; rfl
    · rw [if_neg (nI_nle (by omega) (by omega)), decide_eq_false q]
      show f7_calm_b32 (f7_calm_l32 m) (nI s) (nI 0 + -1) σ2 = _
      unfold f7_calm_b32
      rw [if_pos (show nI 0 + -1 < 0 from by decide)]
      rfl
  | succ d ih =>
    intro n σ hd hn hp
    obtain ⟨m, rfl⟩ : ∃ m, n = m + 1 := ⟨n - 1, by omega⟩
    obtain ⟨σ2, c1, c2, c3⟩ := e_breaksFrom hg (znv_ok hg) hd hs hp
    have hb := zcF_le w (znv w) (d + 1) s
    have hsh : f7_calm_l32 (m + 1) (nI s) (nI (d + 1)) σ = f7_calm_b32 (f7_calm_l32 m) (nI s) (nI (d + 1)) σ := rfl
    rw [hsh]
    unfold f7_calm_b32
    rw [if_neg (nI_pos (by omega)), c1, bnd_s, zkeep_n, nI_m1]
    show ∃ σ', _ = some ((if decide (zcF w (znv w) (d + 1) s = 0) = true then nI (d + 1) else zdown (fun d => decide (zcF w (znv w) d s = 0)) d), σ') ∧ _
    by_cases q : zcF w (znv w) (d + 1) s = 0
    · rw [q, if_pos (show nI 0 ≤ (0 : Int32) from nI_le (b := 0) (Nat.le_refl _) (by omega)), decide_eq_true rfl, if_pos rfl]
      exact ⟨σ2, rfl, c2⟩
    · obtain ⟨σ', r1, r2⟩ := ih m σ2 (by omega) (by omega) (hp.fr9 c2)
      rw [if_neg (nI_nle (by omega) (by omega)), decide_eq_false q, if_neg (by decide)]
      exact ⟨σ', r1, c2.trans r2⟩
theorem p_calm {w : WV} {σ : MS} (hw : MW w σ) (hg : GW w) (y : Int32) : ∃ σ', f7_calm y σ = some (zq_calm w y, σ') ∧ FR MSC σ σ' := by
  have hN := zN_le hg
  refine p_asks hw hg (fun σ1 _ h _ => p_state h hg (fun s hs e => ?_))
  subst e
  rw [grd_t (inB_nI (by omega) (by omega)), nI_clamp (by omega), h.2.2.1 s hs, if10, tn (by omega)]
  show ∃ σ', (if zval w (zdr w) s = true then _ else _) = _ ∧ _
  by_cases q : zval w (zdr w) s = true
  · obtain ⟨σ', r1, r2⟩ := e_calm32 hg hs 3 FU σ1 (by omega) (by rw [FU_e]; omega) h
    rw [if_pos q, if_pos q]
    exact ⟨σ', r1, r2.mono (by decide)⟩
  · rw [if_neg q, if_neg q]
    exact ⟨σ1, rfl, FR.rfl' _ _⟩
def zq_bound (w : WV) : Int32 := zif (decide (0 < w 7)) (zdown (fun d => decide (zcA w (znv w) d = 0)) 3)
theorem e_bound12 {w : WV} (hg : GW w) : ∀ (d n : Nat) (σ : MS), d ≤ 3 → d + 1 < n → BW w (znv w) σ → ∃ σ', f7_bound_l12 n (nI d) σ = some (zdown (fun d => decide (zcA w (znv w) d = 0)) d, σ') ∧ FR [21, 22, 23, 24, 25, 26, 27, 28, 29] σ σ' := by
  have hb2 := zN3 hg
  intro d
  induction d with
  | zero =>
    intro n σ hd hn hp
    obtain ⟨m, rfl⟩ : ∃ m, n = m + 2 := ⟨n - 2, by omega⟩
    obtain ⟨σ2, c1, c2, c3⟩ := e_breaksIn hg (znv_ok hg) (show 0 ≤ 3 by omega) hp
    have hb := zcA_le w (znv w) 0
    refine ⟨σ2, ?_, c2⟩
    have hsh : f7_bound_l12 (m + 2) (nI 0) σ = f7_bound_b12 (f7_bound_l12 (m + 1)) (nI 0) σ := rfl
    rw [hsh]
    unfold f7_bound_b12
    rw [if_neg (nI_pos (by omega)), c1, bnd_s, zall_n]
    show _ = some ((if decide (zcA w (znv w) 0 = 0) = true then 0 else -1), σ2)
    by_cases q : zcA w (znv w) 0 = 0
    · rw [q, if_pos (show nI 0 ≤ (0 : Int32) from nI_le (b := 0) (Nat.le_refl _) (by omega)), decide_eq_true rfl]; rfl
    · rw [if_neg (nI_nle (by omega) (by omega)), decide_eq_false q]
      show f7_bound_b12 (f7_bound_l12 m) (nI 0 + -1) σ2 = _
      unfold f7_bound_b12
      rw [if_pos (show nI 0 + -1 < 0 from by decide)]
      rfl
  | succ d ih =>
    intro n σ hd hn hp
    obtain ⟨m, rfl⟩ : ∃ m, n = m + 1 := ⟨n - 1, by omega⟩
    obtain ⟨σ2, c1, c2, c3⟩ := e_breaksIn hg (znv_ok hg) hd hp
    have hb := zcA_le w (znv w) (d + 1)
    have hsh : f7_bound_l12 (m + 1) (nI (d + 1)) σ = f7_bound_b12 (f7_bound_l12 m) (nI (d + 1)) σ := rfl
    rw [hsh]
    unfold f7_bound_b12
    rw [if_neg (nI_pos (by omega)), c1, bnd_s, zall_n, nI_m1]
    show ∃ σ', _ = some ((if decide (zcA w (znv w) (d + 1) = 0) = true then nI (d + 1) else zdown (fun d => decide (zcA w (znv w) d = 0)) d), σ') ∧ _
    by_cases q : zcA w (znv w) (d + 1) = 0
    · rw [q, if_pos (show nI 0 ≤ (0 : Int32) from nI_le (b := 0) (Nat.le_refl _) (by omega)), decide_eq_true rfl, if_pos rfl]
      exact ⟨σ2, rfl, c2⟩
    · obtain ⟨σ', r1, r2⟩ := ih m σ2 (by omega) (by omega) (hp.fr9 c2)
      rw [if_neg (nI_nle (by omega) (by omega)), decide_eq_false q, if_neg (by decide)]
      exact ⟨σ', r1, c2.trans r2⟩
theorem p_bound {w : WV} {σ : MS} (hw : MW w σ) (hg : GW w) : ∃ σ', f7_bound σ = some (zq_bound w, σ') ∧ FR MSC σ σ' :=
  p_asks hw hg (K := fun σ1 => f7_bound_l12 FU 3 σ1) (fun σ1 _ h _ => by
    obtain ⟨σ', r1, r2⟩ := e_bound12 hg 3 FU σ1 (by omega) (by rw [FU_e]; omega) h
    exact ⟨σ', r1, r2.mono (by decide)⟩)
/-- the base with the most breaks -/
def zho2 (o : Option (Nat × Nat)) : Nat := match o with
  | none => 0
  | some p => p.2
def zhotS (w : WV) (v : NV) (d b : Nat) (o : Option (Nat × Nat)) : Option (Nat × Nat) := if zho2 o < zcF w v d b then some (b, zcF w v d b) else o
def zhot (w : WV) (v : NV) (d : Nat) : Option Nat := (itf (fun b o => zhotS w v d b o) 0 (zN w) none).map (fun p => p.1)
def zhoE (o : Option (Nat × Nat)) : Int32 × Int32 := match o with
  | none => (-1, 0)
  | some p => (nI p.1, nI p.2)
def zq_hot (w : WV) (d : Int32) : Int32 := zif (decide (0 < w 7)) (zif (zin d.toInt 4) (oN (zhot w (znv w) d.toInt.toNat)))
theorem p_hot {w : WV} {σ : MS} (hw : MW w σ) (hg : GW w) (y : Int32) : ∃ σ', f7_hot y σ = some (zq_hot w y, σ') ∧ FR MSC σ σ' := by
  have hN := zN_le hg
  have hb2 := zN2 hg
  refine p_asks hw hg (fun σ1 _ h _ => p_deepq (fun d hd e => ?_))
  subst e
  obtain ⟨σ', r1, r2, _, _⟩ := lpE (A := Int32 × Int32 × Int32) (fun n p => f7_hot_l24 n (nI d) p.1 p.2.1 p.2.2) (fun i o => ((zhoE o).1, (zhoE o).2, nI i)) (fun b o => zhotS w (znv w) d b o) (zN w) (fun o σ => some ((zhoE o).1, σ)) (BW w (znv w)) [21, 22, 23, 24, 25, 26, 27, 28, 29] (fun _ o => ∀ p, o = some p → p.2 ≤ 4096) (fun n o σ _ hp => by
      have hsh : f7_hot_l24 (n + 1) (nI d) (zhoE o).1 (zhoE o).2 (nI (zN w)) σ = f7_hot_b24 (f7_hot_l24 n) (nI d) (zhoE o).1 (zhoE o).2 (nI (zN w)) σ := rfl
      try dsimp only
      rw [hsh]
      unfold f7_hot_b24
      rw [e_stateMany hp.1 hg, bnd_s, if_pos (nI_le (by omega) (by omega))]) (fun n i o σ hi ho hp => by
      obtain ⟨σ2, c1, c2, c3⟩ := e_breaksFrom hg (znv_ok hg) (show d ≤ 3 by omega) hi hp
      have hb := zcF_le w (znv w) d i
      have hsh : f7_hot_l24 (n + 1) (nI d) (zhoE o).1 (zhoE o).2 (nI i) σ = f7_hot_b24 (f7_hot_l24 n) (nI d) (zhoE o).1 (zhoE o).2 (nI i) σ := rfl
      have c31 := c3.1
      rw [zkeep_n] at c31 c1
      have hval : (zhoE o).2 = nI (zho2 o) := by
        cases o with
        | none => exact (rfl : (0 : Int32) = nI 0)
        | some p => exact (rfl : nI p.2 = nI p.2)
      have hle : zho2 o ≤ 4096 := by
        cases o with
        | none => exact Nat.zero_le _
        | some p => exact ho p rfl
      refine ⟨σ2, ?_, c2, hp.fr9 c2, ?_⟩
      · try dsimp only
        rw [hsh]
        unfold f7_hot_b24 f7_hot_b55
        rw [e_stateMany hp.1 hg, bnd_s, if_neg (nI_ge (by omega) (by omega)), c1, bnd_s, c31, nI_1 i, hval]
        unfold zhotS
        by_cases q : zho2 o < zcF w (znv w) d i
        · rw [if_pos (nI_lt q (by omega)), if_pos q]; rfl
        · rw [if_neg (nI_nlt (by omega) (by omega)), if_neg q, ← hval]
      · intro p hp2
        unfold zhotS at hp2
        split at hp2
        · injection hp2 with hp2; subst hp2; dsimp only; omega
        · exact ho p hp2) (zN w) 0 none FU σ1 (by omega) (by rw [FU_e]; omega) (fun p hp => by cases hp) h
  refine ⟨σ', ?_, r2.mono (by decide)⟩
  rw [tn (by omega)]
  refine r1.trans ?_
  unfold zhot
  cases itf (fun b o => zhotS w (znv w) d b o) 0 (zN w) none <;> rfl
/-! hits -/
def zht (w : WV) (v : NV) (d : Nat) : Nat → Nat := zbA w v d (fun b x y f => zhits w v b x y f) (fun _ => 0)
theorem zall_h (w : WV) (v : NV) (d : Nat) : (zall w v d).2.2.1 = zht w v d := zbA_map (fun a : BA => a.2.2.1) (fun _ _ _ _ => rfl) zba0
def zq_hits (w : WV) (r d : Int32) : Int32 := zif (decide (0 < w 7) && zin d.toInt 4) (zif (zin r.toInt (w 4)) (nI (zht w (znv w) d.toInt.toNat r.toInt.toNat)))
theorem p_hits {w : WV} {σ : MS} (hw : MW w σ) (hg : GW w) (r d : Int32) : ∃ σ', f7_hits r d σ = some (zq_hits w r d, σ') ∧ FR MSC σ σ' := by
  have h4 := hg.2.2.2.2.1
  refine p_asksIn hw hg (fun σ1 d hd e h hs => p_ruleq h.1 hg (fun r hr e2 => ⟨σ1, ?_, FR.rfl' _ _⟩))
  subst e e2
  have hh := hs.2.2.1 r (by omega)
  rw [zall_h] at hh
  rw [grd_t (inB_nI (by omega) (by omega)), nI_clamp (by omega), hh, tn (by omega), tn (by omega)]
def zlst (w : WV) (v : NV) (d : Nat) : Nat × Nat × Nat × Nat := zbA w v d (fun b x y l => zleast w v b x y l) (zFAR, 0, 0, 0)
theorem zall_l (w : WV) (v : NV) (d : Nat) : (zall w v d).2.2.2 = zlst w v d := zbA_map (fun a : BA => a.2.2.2) (fun _ _ _ _ => rfl) zba0
def zq_known (w : WV) (r : Int32) : Int32 := zif (zin r.toInt (w 4)) (nI (zb1 (decide (zrl w r.toInt.toNat 0 < 2) && !decide (w (8 + zrl w r.toInt.toNat 1) = 2))))
theorem p_known {w : WV} {σ : MS} (hw : MW w σ) (hg : GW w) (y : Int32) : ∃ σ', f7_known y σ = some (zq_known w y, σ') ∧ FR MSC σ σ' := by
  have h4 := hg.2.2.2.2.1
  have h3 := hg.2.2.2.1
  refine p_ruleq hw hg (fun r hr e => ⟨σ, ?_, FR.rfl' _ _⟩)
  subst e
  obtain ⟨g0, g1, _⟩ := hg.2.2.2.2.2.2.2.2.2.1 r hr
  have hk := hg.2.2.2.2.2.2.2.2.1 (zrl w r 1) (by omega)
  rw [e_rl0 hw (by omega), bnd_s, show (1 : Int64) = (nI 2 - 1).toInt64 from by decide +kernel, e_inI _ (by omega), bn1_s, if10, nI_toInt (by omega), zin_nat, tn (by omega)]
  unfold f7_known_b48 f7_known_b49
  by_cases q : zrl w r 0 < 2
  · rw [decide_eq_true q, if_pos rfl, e_rl1 hw (by omega), bnd_s, show (8 : Int32) = nI 8 from rfl, nI_add, grd_t (inB_nI (by omega) (by omega)), nI_clamp (by omega), hw _ (by omega), Bool.true_and]
    show (if nI (w (8 + zrl w r 1)) = nI 2 then _ else _) = _
    rw [nI_eqk (by omega) (by omega)]
    by_cases q2 : w (8 + zrl w r 1) = 2
    · rw [if_pos q2, decide_eq_true q2]; rfl
    · rw [if_neg q2, decide_eq_false q2]; rfl
  · rw [decide_eq_false q]; rfl
