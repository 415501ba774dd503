/-! THE COMPONENT: what stands where; what its plain questions answer -/
def X0f (k : Nat → Nat) (cl : Nat) (tp fk fp dr lk lt : Int32) : List Value := [.ref (k 17), .ref (k 27), .ref (k 26), .ref (k 15), .ref cl, .ref (k 16), .int tp, .int fk, .int fp, .ref (k 13), .ref (k 14), .ref (k 11), .int dr, .int lk, .ref (k 1), .ref (k 2), .int lt, .ref (k 9), .ref (k 12), .ref (k 10)]
def X2f (k : Nat → Nat) (rl ol : Nat) (top law odds cells dr lk lines : Int32) : List Value := [.ref rl, .ref ol, .ref (k 29), .ref (k 28), .int top, .int law, .int odds, .int cells, .int dr, .int lk, .int lines]
/-- the made object of a rule, of an operation, of a way to merge -/
def FRule (F : CE) (x : Nat) (w : WV) (r l : Nat) : Prop := F l = some (
  if zrl w r 0 = 0 then .inr (31, [.ref x, .int (nI (zrl w r 1)), .int (nI (zrl w r 2))])
  else if zrl w r 0 = 1 then .inr (32, [.ref x, .int (nI (zrl w r 1)), .int (nI (zrl w r 2))])
  else if zrl w r 0 = 2 then .inr (33, [.ref x, .int (nI (zrl w r 1)), .int (nI (zrl w r 2))])
  else if zrl w r 0 = 3 then .inr (34, [.ref x, .int (nI (zrl w r 1)), .int (nI (zrl w r 2)), .int (nI (zrl w r 3))])
  else if zrl w r 0 = 4 then .inr (35, [.ref x, .int (nI (zrl w r 1)), .int (nI (zrl w r 2))])
  else .inr (36, [.ref x, .int (nI (zrl w r 1)), .int (nI (zrl w r 2)), .int (nI (zrl w r 3)), .int (nI (zrl w r 4))]))
def FStep (F : CE) (x : Nat) (w : WV) (o l : Nat) : Prop := F l = some (
  if zpo w o 0 = 0 then .inr (37, [.ref x, .int (nI (zpo w o 1)), .int (nI (zpo w o 2))])
  else if zpo w o 0 = 1 then .inr (38, [.ref x, .int (nI (zpo w o 1)), .int (nI (zpo w o 2))])
  else if zpo w o 0 = 2 then .inr (39, [.ref x, .int (nI (zpo w o 1)), .int (nI (zpo w o 2))])
  else .inr (40, [.ref x, .int (nI (zpo w o 1)), .int (nI (zpo w o 3)), .int (nI (zpo w o 2))]))
def FMerge (F : CE) (x : Nat) (m l : Nat) : Prop := F l = some (
  if m = 0 then .inr (27, []) else if m = 1 then .inr (28, []) else if m = 2 then .inr (29, [.ref x]) else .inr (30, [.ref x]))
/-- a list: its things -/
def FL (j : JX) (F : CE) (l n : Nat) (f : Nat → Option Nat) : Prop := ∃ (m : Int32) (a cap : Nat), F l = some (.inr (15, [.int m, .ref a, .int (nI n)])) ∧ F a = some (.inl (j.1 10, cap, .inr (.inr (.inr (.inr f))))) ∧ n ≤ cap ∧ cap < 2 ^ 31
/-- what is told: a kind and numbers -/
def FTold (j : JX) (F : CE) (t kd n : Nat) (g : Nat → Nat) : Prop := ∃ a, F t = some (.inr (10, [.int (nI kd), .ref a])) ∧ ∃ f : Nat → Int32, F a = some (.inl (j.1 0, n, .inl f)) ∧ ∀ i, i < n → f i = nI (g i)
def zrn (kd : Nat) : Nat := if kd = 3 then 3 else if kd = 5 then 4 else 2
def zon (kd : Nat) : Nat := if kd = 3 then 3 else 2
def CO (j : JX) (k : Nat → Nat) (F c : CE) (w : WV) (v : NV) : Prop :=
  (∃ cl tp fk fp lt, c 0 = some (.inr (0, X0f k cl tp fk fp (nI v.2.2.1) (nI v.2.2.2) lt)) ∧ F cl = some (.inr (23 + v.2.1, []))) ∧
  (∃ rl ol bdr blk, c 27 = some (.inr (2, X2f k rl ol (nI (w 0)) (nI (w 1)) (nI (w 2)) (nI (w 3)) bdr blk (nI (w 7)))) ∧ (∃ f, FL j F rl (w 4) f ∧ ∀ r, r < w 4 → ∃ t, f r = some t ∧ FTold j F t (zrl w r 0) (zrn (zrl w r 0)) (fun i => zrl w r (i + 1))) ∧ (∃ f, FL j F ol (w 5) f ∧ ∀ o, o < w 5 → ∃ t, f o = some t ∧ FTold j F t (zpo w o 0) (zon (zpo w o 0)) (fun i => zpo w o (i + 1)))) ∧
  (∃ mf : Nat → Int32, c 28 = some (.inl (j.1 0, 3, .inl mf)) ∧ ∀ i, i < 3 → mf i = nI (v.1 i)) ∧
  (∃ f : Nat → Option Nat, F (k 15) = some (.inl (j.1 7, 4, .inr (.inr (.inr (.inr f))))) ∧ ∀ m, m < 4 → ∃ a l, f m = some a ∧ F a = some (.inr (6, [.ref l])) ∧ FMerge F (k 0) m l) ∧
  (∃ f : Nat → Option Nat, c 13 = some (.inl (j.1 8, 5, .inr (.inr (.inr (.inr f))))) ∧ ∀ r, r < w 4 → ∃ a l, f r = some a ∧ F a = some (.inr (11, [.ref l])) ∧ FRule F (k 0) w r l) ∧
  (∃ f : Nat → Option Nat, c 14 = some (.inl (j.1 9, 5, .inr (.inr (.inr (.inr f))))) ∧ ∀ o, o < w 5 → ∃ a l, f o = some a ∧ F a = some (.inr (12, [.ref l])) ∧ FStep F (k 0) w o l)
/-- which states are valid -/
def CV (j : JX) (c : CE) (w : WV) (dr : Nat) : Prop := ∃ vf : Nat → Int32, c 11 = some (.inl (j.1 1, 64, .inl vf)) ∧ ∀ s, s < zN w → vf s = nI (zb1 (zval w dr s))
section CPURE
variable {j : JX} {Λ : JLam} {k : Nat → Nat} {F c : CE} {G : HG} {w : WV} {v : NV}
theorem a_now (h : Rp k F c G) (C : CO j k F c w v) {K : Nat → Prop} (kk : K (k 27)) : gtQ G (k 0) 0 1 fun q1 => nnq q1 K := by
  obtain ⟨⟨cl, tp, fk, fp, lt, h0, _⟩, _⟩ := C
  exact gR_c h h0 rfl (nnq_i kk)
theorem a_top (h : Rp k F c G) (C : CO j k F c w v) {K : Int32 → Prop} (kk : K (nI (w 0))) : gtQ G (k 0) 0 1 fun q1 => nnq q1 fun a2 => gtI G a2 2 4 K := by
  obtain ⟨rl, ol, bdr, blk, h1, _⟩ := C.2.1
  exact a_now h C (gI_c h h1 rfl kk)
theorem a_law (h : Rp k F c G) (C : CO j k F c w v) {K : Int32 → Prop} (kk : K (nI (w 1))) : gtQ G (k 0) 0 1 fun q1 => nnq q1 fun a2 => gtI G a2 2 5 K := by
  obtain ⟨rl, ol, bdr, blk, h1, _⟩ := C.2.1
  exact a_now h C (gI_c h h1 rfl kk)
theorem a_odds (h : Rp k F c G) (C : CO j k F c w v) {K : Int32 → Prop} (kk : K (nI (w 2))) : gtQ G (k 0) 0 1 fun q1 => nnq q1 fun a2 => gtI G a2 2 6 K := by
  obtain ⟨rl, ol, bdr, blk, h1, _⟩ := C.2.1
  exact a_now h C (gI_c h h1 rfl kk)
theorem a_cells (h : Rp k F c G) (C : CO j k F c w v) {K : Int32 → Prop} (kk : K (nI (w 3))) : gtQ G (k 0) 0 1 fun q1 => nnq q1 fun a2 => gtI G a2 2 7 K := by
  obtain ⟨rl, ol, bdr, blk, h1, _⟩ := C.2.1
  exact a_now h C (gI_c h h1 rfl kk)
theorem a_rules (h : Rp k F c G) (C : CO j k F c w v) {K : Int32 → HG → Prop} (kk : K (nI (w 4)) G) : gtQ G (k 0) 0 1 fun q1 => nnq q1 fun a2 => gtQ G a2 2 0 fun q3 => nnq q3 fun a4 => isO G a4 15 (hJ2_size j Λ a4 G K) := by
  obtain ⟨rl, ol, bdr, blk, h1, ⟨f, ⟨m, a, cap, f1, f2, f3⟩, _⟩, _⟩ := C.2.1
  exact a_now h C (gR_c h h1 rfl (nnq_i (isO_f h f1 (gI_f h f1 rfl kk))))
theorem a_ops (h : Rp k F c G) (C : CO j k F c w v) {K : Int32 → HG → Prop} (kk : K (nI (w 5)) G) : gtQ G (k 0) 0 1 fun q1 => nnq q1 fun a2 => gtQ G a2 2 1 fun q3 => nnq q3 fun a4 => isO G a4 15 (hJ2_size j Λ a4 G K) := by
  obtain ⟨rl, ol, bdr, blk, h1, _, ⟨f, ⟨m, a, cap, f1, f2, f3⟩, _⟩⟩ := C.2.1
  exact a_now h C (gR_c h h1 rfl (nnq_i (isO_f h f1 (gI_f h f1 rfl kk))))
theorem a_0 (h : Rp k F c G) (C : CO j k F c w v) {K : Prop} (kk : K) : isO G (k 0) 0 K := by
  obtain ⟨⟨cl, tp, fk, fp, lt, h0, _⟩, _⟩ := C
  exact isO_c h h0 kk
theorem a_dr (h : Rp k F c G) (C : CO j k F c w v) {K : Int32 → Prop} (kk : K (nI v.2.2.1)) : gtI G (k 0) 0 12 K := by
  obtain ⟨⟨cl, tp, fk, fp, lt, h0, _⟩, _⟩ := C
  exact gI_c h h0 rfl kk
theorem a_lk (h : Rp k F c G) (C : CO j k F c w v) {K : Int32 → Prop} (kk : K (nI v.2.2.2)) : gtI G (k 0) 0 13 K := by
  obtain ⟨⟨cl, tp, fk, fp, lt, h0, _⟩, _⟩ := C
  exact gI_c h h0 rfl kk
theorem c_in {x lo hi : Int64} {post : Int32 → HG → Prop} (kk : post (if lo ≤ x ∧ x ≤ hi then 1 else 0) G) : hX0_in j Λ x lo hi G post := by
  unfold hX0_in
  rw [lg_cmp_lt, lg_cmp_gt]
  refine ⟨fun h => ?_, fun h => ⟨fun h2 => ?_, fun h2 => ?_⟩⟩
  · rw [if_neg (fun q => by have q1 := q.1; rw [Int64.le_iff_toInt_le] at q1; rw [Int64.lt_iff_toInt_lt] at h; omega)] at kk; exact kk
  · rw [if_neg (fun q => by have q1 := q.2; rw [Int64.le_iff_toInt_le] at q1; rw [Int64.lt_iff_toInt_lt] at h2; omega)] at kk; exact kk
  · rw [if_pos (by rw [Int64.le_iff_toInt_le, Int64.le_iff_toInt_le]; rw [Int64.lt_iff_toInt_lt] at h h2; omega)] at kk; exact kk
/-- 0 up to below n -/
theorem c_inL {x : Int64} {n : Nat} (hn : n < 2 ^ 31) {post : Int32 → HG → Prop} (kk : post (nI (zb1 (zin x.toInt n))) G) : hX0_in j Λ x 0 ((nI n - 1).toInt64) G post := by
  refine c_in ?_
  have : (0 ≤ x ∧ x ≤ (nI n - 1).toInt64) ↔ zin x.toInt n = true := by
    rw [zin_t, Int64.le_iff_toInt_le, Int64.le_iff_toInt_le, Int32.toInt_toInt64, nI_pred_toInt hn]
    show (0 : Int) ≤ _ ∧ _ ↔ _
    omega
  rw [show (if 0 ≤ x ∧ x ≤ (nI n - 1).toInt64 then (1 : Int32) else 0) = nI (zb1 (zin x.toInt n)) from by
    by_cases h : zin x.toInt n = true
    · rw [if_pos (this.mpr h), h]; rfl
    · rw [if_neg (fun q => h (this.mp q)), Bool.eq_false_iff.mpr h]; rfl]
  exact kk
theorem c_inI {x : Int32} {n : Nat} (hn : n < 2 ^ 31) {post : Int32 → HG → Prop} (kk : post (nI (zb1 (zin x.toInt n))) G) : hX0_in j Λ x.toInt64 0 ((nI n - 1).toInt64) G post :=
  c_inL hn (by rw [Int32.toInt_toInt64]; exact kk)
theorem c_inT {x : Int32} {t : Nat} (ht : t < 2 ^ 31) {post : Int32 → HG → Prop} (kk : post (if 0 ≤ x.toInt ∧ x.toInt ≤ (t : Int) then 1 else 0) G) : hX0_in j Λ x.toInt64 0 (nI t).toInt64 G post := by
  refine c_in ?_
  simp only [Int64.le_iff_toInt_le, Int32.toInt_toInt64, nI_toInt ht]
  exact kk
theorem zB_b (b : Bool) : zB (nI (zb1 b)) := by
  cases b
  · exact Or.inl rfl
  · exact Or.inr rfl
theorem zb_0 {b : Bool} {P Q : Prop} (p : b = false → P) (q : b = true → Q) : (nI (zb1 b) = 0 → P) ∧ (¬ nI (zb1 b) = 0 → Q) := by
  cases b
  · exact ⟨fun _ => p rfl, fun h => absurd rfl h⟩
  · exact ⟨fun h => absurd h one_ne, fun _ => q rfl⟩
theorem le_c {a b : Nat} (ha : a < 2 ^ 31) (hb : b < 2 ^ 31) {P Q : Prop} (p : a ≤ b → P) (q : b < a → Q) : (nI a ≤ nI b → P) ∧ (¬ nI a ≤ nI b → Q) :=
  ⟨fun h => p ((nI_leI ha hb).mp h), fun h => q (Nat.not_le.mp (fun r => h ((nI_leI ha hb).mpr r)))⟩
theorem lt_c {a b : Nat} (ha : a < 2 ^ 31) (hb : b < 2 ^ 31) {P Q : Prop} (p : a < b → P) (q : b ≤ a → Q) : (nI a < nI b → P) ∧ (¬ nI a < nI b → Q) :=
  ⟨fun h => p ((nI_ltI ha hb).mp h), fun h => q (Nat.not_lt.mp (fun r => h ((nI_ltI ha hb).mpr r)))⟩
theorem eq_c {a b : Nat} (ha : a < 2 ^ 31) (hb : b < 2 ^ 31) {P Q : Prop} (p : a = b → P) (q : ¬ a = b → Q) : (nI a = nI b → P) ∧ (¬ nI a = nI b → Q) :=
  ⟨fun h => p ((nI_eq ha hb).mp h), fun h => q (fun r => h (by rw [r]))⟩
theorem c_states0 (h : Rp k F c G) (C : CO j k F c w v) (hg : GW w) {post : Int32 → HG → Prop} (kk : post (nI (zN w)) G) : hX0_states0 j Λ (k 0) G post := by
  have h3 := hg.2.2.2.1
  refine ⟨w 3 + 1, lpH (A := Int32 × Int32 × HG) (fun n p => hX0_states0_l4 j Λ (k 0) post n p.1 p.2.1 p.2.2) (fun K p => hX0_states0_b4 j Λ (k 0) post (fun x y G => K (x, y, G)) p.1 p.2.1 p.2.2) (fun _ _ => rfl) (fun r p => ∃ i, p = (nI (zT w ^ i), nI i, G) ∧ i + r = w 3) ?_ ?_ (w 3) (1, 0, G) ⟨0, rfl, by omega⟩⟩
  · rintro K p ⟨i, rfl, hi⟩
    obtain rfl : i = w 3 := by omega
    exact a_cells h C (le_c (by omega) (by omega) (fun _ => kk) (fun q => by omega))
  · rintro r K p ⟨i, rfl, hi⟩ hk
    refine a_cells h C (le_c (by omega) (by omega) (fun q => by omega) (fun _ => a_top h C (hk _ ⟨i + 1, ?_, by omega⟩)))
    show (nI (zT w ^ i) * (nI (w 0) + 1), nI i + 1, G) = _
    rw [nI_1, nI_1, pk_mul, Nat.pow_succ]
    rfl
theorem c_unit (h : Rp k F c G) (C : CO j k F c w v) (hg : GW w) {n : Nat} (hn : n ≤ 3) {post : Int32 → HG → Prop} (kk : post (nI (zT w ^ n)) G) : hX0_unit j Λ (k 0) (nI n) G post := by
  refine ⟨n + 1, lpH (A := Int32 × Int32 × HG) (fun m p => hX0_unit_l4 j Λ (k 0) (nI n) post m p.1 p.2.1 p.2.2) (fun K p => hX0_unit_b4 j Λ (k 0) (nI n) post (fun x y G => K (x, y, G)) p.1 p.2.1 p.2.2) (fun _ _ => rfl) (fun r p => ∃ i, p = (nI (zT w ^ i), nI i, G) ∧ i + r = n) ?_ ?_ n (1, 0, G) ⟨0, rfl, by omega⟩⟩
  · rintro K p ⟨i, rfl, hi⟩
    obtain rfl : i = n := by omega
    exact le_c (by omega) (by omega) (fun _ => kk) (fun q => by omega)
  · rintro r K p ⟨i, rfl, hi⟩ hk
    refine le_c (by omega) (by omega) (fun q => by omega) (fun _ => a_top h C (hk _ ⟨i + 1, ?_, by omega⟩))
    show (nI (zT w ^ i) * (nI (w 0) + 1), nI i + 1, G) = _
    rw [nI_1, nI_1, pk_mul, Nat.pow_succ]
    rfl
theorem c_valueOf (h : Rp k F c G) (C : CO j k F c w v) (hg : GW w) {s n : Nat} (hs : s < 2 ^ 31) (hn : n ≤ 3) {post : Int32 → HG → Prop} (kk : post (nI (zvl w s n)) G) : hX0_valueOf j Λ (k 0) (nI s) (nI n) G post := by
  have h0 := hg.1
  have hp := zP_le (w := w) h0 hn
  have hp0 := zP_pos w n
  have hd : s / zT w ^ n < 2 ^ 31 := Nat.lt_of_le_of_lt (Nat.div_le_self _ _) hs
  refine a_0 h C (c_unit h C hg hn ⟨nI_ne0 hp0 (by omega), a_top h C ⟨?_, ?_⟩⟩)
  · rw [nI_1]; exact nI_ne0 (by omega) (by omega)
  · rw [pk_div hs hp0 (by omega), nI_1, pk_rem hd (by omega) (by omega)]
    exact kk
theorem nI_with (s P v d : Nat) (h : P * d ≤ s) : nI s + (nI v - nI d) * nI P = nI (s + P * v - P * d) := by
  rw [Int32.mul_comm, nI_wv s P v d h]
/-- another value of a cell -/
theorem c_with (h : Rp k F c G) (C : CO j k F c w v) (hg : GW w) {s n : Nat} (hs : s < zN w) (hn : n ≤ 3) {x : Int32} {post : Int32 → HG → Prop} (kk : post (if 0 ≤ x.toInt ∧ x.toInt ≤ (w 0 : Int) then nI (zwv w s n x.toInt.toNat) else -1) G) : hX0_with j Λ (k 0) (nI s) (nI n) x G post := by
  have h0 := hg.1
  have hN := zN_le hg
  refine ⟨fun q => absurd q (nI_nm1 (by omega)), fun _ => a_top h C (c_inT (by omega) ?_)⟩
  by_cases hx : 0 ≤ x.toInt ∧ x.toInt ≤ (w 0 : Int)
  · rw [if_pos hx]
    rw [if_pos hx] at kk
    refine ⟨fun q => absurd q one_ne, fun _ => a_0 h C (c_valueOf h C hg (by omega) hn (a_0 h C (c_unit h C hg hn ?_)))⟩
    have hxe : x = nI x.toInt.toNat := Int32.toInt_inj.mp (by rw [nI_toInt (by omega)]; omega)
    rw [show x - nI (zvl w s n) = nI x.toInt.toNat - nI (zvl w s n) from by rw [← hxe], nI_with _ _ _ _ (zvl_part w s n)]
    exact kk
  · rw [if_neg hx]
    rw [if_neg hx] at kk
    exact ⟨fun _ => kk, fun q => absurd rfl q⟩
theorem c_withN {n : Int32} {x : Int32} {post : Int32 → HG → Prop} (kk : post (-1) G) : hX0_with j Λ (k 0) (-1) n x G post := ⟨fun _ => kk, fun q => absurd rfl q⟩
theorem c_isState (h : Rp k F c G) (C : CO j k F c w v) (hg : GW w) {x : Int64} {post : Int32 → HG → Prop} (kk : post (nI (zb1 (zisS w x.toInt))) G) : hX0_isState j Λ (k 0) x G post := by
  have hN := zN_le hg
  have h7 := hg.2.2.2.2.2.2.2.1
  obtain ⟨rl, ol, bdr, blk, h1, _⟩ := C.2.1
  refine a_now h C (isO_c h h1 (gI_c h h1 rfl ?_))
  refine ⟨fun q => ⟨fun _ => ?_, fun r => absurd rfl r⟩, fun q => ⟨fun r => absurd r one_ne, fun _ => a_0 h C (c_states0 h C hg (c_inL (by omega) (zb_0 (fun r => ?_) (fun r => ?_))))⟩⟩
  · have : ¬ 0 < w 7 := fun r => (nI_nle r (by omega)) q
    unfold zisS at kk
    rw [decide_eq_false this] at kk
    exact kk
  all_goals
    have : 0 < w 7 := Nat.pos_of_ne_zero (fun s => q (by rw [s]; exact nI_le (b := 0) (Nat.le_refl _) (by omega)))
    unfold zisS at kk
    rw [decide_eq_true this, r] at kk
    exact kk
theorem c_isCell (h : Rp k F c G) (C : CO j k F c w v) (hg : GW w) {x : Int32} {post : Int32 → HG → Prop} (kk : post (nI (zb1 (zin x.toInt (w 3)))) G) : hX0_isCell j Λ (k 0) x G post :=
  a_cells h C (c_inI (by have := hg.2.2.2.1; omega) ⟨zB_b _, kk⟩)
theorem c_isRule (h : Rp k F c G) (C : CO j k F c w v) (hg : GW w) {x : Int32} {post : Int32 → HG → Prop} (kk : post (nI (zb1 (zin x.toInt (w 4)))) G) : hX0_isRule j Λ (k 0) x G post :=
  a_rules h C (c_inI (by have := hg.2.2.2.2.1; omega) ⟨zB_b _, kk⟩)
theorem c_isOp (h : Rp k F c G) (C : CO j k F c w v) (hg : GW w) {x : Int32} {post : Int32 → HG → Prop} (kk : post (nI (zb1 (zin x.toInt (w 5)))) G) : hX0_isOp j Λ (k 0) x G post :=
  a_ops h C (c_inI (by have := hg.2.2.2.2.2.1; omega) ⟨zB_b _, kk⟩)
theorem c_isDeep (h : Rp k F c G) (C : CO j k F c w v) (hg : GW w) {x : Int32} {post : Int32 → HG → Prop} (kk : post (nI (zb1 (decide (0 < w 7) && zin x.toInt 4))) G) : hX0_isDeep j Λ (k 0) x G post := by
  have h7 := hg.2.2.2.2.2.2.2.1
  obtain ⟨rl, ol, bdr, blk, h1, _⟩ := C.2.1
  refine a_now h C (isO_c h h1 (gI_c h h1 rfl ?_))
  refine ⟨fun q => ⟨fun _ => ?_, fun r => absurd rfl r⟩, fun q => ⟨fun r => absurd r one_ne, fun _ => ?_⟩⟩
  · have : ¬ 0 < w 7 := fun r => (nI_nle r (by omega)) q
    rw [decide_eq_false this] at kk
    exact kk
  · have : 0 < w 7 := Nat.pos_of_ne_zero (fun s => q (by rw [s]; exact nI_le (b := 0) (Nat.le_refl _) (by omega)))
    rw [decide_eq_true this, Bool.true_and] at kk
    rw [show (3 : Int64) = ((nI 4 - 1).toInt64) from by decide +kernel]
    refine c_inI (by omega) (zb_0 (fun r => ?_) (fun r => ?_))
    · rw [r] at kk; exact kk
    · rw [r] at kk; exact kk
theorem c_isOn {d r : Nat} (hd : d < 2 ^ 31) (hr : r < 32) {post : Int32 → HG → Prop} (kk : post (nI (zb1 (d.testBit r))) G) : hX0_isOn j Λ (nI d) (nI r) G post := by
  unfold hX0_isOn
  rw [pk_shrN hd _ r (sh31 r hr), pk_andN (m := 1) (by have := Nat.div_le_self d (2 ^ r); omega) 1 (by decide)]
  rw [Nat.testBit_eq_decide_div_mod_eq] at kk
  have h := Nat.mod_two_eq_zero_or_one (d / 2 ^ r)
  rcases h with h | h
  · rw [h] at kk ⊢; exact ⟨fun q => absurd q (by decide), fun _ => kk⟩
  · rw [h] at kk ⊢; exact ⟨fun _ => kk, fun q => absurd rfl q⟩
end CPURE
