/-! THE MODEL by its numbers: what its functions answer -/
theorem bnd_s {α β γ : Type} (a : α) (b : β) (k : α → β → Option γ) : bnd (some (a, b)) k = k a b := rfl
theorem bn1_s {α γ : Type} (a : α) (k : α → Option γ) : bn1 (some a) k = k a := rfl
theorem nxt_e {α β : Type} (x : α) (k : α → Option β) : nxt x k = k x := rfl
theorem grd_t {α : Type} {b : Bool} (h : b = true) (k : Option α) : grd b k = k := by rw [h]; rfl
theorem inB_nI {i n : Nat} (h : i < n) (hn : n < 2 ^ 31) : inB (nI i) n = true := inB_of (vp_in_nI h hn)
theorem bZ_0 : bZ 0 = true := decide_eq_true (p := narrow .boolean (.int 0) = .int 0) rfl
theorem bZ_1 : bZ 1 = true := decide_eq_true (p := narrow .boolean (.int 1) = .int 1) rfl
theorem bZ_if (c : Prop) [Decidable c] : bZ (if c then 1 else 0) = true := by by_cases h : c <;> simp only [h, if_true, if_false, bZ_0, bZ_1]
theorem nz_nI {n : Nat} (h0 : 0 < n) (h : n < 2 ^ 31) : nz (nI n) = true := decide_eq_true (p := ¬ nI n = 0) (nI_ne0 h0 h)
theorem oN_n : oN none = -1 := rfl
theorem FU_e : FU = 999999 + 1 := rfl
theorem one_ne : ¬ (1 : Int32) = 0 := by decide
theorem if10 {α : Type} {c : Prop} [Decidable c] {a b : α} : (if (if c then (1 : Int32) else 0) = 0 then a else b) = if c then b else a := by
  by_cases h : c
  · rw [if_pos h, if_neg one_ne, if_pos h]
  · rw [if_neg h, if_pos rfl, if_neg h]
theorem e_in (a lo hi : Int64) : f7_in a lo hi = some (if lo ≤ a ∧ a ≤ hi then 1 else 0) := by
  unfold f7_in
  by_cases h1 : a < lo
  · rw [if_pos ((lg_cmp_lt a lo).mpr h1), if_neg (fun q => by have q1 := q.1; rw [Int64.le_iff_toInt_le] at q1; rw [Int64.lt_iff_toInt_lt] at h1; omega)]
  · rw [if_neg (fun q => h1 ((lg_cmp_lt a lo).mp q))]
    by_cases h2 : hi < a
    · rw [if_pos ((lg_cmp_gt a hi).mpr h2), if_neg (fun q => by have q1 := q.2; rw [Int64.le_iff_toInt_le] at q1; rw [Int64.lt_iff_toInt_lt] at h2; omega)]
    · rw [if_neg (fun q => h2 ((lg_cmp_gt a hi).mp q)), if_pos (by rw [Int64.le_iff_toInt_le, Int64.le_iff_toInt_le]; rw [Int64.lt_iff_toInt_lt] at h1 h2; omega)]
/-- 0 up to t -/
theorem e_in32 (x : Int32) {t : Nat} (ht : t < 2 ^ 31) : f7_in x.toInt64 0 (nI t).toInt64 = some (if 0 ≤ x.toInt ∧ x.toInt ≤ (t : Int) then 1 else 0) := by
  rw [e_in]
  simp only [Int64.le_iff_toInt_le, Int32.toInt_toInt64, nI_toInt ht]
  rfl
def zin (x : Int) (n : Nat) : Bool := decide (0 ≤ x ∧ x < (n : Int))
theorem zin_t {x : Int} {n : Nat} : zin x n = true ↔ 0 ≤ x ∧ x < (n : Int) := by unfold zin; exact decide_eq_true_iff
theorem zin_nat (k n : Nat) : zin (k : Int) n = decide (k < n) := by
  unfold zin; congr 1; apply propext; omega
theorem nI_pred_toInt {n : Nat} (hn : n < 2 ^ 31) : (nI n - 1).toInt = (n : Int) - 1 := by
  cases n with
  | zero => decide
  | succ n => rw [nI_pred, nI_toInt (by omega)]; omega
theorem e_inL (x : Int64) {n : Nat} (hn : n < 2 ^ 31) : f7_in x 0 ((nI n - 1).toInt64) = some (if zin x.toInt n = true then 1 else 0) := by
  rw [e_in]
  congr 1
  have : (0 ≤ x ∧ x ≤ (nI n - 1).toInt64) ↔ zin x.toInt n = true := by
    rw [zin_t, Int64.le_iff_toInt_le, Int64.le_iff_toInt_le, Int32.toInt_toInt64, nI_pred_toInt hn]
    show (0 : Int) ≤ _ ∧ _ ↔ _
    omega
  by_cases h : zin x.toInt n = true
  · rw [if_pos (this.mpr h), if_pos h]
  · rw [if_neg (fun q => h (this.mp q)), if_neg h]
theorem e_inI (x : Int32) {n : Nat} (hn : n < 2 ^ 31) : f7_in x.toInt64 0 ((nI n - 1).toInt64) = some (if zin x.toInt n = true then 1 else 0) := by
  rw [e_inL _ hn, Int32.toInt_toInt64]
theorem zin_nI {x : Int32} {n : Nat} (h : zin x.toInt n = true) : ∃ k, k < n ∧ x = nI k := by
  obtain ⟨h1, h2⟩ := zin_t.mp h
  have hb : x.toInt < 2147483648 := by have := x.toInt_lt; omega
  refine ⟨x.toInt.toNat, by omega, Int32.toInt_inj.mp ?_⟩
  rw [nI_toInt (by omega)]; omega
/-- a bit -/
theorem sh31 : ∀ n, n < 32 → ((nI n &&& 31).toBitVec.smod 32).toNat = n := by decide +kernel
theorem e_bit {d r : Nat} (hd : d < 2 ^ 31) (hr : r < 32) : f7_bit (nI d) (nI r) = some (if d.testBit r = true then 1 else 0) := by
  unfold f7_bit
  rw [pk_shrN hd _ r (sh31 r hr), pk_andN (m := 1) (by have := Nat.div_le_self d (2 ^ r); omega) 1 (by decide), Nat.testBit_eq_decide_div_mod_eq]
  congr 1
  have h := Nat.mod_two_eq_zero_or_one (d / 2 ^ r)
  rcases h with h | h
  · rw [h]; rfl
  · rw [h]; rfl
/-- frames: what is not in the list is as it was -/
def FR (L : List Nat) (σ σ' : MS) : Prop := (∀ k, k ∉ L → gI σ' k = gI σ k) ∧ (∀ k, k ∉ L → gL σ' k = gL σ k) ∧ (∀ j, j ∉ L → ∀ i, gA σ' j i = gA σ j i) ∧ (∀ j, j ∉ L → ∀ i, gB σ' j i = gB σ j i)
theorem FR.rfl' (L : List Nat) (σ : MS) : FR L σ σ := ⟨fun _ _ => rfl, fun _ _ => rfl, fun _ _ _ => rfl, fun _ _ _ => rfl⟩
theorem FR.mono {L L' : List Nat} {σ σ' : MS} (h : FR L σ σ') (hs : ∀ k, k ∈ L → k ∈ L') : FR L' σ σ' :=
  ⟨fun k hk => h.1 k (fun q => hk (hs k q)), fun k hk => h.2.1 k (fun q => hk (hs k q)), fun k hk => h.2.2.1 k (fun q => hk (hs k q)), fun k hk => h.2.2.2 k (fun q => hk (hs k q))⟩
theorem FR.trans {L : List Nat} {σ σ' σ'' : MS} (h : FR L σ σ') (g : FR L σ' σ'') : FR L σ σ'' :=
  ⟨fun k hk => (g.1 k hk).trans (h.1 k hk), fun k hk => (g.2.1 k hk).trans (h.2.1 k hk), fun k hk i => (g.2.2.1 k hk i).trans (h.2.2.1 k hk i), fun k hk i => (g.2.2.2 k hk i).trans (h.2.2.2 k hk i)⟩
theorem FR.sI {L : List Nat} (σ : MS) {k : Nat} (v : Int32) (hk : k ∈ L) : FR L σ (sI σ k v) :=
  ⟨fun k' h => by rw [gI_sI, if_neg (fun q : k' = k => h (by rw [q]; exact hk))], fun _ _ => rfl, fun _ _ _ => rfl, fun _ _ _ => rfl⟩
theorem FR.sL {L : List Nat} (σ : MS) {k : Nat} (v : Int64) (hk : k ∈ L) : FR L σ (sL σ k v) :=
  ⟨fun _ _ => rfl, fun k' h => by rw [gL_sL, if_neg (fun q : k' = k => h (by rw [q]; exact hk))], fun _ _ _ => rfl, fun _ _ _ => rfl⟩
theorem FR.sA {L : List Nat} (σ : MS) {j : Nat} (i : Nat) (v : Int32) (hj : j ∈ L) : FR L σ (sA σ j i v) :=
  ⟨fun _ _ => rfl, fun _ _ => rfl, fun a h i' => by rw [gA_sA, if_neg (fun q : a = j => h (by rw [q]; exact hj))], fun _ _ _ => rfl⟩
theorem FR.sB {L : List Nat} (σ : MS) {j : Nat} (i : Nat) (v : Int64) (hj : j ∈ L) : FR L σ (sB σ j i v) :=
  ⟨fun _ _ => rfl, fun _ _ => rfl, fun _ _ _ => rfl, fun a h i' => by rw [gB_sB, if_neg (fun q : a = j => h (by rw [q]; exact hj))]⟩
/-- the world's row -/
def MW (w : WV) (σ : MS) : Prop := ∀ k, k < 76 → gA σ 1 k = nI (w k)
theorem MW.fr {w : WV} {σ σ' : MS} {L : List Nat} (h : MW w σ) (hf : FR L σ σ') (h1 : 1 ∉ L) : MW w σ' := fun k hk => (hf.2.2.1 1 h1 k).trans (h k hk)
theorem e_cells {w : WV} {σ : MS} (hw : MW w σ) : f7_cells σ = some (nI (w 3), σ) := by unfold f7_cells; rw [hw 3 (by decide)]
theorem e_rules {w : WV} {σ : MS} (hw : MW w σ) : f7_rules σ = some (nI (w 4), σ) := by unfold f7_rules; rw [hw 4 (by decide)]
theorem e_ops {w : WV} {σ : MS} (hw : MW w σ) : f7_ops σ = some (nI (w 5), σ) := by unfold f7_ops; rw [hw 5 (by decide)]
theorem e_isBase {w : WV} {σ : MS} (hw : MW w σ) (hg : GW w) : f7_isBase σ = some (if 0 < w 7 then 1 else 0, σ) := by
  have h7 := hg.2.2.2.2.2.2.2.1
  unfold f7_isBase
  rw [hw 7 (by decide)]
  by_cases h : 0 < w 7
  · rw [if_neg (nI_nle h (by omega)), if_pos h]
  · rw [if_pos (show nI (w 7) ≤ (0 : Int32) from nI_le (b := 0) (by omega) (by omega)), if_neg h]
theorem e_isCell {w : WV} {σ : MS} (hw : MW w σ) (hg : GW w) (x : Int32) : f7_isCell x σ = some (if zin x.toInt (w 3) = true then 1 else 0, σ) := by
  have h := hg.2.2.2.1
  unfold f7_isCell
  rw [e_cells hw, bnd_s, e_inI _ (by omega), bn1_s, grd_t (bZ_if _)]
theorem e_isRule {w : WV} {σ : MS} (hw : MW w σ) (hg : GW w) (x : Int32) : f7_isRule x σ = some (if zin x.toInt (w 4) = true then 1 else 0, σ) := by
  have h := hg.2.2.2.2.1
  unfold f7_isRule
  rw [e_rules hw, bnd_s, e_inI _ (by omega), bn1_s, grd_t (bZ_if _)]
theorem e_isOp {w : WV} {σ : MS} (hw : MW w σ) (hg : GW w) (x : Int32) : f7_isOp x σ = some (if zin x.toInt (w 5) = true then 1 else 0, σ) := by
  have h := hg.2.2.2.2.2.1
  unfold f7_isOp
  rw [e_ops hw, bnd_s, e_inI _ (by omega), bn1_s, grd_t (bZ_if _)]
theorem e_isDepth (x : Int32) : f7_isDepth x = some (if zin x.toInt 4 = true then 1 else 0) := by
  unfold f7_isDepth
  rw [show (3 : Int64) = ((nI 4 - 1).toInt64) from by decide +kernel, e_inI _ (by omega), bn1_s, grd_t (bZ_if _)]
theorem e_stateMany_l {w : WV} {σ : MS} (hw : MW w σ) (hg : GW w) : ∀ (k i a n : Nat), i + k = w 3 → k < n → f7_stateMany_l4 n (nI a) (nI i) σ = some (nI (a * zT w ^ k), σ)
  | _, _, _, 0, _, h => absurd h (Nat.not_lt_zero _)
  | 0, i, a, n + 1, h1, _ => by
    have h3 := hg.2.2.2.1
    show f7_stateMany_b4 _ _ _ _ = _
    unfold f7_stateMany_b4
    rw [e_cells hw, bnd_s, if_pos (nI_le (by omega) (by omega)), Nat.pow_zero, Nat.mul_one]
  | k + 1, i, a, n + 1, h1, h2 => by
    have h3 := hg.2.2.2.1
    show f7_stateMany_b4 _ _ _ _ = _
    unfold f7_stateMany_b4
    rw [e_cells hw, bnd_s, if_neg (nI_ge (by omega) (by omega)), hw 0 (by decide), nI_1, nI_1, pk_mul, e_stateMany_l hw hg k (i + 1) _ n (by omega) (by omega)]
    rw [show a * (w 0 + 1) * zT w ^ k = a * zT w ^ (k + 1) from by rw [Nat.pow_succ, Nat.mul_assoc, Nat.mul_comm (zT w ^ k)]; rfl]
theorem e_stateMany {w : WV} {σ : MS} (hw : MW w σ) (hg : GW w) : f7_stateMany σ = some (nI (zN w), σ) := by
  have h3 := hg.2.2.2.1
  have := e_stateMany_l hw hg (w 3) 0 1 FU (by omega) (by rw [FU_e]; omega)
  rw [Nat.one_mul] at this
  exact this
/-- a state: of a base -/
def zisS (w : WV) (x : Int) : Bool := decide (0 < w 7) && zin x (zN w)
theorem e_isStateL {w : WV} {σ : MS} (hw : MW w σ) (hg : GW w) (x : Int64) : f7_isState x σ = some (if zisS w x.toInt = true then 1 else 0, σ) := by
  have hN := zN_le hg
  unfold f7_isState
  rw [e_isBase hw hg, bnd_s, if10]
  unfold zisS
  by_cases h : 0 < w 7
  · rw [if_pos h, e_stateMany hw hg, bnd_s, e_inL _ (by omega), bn1_s, if10]
    simp only [h, decide_true, Bool.true_and]
    by_cases hz : zin x.toInt (zN w) = true
    · rw [if_pos hz, if_pos hz]
    · rw [if_neg hz, if_neg hz]
  · rw [if_neg h]
    simp only [h, decide_false, Bool.false_and]
    rfl
theorem e_isState {w : WV} {σ : MS} (hw : MW w σ) (hg : GW w) (x : Int32) : f7_isState x.toInt64 σ = some (if zisS w x.toInt = true then 1 else 0, σ) := by
  rw [e_isStateL hw hg, Int32.toInt_toInt64]
theorem zisS_nI {w : WV} {x : Int32} (h : zisS w x.toInt = true) : 0 < w 7 ∧ ∃ s, s < zN w ∧ x = nI s := by
  unfold zisS at h
  rw [Bool.and_eq_true] at h
  exact ⟨of_decide_eq_true h.1, zin_nI h.2⟩
theorem e_valueOf_l {w : WV} {σ : MS} (hw : MW w σ) (hg : GW w) {c : Nat} (hc : c ≤ 3) : ∀ (k i v n : Nat), i + k = c → v < 2 ^ 31 → k < n → f7_valueOf_l5 n (nI c) (nI v) (nI i) σ = some (nI (v / zT w ^ k % zT w), σ)
  | _, _, _, 0, _, _, h => absurd h (Nat.not_lt_zero _)
  | 0, i, v, n + 1, h1, hv, _ => by
    have h0 := hg.1
    show f7_valueOf_b5 _ _ _ _ _ = _
    unfold f7_valueOf_b5
    rw [if_pos (nI_le (by omega) (by omega)), hw 0 (by decide), nI_1, grd_t (nz_nI (by omega) (by omega)), pk_rem hv (by omega) (by omega), Nat.pow_zero, Nat.div_one]
    rfl
  | k + 1, i, v, n + 1, h1, hv, h2 => by
    have h0 := hg.1
    show f7_valueOf_b5 _ _ _ _ _ = _
    unfold f7_valueOf_b5
    rw [if_neg (nI_ge (by omega) (by omega)), hw 0 (by decide), nI_1, grd_t (nz_nI (by omega) (by omega)), pk_div hv (by omega) (by omega), nI_1, e_valueOf_l hw hg hc k (i + 1) _ n (by omega) (Nat.lt_of_le_of_lt (Nat.div_le_self _ _) hv) (by omega), Nat.div_div_eq_div_mul]
    rw [show (w 0 + 1) * zT w ^ k = zT w ^ (k + 1) from by rw [Nat.pow_succ, Nat.mul_comm]; rfl]
theorem e_valueOf {w : WV} {σ : MS} (hw : MW w σ) (hg : GW w) {s c : Nat} (hs : s < 2 ^ 31) (hc : c ≤ 3) : f7_valueOf (nI s) (nI c) σ = some (nI (zvl w s c), σ) :=
  e_valueOf_l hw hg hc c 0 s FU (by omega) hs (by rw [FU_e]; omega)
theorem nI_wv (s P v d : Nat) (h : P * d ≤ s) : nI s + nI P * (nI v - nI d) = nI (s + P * v - P * d) := by
  rw [← pk_sub (by omega), ← nI_add, ← pk_mul, ← pk_mul, Int32.mul_sub, Int32.sub_eq_add_neg (nI P * nI v), ← Int32.add_assoc, ← Int32.sub_eq_add_neg]
theorem e_withValue_l {w : WV} {σ : MS} (hw : MW w σ) (hg : GW w) {s c v : Nat} (hs : s < 2 ^ 31) (hc : c ≤ 3) : ∀ (k i n : Nat), i + k = c → k < n → f7_withValue_l6 n (nI s) (nI c) (nI v) (nI (zT w ^ i)) (nI i) σ = some (nI (zwv w s c v), σ)
  | _, _, 0, _, h => absurd h (Nat.not_lt_zero _)
  | 0, i, n + 1, h1, _ => by
    show f7_withValue_b6 _ _ _ _ _ _ _ = _
    unfold f7_withValue_b6
    obtain rfl : i = c := by omega
    rw [if_pos (nI_le (by omega) (by omega)), e_valueOf hw hg hs hc, bnd_s, nI_wv _ _ _ _ (zvl_part w s i)]
    rfl
  | k + 1, i, n + 1, h1, h2 => by
    show f7_withValue_b6 _ _ _ _ _ _ _ = _
    unfold f7_withValue_b6
    rw [if_neg (nI_ge (by omega) (by omega)), hw 0 (by decide), nI_1, pk_mul, nI_1, show zT w ^ i * (w 0 + 1) = zT w ^ (i + 1) from by rw [Nat.pow_succ]; rfl]
    exact e_withValue_l hw hg hs hc k (i + 1) n (by omega) (by omega)
theorem e_withValue {w : WV} {σ : MS} (hw : MW w σ) (hg : GW w) {s c v : Nat} (hs : s < 2 ^ 31) (hc : c ≤ 3) : f7_withValue (nI s) (nI c) (nI v) σ = some (nI (zwv w s c v), σ) := by
  have := e_withValue_l (v := v) hw hg hs hc c 0 FU (by omega) (by rw [FU_e]; omega)
  rw [Nat.pow_zero] at this
  exact this
theorem e_added {w : WV} {σ : MS} (hw : MW w σ) (hg : GW w) {s c n : Nat} (hs : s < 2 ^ 31) (hc : c ≤ 3) (hn : n < 2 ^ 20) : f7_added (nI s) (nI c) (nI n) σ = some (oN (zadd w s c n), σ) := by
  have h0 := hg.1
  have hv := zvl_le w s c
  unfold f7_added
  rw [e_valueOf hw hg hs hc, bnd_s, hw 0 (by decide), nI_add, e_in32 _ (by omega), bn1_s, if10, nI_toInt (by omega)]
  unfold zadd
  by_cases h : zvl w s c + n ≤ w 0
  · rw [if_pos (by omega), e_withValue hw hg hs hc, bnd_s, if_pos h]; rfl
  · rw [if_neg (by omega), if_neg h]; rfl
theorem nI_negadd {a b : Nat} (h : b ≤ a) : nI a + -nI b = nI (a - b) := by
  rw [← Int32.sub_eq_add_neg, pk_sub h]
theorem nI_negadd_lt {a b : Nat} (ha : a < 2 ^ 20) (hb : b < 2 ^ 20) (h : a < b) : (nI a + -nI b).toInt < 0 := by
  rw [← Int32.sub_eq_add_neg, pk_sub_toInt (by omega) (by omega)]; omega
theorem e_subbed {w : WV} {σ : MS} (hw : MW w σ) (hg : GW w) {s c n : Nat} (hs : s < 2 ^ 31) (hc : c ≤ 3) (hn : n < 2 ^ 20) : f7_added (nI s) (nI c) (-nI n) σ = some (oN (zsub w s c n), σ) := by
  have h0 := hg.1
  have hv := zvl_le w s c
  unfold f7_added
  rw [e_valueOf hw hg hs hc, bnd_s, hw 0 (by decide), e_in32 _ (by omega), bn1_s, if10]
  unfold zsub
  by_cases h : n ≤ zvl w s c
  · rw [nI_negadd h, nI_toInt (by omega), if_pos (by omega), e_withValue hw hg hs hc, bnd_s, if_pos h]; rfl
  · have := nI_negadd_lt (a := zvl w s c) (b := n) (by omega) hn (by omega)
    rw [if_neg (by omega), if_neg h]; rfl
theorem e_ruleOf {w : WV} {σ : MS} (hw : MW w σ) {r k : Nat} (hr : r < 5) (hk : k < 5) : f7_ruleOf (nI r) (nI k) σ = some (nI (zrl w r k), σ) := by
  unfold f7_ruleOf
  rw [show (11 : Int32) = nI 11 from rfl, show (5 : Int32) = nI 5 from rfl, pk_mul, nI_add, nI_add, grd_t (inB_nI (by omega) (by omega)), nI_clamp (by omega), hw _ (by omega)]
  rfl
theorem e_opOf {w : WV} {σ : MS} (hw : MW w σ) {o k : Nat} (ho : o < 5) (hk : k < 4) : f7_opOf (nI o) (nI k) σ = some (nI (zpo w o k), σ) := by
  unfold f7_opOf
  rw [show (36 : Int32) = nI 36 from rfl, show (4 : Int32) = nI 4 from rfl, pk_mul, nI_add, nI_add, grd_t (inB_nI (by omega) (by omega)), nI_clamp (by omega), hw _ (by omega)]
  rfl
theorem e_rl0 {w : WV} {σ : MS} (hw : MW w σ) {r : Nat} (hr : r < 5) : f7_ruleOf (nI r) 0 σ = some (nI (zrl w r 0), σ) := e_ruleOf hw hr (by decide)
theorem e_rl1 {w : WV} {σ : MS} (hw : MW w σ) {r : Nat} (hr : r < 5) : f7_ruleOf (nI r) 1 σ = some (nI (zrl w r 1), σ) := e_ruleOf hw hr (by decide)
theorem e_rl2 {w : WV} {σ : MS} (hw : MW w σ) {r : Nat} (hr : r < 5) : f7_ruleOf (nI r) 2 σ = some (nI (zrl w r 2), σ) := e_ruleOf hw hr (by decide)
theorem e_rl3 {w : WV} {σ : MS} (hw : MW w σ) {r : Nat} (hr : r < 5) : f7_ruleOf (nI r) 3 σ = some (nI (zrl w r 3), σ) := e_ruleOf hw hr (by decide)
theorem e_rl4 {w : WV} {σ : MS} (hw : MW w σ) {r : Nat} (hr : r < 5) : f7_ruleOf (nI r) 4 σ = some (nI (zrl w r 4), σ) := e_ruleOf hw hr (by decide)
theorem e_po0 {w : WV} {σ : MS} (hw : MW w σ) {r : Nat} (hr : r < 5) : f7_opOf (nI r) 0 σ = some (nI (zpo w r 0), σ) := e_opOf hw hr (by decide)
theorem e_po1 {w : WV} {σ : MS} (hw : MW w σ) {r : Nat} (hr : r < 5) : f7_opOf (nI r) 1 σ = some (nI (zpo w r 1), σ) := e_opOf hw hr (by decide)
theorem e_po2 {w : WV} {σ : MS} (hw : MW w σ) {r : Nat} (hr : r < 5) : f7_opOf (nI r) 2 σ = some (nI (zpo w r 2), σ) := e_opOf hw hr (by decide)
theorem e_po3 {w : WV} {σ : MS} (hw : MW w σ) {r : Nat} (hr : r < 5) : f7_opOf (nI r) 3 σ = some (nI (zpo w r 3), σ) := e_opOf hw hr (by decide)
theorem nI_eqk {a b : Nat} (ha : a < 2 ^ 31) (hb : b < 2 ^ 31) {α : Type} {x y : α} : (if nI a = nI b then x else y) = if a = b then x else y := by
  by_cases h : a = b
  · rw [if_pos h, if_pos (by rw [h])]
  · rw [if_neg h, if_neg (fun q => h ((nI_eq ha hb).mp q))]
theorem ifL0 {a : Nat} (ha : a < 2 ^ 31) {α : Type} {x y : α} : (if nI a = (0 : Int32) then x else y) = if a = 0 then x else y := nI_eqk (b := 0) ha (by decide)
theorem ifL1 {a : Nat} (ha : a < 2 ^ 31) {α : Type} {x y : α} : (if nI a = (1 : Int32) then x else y) = if a = 1 then x else y := nI_eqk (b := 1) ha (by decide)
theorem ifL2 {a : Nat} (ha : a < 2 ^ 31) {α : Type} {x y : α} : (if nI a = (2 : Int32) then x else y) = if a = 2 then x else y := nI_eqk (b := 2) ha (by decide)
theorem ifL3 {a : Nat} (ha : a < 2 ^ 31) {α : Type} {x y : α} : (if nI a = (3 : Int32) then x else y) = if a = 3 then x else y := nI_eqk (b := 3) ha (by decide)
theorem ifL4 {a : Nat} (ha : a < 2 ^ 31) {α : Type} {x y : α} : (if nI a = (4 : Int32) then x else y) = if a = 4 then x else y := nI_eqk (b := 4) ha (by decide)
theorem if01 {a b : Nat} (ha : a < 2 ^ 31) (hb : b < 2 ^ 31) (σ : MS) : (if nI b < nI a then some ((0 : Int32), σ) else some (1, σ)) = some (if decide (a ≤ b) = true then 1 else 0, σ) := by
  by_cases h : a ≤ b
  · rw [if_neg (nI_nlt h (by omega)), if_pos (decide_eq_true h)]
  · rw [if_pos (nI_lt (by omega) (by omega)), if_neg (by rw [decide_eq_true_iff]; exact h)]
theorem e_holdsIn {w : WV} {σ : MS} (hw : MW w σ) (hg : GW w) {r s : Nat} (hr : r < w 4) (hs : s < 2 ^ 31) : f7_holdsIn (nI r) (nI s) σ = some (if zhold w r s = true then 1 else 0, σ) := by
  have h0 := hg.1
  have h3 := hg.2.2.2.1
  have h5 : r < 5 := by have := hg.2.2.2.2.1; omega
  obtain ⟨g0, g1, g2, g3, g4, g5⟩ := hg.2.2.2.2.2.2.2.2.2.1 r hr
  have v1 := zvl_le w s (zrl w r 1)
  have v2 := zvl_le w s (zrl w r 2)
  have v3 := zvl_le w s (zrl w r 3)
  unfold f7_holdsIn zhold
  rw [e_rl1 hw h5, bnd_s, e_valueOf hw hg hs (by omega), bnd_s, e_rl2 hw h5, bnd_s, e_rl0 hw h5, bnd_s, ifL0 (by omega), ifL1 (by omega), ifL2 (by omega), ifL3 (by omega), ifL4 (by omega)]
  by_cases k0 : zrl w r 0 = 0
  · rw [if_pos k0, if_pos k0]
    have := g2 (Or.inl k0)
    exact if01 (by omega) (by omega) σ
  · rw [if_neg k0, if_neg k0]
    by_cases k1 : zrl w r 0 = 1
    · rw [if_pos k1, if_pos k1]
      have := g2 (Or.inr (Or.inl k1))
      exact if01 (by omega) (by omega) σ
    · rw [if_neg k1, if_neg k1]
      by_cases k2 : zrl w r 0 = 2
      · have := g3 (Or.inl k2)
        rw [if_pos k2, if_pos k2, e_valueOf hw hg hs (by omega), bnd_s, nI_eqk (by omega) (by omega)]
        by_cases q : zvl w s (zrl w r 1) = zvl w s (zrl w r 2)
        · rw [if_pos q, if_neg (by rw [decide_eq_true_iff]; exact fun h => h q)]
        · rw [if_neg q, if_pos (decide_eq_true q)]
      · rw [if_neg k2, if_neg k2]
        by_cases k3 : zrl w r 0 = 3
        · have := g3 (Or.inr (Or.inl k3))
          have := g4 k3
          rw [if_pos k3, if_pos k3, e_valueOf hw hg hs (by omega), bnd_s, e_rl3 hw h5, bnd_s, nI_add]
          exact if01 (by omega) (by omega) σ
        · rw [if_neg k3, if_neg k3]
          by_cases k4 : zrl w r 0 = 4
          · have := g3 (Or.inr (Or.inr k4))
            rw [if_pos k4, if_pos k4, e_valueOf hw hg hs (by omega), bnd_s]
            exact if01 (by omega) (by omega) σ
          · rw [if_neg k4, if_neg k4]
            have k5 : zrl w r 0 = 5 := by omega
            have := g2 (Or.inr (Or.inr k5))
            obtain ⟨t1, t2⟩ := g5 k5
            by_cases q : zvl w s (zrl w r 1) < zrl w r 2
            · rw [if_pos (nI_lt q (by omega)), if_pos (by rw [decide_eq_true q]; rfl)]
              rfl
            · rw [if_neg (nI_nlt (by omega) (by omega)), e_rl3 hw h5, bnd_s, e_valueOf hw hg hs (by omega), bnd_s, e_rl4 hw h5, bnd_s]
              rw [decide_eq_false q, Bool.false_or]
              unfold f7_holdsIn_b168
              exact if01 (by omega) (by omega) σ
