/-! SPEC: what is told, states, rules, operations, sides, breaks, in plain numbers; the world's row: 76 numbers -/
abbrev WV : Type := Nat → Nat
def itf {α : Type} (f : Nat → α → α) : Nat → Nat → α → α
  | _, 0, a => a
  | i, n + 1, a => itf f (i + 1) n (f i a)
def fnd (p : Nat → Bool) : Nat → Nat → Option Nat
  | _, 0 => none
  | i, n + 1 => if p i = true then some i else fnd p (i + 1) n
def smf (f : Nat → Nat) : Nat → Nat → Nat
  | _, 0 => 0
  | i, n + 1 => f i + smf f (i + 1) n
def oN : Option Nat → Int32
  | none => -1
  | some k => nI k
theorem itf_s {α : Type} (f : Nat → α → α) (i n : Nat) (a : α) : itf f i (n + 1) a = itf f (i + 1) n (f i a) := rfl
theorem itf_last {α : Type} (f : Nat → α → α) : ∀ (n i : Nat) (a : α), itf f i (n + 1) a = f (i + n) (itf f i n a)
  | 0, i, a => rfl
  | n + 1, i, a => by rw [itf_s, itf_last f n (i + 1), itf_s, Nat.add_right_comm]; rfl
theorem itf_congr {α : Type} {f g : Nat → α → α} : ∀ (n i : Nat) (a : α), (∀ k a, i ≤ k → k < i + n → f k a = g k a) → itf f i n a = itf g i n a
  | 0, _, _, _ => rfl
  | n + 1, i, a, h => by rw [itf_s, itf_s, h i a (Nat.le_refl _) (by omega)]; exact itf_congr n (i + 1) _ (fun k a h1 h2 => h k a (by omega) (by omega))
theorem itf_inv {α : Type} {f : Nat → α → α} (P : Nat → α → Prop) : ∀ (n i : Nat) (a : α), P i a → (∀ k a, i ≤ k → k < i + n → P k a → P (k + 1) (f k a)) → P (i + n) (itf f i n a)
  | 0, _, _, h, _ => h
  | n + 1, i, a, h, hs => by
    have := itf_inv P n (i + 1) (f i a) (hs i a (Nat.le_refl _) (by omega) h) (fun k a h1 h2 => hs k a (by omega) (by omega))
    rw [itf_s, show i + (n + 1) = i + 1 + n by omega]
    exact this
theorem itf_map {α β : Type} (q : α → β) {f : Nat → α → α} {g : Nat → β → β} : ∀ (n i : Nat) (a : α), (∀ k a, i ≤ k → k < i + n → q (f k a) = g k (q a)) → q (itf f i n a) = itf g i n (q a)
  | 0, _, _, _ => rfl
  | n + 1, i, a, h => by rw [itf_s, itf_s, itf_map q n (i + 1) _ (fun k a h1 h2 => h k a (by omega) (by omega)), h i a (Nat.le_refl _) (by omega)]
theorem smf_s (f : Nat → Nat) (i n : Nat) : smf f i (n + 1) = f i + smf f (i + 1) n := rfl
theorem smf_last (f : Nat → Nat) : ∀ (n i : Nat), smf f i (n + 1) = smf f i n + f (i + n)
  | 0, i => by show f i + 0 = 0 + f i; omega
  | n + 1, i => by rw [smf_s, smf_last f n (i + 1), smf_s, show i + 1 + n = i + (n + 1) by omega]; omega
theorem smf_congr {f g : Nat → Nat} : ∀ (n i : Nat), (∀ k, i ≤ k → k < i + n → f k = g k) → smf f i n = smf g i n
  | 0, _, _ => rfl
  | n + 1, i, h => by rw [smf_s, smf_s, h i (Nat.le_refl _) (by omega), smf_congr n (i + 1) (fun k h1 h2 => h k (by omega) (by omega))]
theorem smf_le {f : Nat → Nat} {c : Nat} : ∀ (n i : Nat), (∀ k, i ≤ k → k < i + n → f k ≤ c) → smf f i n ≤ n * c
  | 0, _, _ => by show 0 ≤ _; omega
  | n + 1, i, h => by
    have h1 := h i (Nat.le_refl _) (by omega)
    have h2 := smf_le n (i + 1) (fun k h1 h2 => h k (by omega) (by omega))
    rw [smf_s, Nat.succ_mul]; omega
theorem fnd_s (p : Nat → Bool) (i n : Nat) : fnd p i (n + 1) = if p i = true then some i else fnd p (i + 1) n := rfl
theorem fnd_congr {p q : Nat → Bool} : ∀ (n i : Nat), (∀ k, i ≤ k → k < i + n → p k = q k) → fnd p i n = fnd q i n
  | 0, _, _ => rfl
  | n + 1, i, h => by rw [fnd_s, fnd_s, h i (Nat.le_refl _) (by omega), fnd_congr n (i + 1) (fun k h1 h2 => h k (by omega) (by omega))]
theorem fnd_some {p : Nat → Bool} : ∀ {n i r : Nat}, fnd p i n = some r → i ≤ r ∧ r < i + n ∧ p r = true ∧ ∀ k, i ≤ k → k < r → p k = false
  | 0, _, _, h => by cases h
  | n + 1, i, r, h => by
    rw [fnd_s] at h
    by_cases hp : p i = true
    · rw [if_pos hp] at h; injection h with h; subst h; exact ⟨Nat.le_refl _, by omega, hp, fun k h1 h2 => by omega⟩
    · rw [if_neg hp] at h
      obtain ⟨h1, h2, h3, h4⟩ := fnd_some h
      refine ⟨by omega, by omega, h3, fun k g1 g2 => ?_⟩
      by_cases hk : k = i
      · subst hk; exact Bool.eq_false_iff.mpr hp
      · exact h4 k (by omega) g2
theorem fnd_none {p : Nat → Bool} : ∀ {n i : Nat}, fnd p i n = none ↔ ∀ k, i ≤ k → k < i + n → p k = false
  | 0, _ => ⟨fun _ k h1 h2 => by omega, fun _ => rfl⟩
  | n + 1, i => by
    rw [fnd_s]
    by_cases hp : p i = true
    · rw [if_pos hp]
      exact ⟨fun h => (by cases h), fun h => by rw [h i (Nat.le_refl _) (by omega)] at hp; cases hp⟩
    · rw [if_neg hp, fnd_none]
      refine ⟨fun h k h1 h2 => ?_, fun h k h1 h2 => h k (by omega) (by omega)⟩
      by_cases hk : k = i
      · subst hk; exact Bool.eq_false_iff.mpr hp
      · exact h k (by omega) (by omega)
def zT (w : WV) : Nat := w 0 + 1
def zN (w : WV) : Nat := zT w ^ w 3
def zvl (w : WV) (s c : Nat) : Nat := s / zT w ^ c % zT w
def zwv (w : WV) (s c v : Nat) : Nat := s + zT w ^ c * v - zT w ^ c * zvl w s c
def zrl (w : WV) (r k : Nat) : Nat := w (11 + 5 * r + k)
def zpo (w : WV) (o k : Nat) : Nat := w (36 + 4 * o + k)
def zhold (w : WV) (r s : Nat) : Bool :=
  if zrl w r 0 = 0 then decide (zvl w s (zrl w r 1) ≤ zrl w r 2)
  else if zrl w r 0 = 1 then decide (zrl w r 2 ≤ zvl w s (zrl w r 1))
  else if zrl w r 0 = 2 then decide (¬ zvl w s (zrl w r 1) = zvl w s (zrl w r 2))
  else if zrl w r 0 = 3 then decide (zvl w s (zrl w r 1) + zvl w s (zrl w r 2) ≤ zrl w r 3)
  else if zrl w r 0 = 4 then decide (zvl w s (zrl w r 1) ≤ zvl w s (zrl w r 2))
  else decide (zvl w s (zrl w r 1) < zrl w r 2) || decide (zrl w r 4 ≤ zvl w s (zrl w r 3))
def zbad (w : WV) (dr s r : Nat) : Bool := !dr.testBit r && !zhold w r s
def zbrk (w : WV) (dr s : Nat) : Option Nat := fnd (zbad w dr s) 0 (w 4)
def zval (w : WV) (dr s : Nat) : Bool := (zbrk w dr s).isNone
def zadd (w : WV) (s c n : Nat) : Option Nat := if zvl w s c + n ≤ w 0 then some (zwv w s c (zvl w s c + n)) else none
def zsub (w : WV) (s c n : Nat) : Option Nat := if n ≤ zvl w s c then some (zwv w s c (zvl w s c - n)) else none
def zraw (w : WV) (o s : Nat) : Option Nat :=
  if zpo w o 0 = 0 then zadd w s (zpo w o 1) (zpo w o 2)
  else if zpo w o 0 = 1 then zsub w s (zpo w o 1) (zpo w o 2)
  else if zpo w o 0 = 2 then some (zwv w s (zpo w o 1) (zpo w o 2))
  else (zsub w s (zpo w o 1) (zpo w o 3)).bind fun t => zadd w t (zpo w o 2) (zpo w o 3)
def zgo (w : WV) (dr o s : Nat) : Option Nat := (zraw w o s).bind fun t => if zval w dr t = true then some t else none
def zlate (law b x y : Nat) : Nat := if x = b then y else if y = b then x else if law = 0 then x else if law = 1 then y else if law = 2 then max x y else b
def zmv (w : WV) (law k b x y : Nat) : Nat := if k = 0 then max x y else if k = 1 then min x y else if k = 2 then min (w 0) (x + y - b) else zlate law b x y
def zmgn (w : WV) (mb : Nat → Nat) (law b x y : Nat) : Nat → Nat
  | 0 => 0
  | c + 1 => zmgn w mb law b x y c + zT w ^ c * zmv w law (mb c) (zvl w b c) (zvl w x c) (zvl w y c)
def zmg (w : WV) (mb : Nat → Nat) (law b x y : Nat) : Nat := zmgn w mb law b x y (w 3)
def zany (p : Nat → Bool) : Nat → Bool
  | 0 => false
  | n + 1 => zany p n || p n
def zedge (w : WV) (dr wo t s : Nat) : Bool := zany (fun o => !wo.testBit o && decide (zgo w dr o t = some s)) (w 5)
def zlev (w : WV) (dr wo b : Nat) : Nat → Nat → Bool
  | 0, s => zval w dr b && decide (s = b)
  | k + 1, s => zlev w dr wo b k s || zany (fun t => zlev w dr wo b k t && zedge w dr wo t s) (zN w)
def zFAR : Nat := 1000000000
/-- the least level up to k, else FAR -/
def zfar (w : WV) (dr wo b s : Nat) : Nat → Nat
  | 0 => if zlev w dr wo b 0 s = true then 0 else zFAR
  | k + 1 => if zlev w dr wo b k s = true then zfar w dr wo b s k else if zlev w dr wo b (k + 1) s = true then k + 1 else zFAR
/-- what is told of merges and of acts, as it is counted now: kinds, law, dropped, locked -/
abbrev NV : Type := (Nat → Nat) × Nat × Nat × Nat
def zbr (w : WV) (v : NV) (d b x y : Nat) : Bool := zlev w v.2.2.1 0 b d x && zlev w v.2.2.1 0 b d y && (zlev w v.2.2.1 v.2.2.2 b d x || zlev w v.2.2.1 v.2.2.2 b d y) && !zval w v.2.2.1 (zmg w v.1 v.2.1 b x y)
def zbF {α : Type} (w : WV) (v : NV) (d : Nat) (F : Nat → Nat → Nat → α → α) (b : Nat) (a : α) : α :=
  itf (fun x a => itf (fun y a => if zbr w v d b x y = true then F b x y a else a) x (zN w - x) a) 0 (zN w) a
def zbA {α : Type} (w : WV) (v : NV) (d : Nat) (F : Nat → Nat → Nat → α → α) (a : α) : α := itf (fun b a => zbF w v d F b a) 0 (zN w) a
/-- how many -/
def zcF (w : WV) (v : NV) (d b : Nat) : Nat := zbF w v d (fun _ _ _ n => n + 1) b 0
def zcA (w : WV) (v : NV) (d : Nat) : Nat := zbA w v d (fun _ _ _ n => n + 1) 0
/-- well told -/
def GR (w : WV) (r : Nat) : Prop := zrl w r 0 ≤ 5 ∧ zrl w r 1 < w 3 ∧ ((zrl w r 0 = 0 ∨ zrl w r 0 = 1 ∨ zrl w r 0 = 5) → zrl w r 2 ≤ w 0) ∧ ((zrl w r 0 = 2 ∨ zrl w r 0 = 3 ∨ zrl w r 0 = 4) → zrl w r 2 < w 3) ∧ (zrl w r 0 = 3 → zrl w r 3 ≤ 6) ∧ (zrl w r 0 = 5 → zrl w r 3 < w 3 ∧ zrl w r 4 ≤ w 0)
def GO (w : WV) (o : Nat) : Prop := zpo w o 0 ≤ 3 ∧ zpo w o 1 < w 3 ∧ ((zpo w o 0 = 0 ∨ zpo w o 0 = 1 ∨ zpo w o 0 = 2) → zpo w o 2 ≤ w 0) ∧ (zpo w o 0 = 3 → zpo w o 2 < w 3 ∧ zpo w o 2 ≠ zpo w o 1 ∧ zpo w o 3 ≤ w 0)
def GA (w : WV) (i : Nat) : Prop := (∃ o, o < w 5 ∧ w (56 + i) = 100 + o) ∨ (∃ o, o < w 5 ∧ w (56 + i) = 200 + o) ∨ (∃ r, r < w 4 ∧ w (56 + i) = 300 + r)
def GW (w : WV) : Prop := w 0 ≤ 3 ∧ w 1 ≤ 3 ∧ w 2 ≤ 10 ∧ w 3 ≤ 3 ∧ w 4 ≤ 5 ∧ w 5 ≤ 5 ∧ w 6 ≤ 20 ∧ w 7 ≤ 1000 ∧ (∀ c, c < 3 → w (8 + c) ≤ 3) ∧ (∀ r, r < w 4 → GR w r) ∧ (∀ o, o < w 5 → GO w o) ∧ (∀ i, i < w 6 → GA w i)
/-- as it is by the acts -/
def zact (a : Nat) (p : Nat × Nat) : Nat × Nat := if 300 ≤ a then (p.1, p.2 ||| 2 ^ (a - 300)) else if 200 ≤ a then (p.1 &&& (31 ^^^ 2 ^ (a - 200)), p.2) else (p.1 ||| 2 ^ (a - 100), p.2)
def zacts (w : WV) (n : Nat) : Nat × Nat := itf (fun i p => zact (w (56 + i)) p) 0 n (0, 0)
def zlk (w : WV) : Nat := (zacts w (w 6)).1
def zdr (w : WV) : Nat := (zacts w (w 6)).2
def zmb (w : WV) (c : Nat) : Nat := w (8 + c)
def znv (w : WV) : NV := (zmb w, w 1, zdr w, zlk w)
theorem zT_pos (w : WV) : 0 < zT w := Nat.succ_pos _
theorem zP_pos (w : WV) (c : Nat) : 0 < zT w ^ c := Nat.pow_pos (zT_pos w)
theorem zT_le {w : WV} (h0 : w 0 ≤ 3) : zT w ≤ 4 := by unfold zT; omega
theorem zP_le {w : WV} (h0 : w 0 ≤ 3) {c : Nat} (hc : c ≤ 3) : zT w ^ c ≤ 64 :=
  Nat.le_trans (Nat.pow_le_pow_left (zT_le h0) c) (Nat.le_trans (Nat.pow_le_pow_right (by decide) hc) (by decide))
theorem zN_le {w : WV} (h : GW w) : zN w ≤ 64 := zP_le h.1 h.2.2.2.1
theorem zN_pos (w : WV) : 0 < zN w := zP_pos w _
theorem zvl_lt (w : WV) (s c : Nat) : zvl w s c < zT w := Nat.mod_lt _ (zT_pos w)
theorem zvl_le (w : WV) (s c : Nat) : zvl w s c ≤ w 0 := Nat.le_of_lt_succ (zvl_lt w s c)
theorem zvl_part (w : WV) (s c : Nat) : zT w ^ c * zvl w s c ≤ s := Nat.le_trans (Nat.mul_le_mul_left _ (Nat.mod_le _ _)) (Nat.mul_div_le s _)
/-- a state is: above, the cell, below -/
theorem zvl_cut (w : WV) (s c : Nat) : s = zT w ^ c * zT w * (s / zT w ^ c / zT w) + zT w ^ c * zvl w s c + s % zT w ^ c := by
  have h1 := Nat.div_add_mod s (zT w ^ c)
  have h2 := Nat.div_add_mod (s / zT w ^ c) (zT w)
  have h3 : zT w ^ c * (zT w * (s / zT w ^ c / zT w) + s / zT w ^ c % zT w) = zT w ^ c * zT w * (s / zT w ^ c / zT w) + zT w ^ c * (s / zT w ^ c % zT w) := by rw [Nat.mul_add, Nat.mul_assoc]
  rw [h2] at h3
  unfold zvl
  omega
theorem zwv_cut (w : WV) (s c v : Nat) : zwv w s c v = zT w ^ c * zT w * (s / zT w ^ c / zT w) + zT w ^ c * v + s % zT w ^ c := by
  have h := zvl_cut w s c
  unfold zwv
  generalize s / zT w ^ c / zT w = q at h ⊢
  generalize s % zT w ^ c = r at h ⊢
  omega
theorem zwv_lt {w : WV} {s c v : Nat} (hs : s < zN w) (hc : c < w 3) (hv : v ≤ w 0) : zwv w s c v < zN w := by
  rw [zwv_cut]
  have hr := Nat.mod_lt s (zP_pos w c)
  have hN : zN w = zT w ^ c * zT w * zT w ^ (w 3 - c - 1) := by
    unfold zN
    rw [← Nat.pow_succ, ← Nat.pow_add]; congr 1; omega
  have hq : s / zT w ^ c / zT w < zT w ^ (w 3 - c - 1) := by
    rw [Nat.div_div_eq_div_mul]
    exact Nat.div_lt_of_lt_mul (by rw [← hN]; exact hs)
  have h1 : zT w ^ c * v + zT w ^ c ≤ zT w ^ c * zT w := by
    rw [← Nat.mul_succ]; exact Nat.mul_le_mul_left _ (by unfold zT; omega)
  have h2 : zT w ^ c * zT w * (s / zT w ^ c / zT w) + zT w ^ c * zT w ≤ zT w ^ c * zT w * zT w ^ (w 3 - c - 1) := by
    rw [← Nat.mul_succ]; exact Nat.mul_le_mul_left _ hq
  rw [hN]
  omega
theorem zvl_wv (w : WV) (s c v : Nat) (hv : v ≤ w 0) : zvl w (zwv w s c v) c = v := by
  rw [zwv_cut]
  unfold zvl
  have hr := Nat.mod_lt s (zP_pos w c)
  have e : zT w ^ c * zT w * (s / zT w ^ c / zT w) + zT w ^ c * v + s % zT w ^ c = zT w ^ c * (zT w * (s / zT w ^ c / zT w) + v) + s % zT w ^ c := by rw [Nat.mul_add, Nat.mul_assoc]
  rw [e, Nat.mul_add_div (zP_pos w c), Nat.div_eq_of_lt hr, Nat.add_zero, Nat.mul_add_mod, Nat.mod_eq_of_lt]
  unfold zT; omega
theorem zany_s (p : Nat → Bool) (n : Nat) : zany p (n + 1) = (zany p n || p n) := rfl
theorem zany_t {p : Nat → Bool} : ∀ {n : Nat}, zany p n = true ↔ ∃ k, k < n ∧ p k = true
  | 0 => ⟨fun h => (by cases h), fun ⟨k, h, _⟩ => absurd h (Nat.not_lt_zero _)⟩
  | n + 1 => by
    rw [zany_s, Bool.or_eq_true, zany_t]
    refine ⟨fun h => ?_, fun ⟨k, h1, h2⟩ => ?_⟩
    · rcases h with ⟨k, h1, h2⟩ | h
      · exact ⟨k, by omega, h2⟩
      · exact ⟨n, by omega, h⟩
    · by_cases hk : k = n
      · subst hk; exact Or.inr h2
      · exact Or.inl ⟨k, by omega, h2⟩
theorem zany_congr {p q : Nat → Bool} : ∀ {n : Nat}, (∀ k, k < n → p k = q k) → zany p n = zany q n
  | 0, _ => rfl
  | n + 1, h => by rw [zany_s, zany_s, h n (by omega), zany_congr (fun k hk => h k (by omega))]
theorem itf_id {α : Type} {f : Nat → α → α} : ∀ (n i : Nat) (a : α), (∀ k a, i ≤ k → k < i + n → f k a = a) → itf f i n a = a
  | 0, _, _, _ => rfl
  | n + 1, i, a, h => by rw [itf_s, h i a (Nat.le_refl _) (by omega)]; exact itf_id n (i + 1) a (fun k a h1 h2 => h k a (by omega) (by omega))
theorem zlev_up {w : WV} {dr wo b s k : Nat} (h : zlev w dr wo b k s = true) : zlev w dr wo b (k + 1) s = true := by
  show (zlev w dr wo b k s || _) = true
  rw [h, Bool.true_or]
theorem zlev_mono {w : WV} {dr wo b s k : Nat} (h : zlev w dr wo b k s = true) : ∀ n, zlev w dr wo b (k + n) s = true
  | 0 => h
  | n + 1 => zlev_up (zlev_mono h n)
theorem zlev_no {w : WV} {dr wo b : Nat} (h : zval w dr b = false) : ∀ k s, zlev w dr wo b k s = false
  | 0, s => by show (zval w dr b && _) = false; rw [h, Bool.false_and]
  | k + 1, s => by
    show (zlev w dr wo b k s || zany _ _) = false
    rw [zlev_no h k s, Bool.false_or]
    cases hq : zany (fun t => zlev w dr wo b k t && zedge w dr wo t s) (zN w) with
    | false => rfl
    | true =>
      obtain ⟨t, _, ht⟩ := zany_t.mp hq
      rw [zlev_no h k t, Bool.false_and] at ht
      cases ht
theorem zfar_le {w : WV} {dr wo b s : Nat} : ∀ {k : Nat}, zlev w dr wo b k s = true → zfar w dr wo b s k ≤ k
  | 0, h => by show (if _ then _ else _) ≤ _; rw [if_pos h]; exact Nat.le_refl _
  | k + 1, h => by
    show (if _ then _ else if _ then _ else _) ≤ _
    by_cases q : zlev w dr wo b k s = true
    · rw [if_pos q]; exact Nat.le_succ_of_le (zfar_le q)
    · rw [if_neg q, if_pos h]; exact Nat.le_refl _
theorem zfar_no {w : WV} {dr wo b s : Nat} : ∀ {k : Nat}, ¬ zlev w dr wo b k s = true → zfar w dr wo b s k = zFAR
  | 0, h => by show (if _ then _ else _) = _; rw [if_neg h]
  | k + 1, h => by
    show (if _ then _ else if _ then _ else _) = _
    rw [if_neg (fun q => h (zlev_up q)), if_neg h]
theorem zfar_s (w : WV) (dr wo b s k : Nat) : zfar w dr wo b s (k + 1) = if zlev w dr wo b k s = true then zfar w dr wo b s k else if zlev w dr wo b (k + 1) s = true then k + 1 else zFAR := rfl
theorem zfar_bd (w : WV) (dr wo b s : Nat) {k : Nat} (hk : k ≤ 3) : zfar w dr wo b s k ≤ zFAR := by
  by_cases q : zlev w dr wo b k s = true
  · have := zfar_le q; unfold zFAR; omega
  · rw [zfar_no q]; exact Nat.le_refl _
/-- exactly at a level -/
theorem zfar_eq {w : WV} {dr wo b s k : Nat} (hk : k ≤ 3) : zfar w dr wo b s k = k ↔ zlev w dr wo b k s = true ∧ ∀ j, j < k → zlev w dr wo b j s = false := by
  constructor
  · intro h
    have h1 : zlev w dr wo b k s = true := by
      cases q : zlev w dr wo b k s with
      | true => rfl
      | false => rw [zfar_no (by rw [q]; decide)] at h; unfold zFAR at h; omega
    refine ⟨h1, fun j hj => ?_⟩
    cases q : zlev w dr wo b j s with
    | false => rfl
    | true =>
      have q2 : zlev w dr wo b (k - 1) s = true := by
        have := zlev_mono q (k - 1 - j)
        rwa [show j + (k - 1 - j) = k - 1 by omega] at this
      obtain ⟨m, rfl⟩ : ∃ m, k = m + 1 := ⟨k - 1, by omega⟩
      have q3 : zlev w dr wo b m s = true := q2
      rw [zfar_s, if_pos q3] at h
      have := zfar_le q3
      omega
  · intro ⟨h1, h2⟩
    cases k with
    | zero => show (if _ then _ else _) = _; rw [if_pos h1]
    | succ m => rw [zfar_s, if_neg (by rw [h2 m (by omega)]; decide), if_pos h1]
/-- up to a level -/
theorem zfar_up {w : WV} {dr wo b s : Nat} {d : Nat} : ∀ {k : Nat}, d ≤ k → k ≤ 3 → (zfar w dr wo b s k ≤ d ↔ zlev w dr wo b d s = true)
  | 0, h, _ => by
    obtain rfl : d = 0 := by omega
    by_cases q : zlev w dr wo b 0 s = true
    · exact ⟨fun _ => q, fun _ => zfar_le q⟩
    · rw [zfar_no q]; exact ⟨fun h => by unfold zFAR at h; omega, fun h => absurd h q⟩
  | k + 1, h, hk => by
    by_cases e : d = k + 1
    · subst e
      by_cases q : zlev w dr wo b (k + 1) s = true
      · exact ⟨fun _ => q, fun _ => zfar_le q⟩
      · rw [zfar_no q]; exact ⟨fun h => by unfold zFAR at h; omega, fun h => absurd h q⟩
    · have ih := @zfar_up w dr wo b s d k (by omega) (by omega)
      rw [zfar_s]
      by_cases q : zlev w dr wo b k s = true
      · rw [if_pos q]; exact ih
      · rw [if_neg q]
        constructor
        · intro h2
          by_cases q2 : zlev w dr wo b (k + 1) s = true
          · rw [if_pos q2] at h2; omega
          · rw [if_neg q2] at h2; unfold zFAR at h2; omega
        · intro h2
          have := zlev_mono h2 (k - d)
          rw [show d + (k - d) = k by omega] at this
          exact absurd this q
/-- another cell stays as it was -/
theorem zvl_other {w : WV} (s : Nat) {a b : Nat} (x : Nat) (hx : x ≤ w 0) (h : a ≠ b) : zvl w (zwv w s a x) b = zvl w s b := by
  have hs := zvl_cut w s a
  have ht := zwv_cut w s a x
  have hv := zvl_lt w s a
  have hr := Nat.mod_lt s (zP_pos w a)
  generalize s / zT w ^ a / zT w = q at hs ht
  generalize zvl w s a = d at hs hv
  generalize s % zT w ^ a = r at hs ht hr
  have hx' : x < zT w := by unfold zT; omega
  have hT := zT_pos w
  have hP := zP_pos w a
  rcases Nat.lt_or_ge b a with hb | hb
  · -- below: both are alike modulo the power above b
    have e : zT w ^ a = zT w ^ b * (zT w * zT w ^ (a - b - 1)) := by
      rw [← Nat.pow_succ', ← Nat.pow_add]; congr 1; omega
    unfold zvl
    rw [ht, hs, e]
    have f : ∀ y, zT w ^ b * (zT w * zT w ^ (a - b - 1)) * zT w * q + zT w ^ b * (zT w * zT w ^ (a - b - 1)) * y + r = zT w ^ b * (zT w * (zT w ^ (a - b - 1) * zT w * q + zT w ^ (a - b - 1) * y)) + r := by
      intro y
      have : zT w ^ b * (zT w * (zT w ^ (a - b - 1) * zT w * q + zT w ^ (a - b - 1) * y)) = zT w ^ b * (zT w * zT w ^ (a - b - 1)) * zT w * q + zT w ^ b * (zT w * zT w ^ (a - b - 1)) * y := by
        simp only [Nat.mul_add, Nat.mul_assoc]
      omega
    rw [f x, f d, Nat.mul_add_div (zP_pos w b), Nat.mul_add_div (zP_pos w b), Nat.mul_add_mod, Nat.mul_add_mod]
  · -- above: both are alike divided by the power
    have hb2 : a + 1 ≤ b := by omega
    have e : zT w ^ b = zT w ^ a * zT w * zT w ^ (b - a - 1) := by
      rw [← Nat.pow_succ, ← Nat.pow_add]; congr 1; omega
    unfold zvl
    have g : ∀ y, y < zT w → (zT w ^ a * zT w * q + zT w ^ a * y + r) / (zT w ^ a * zT w) = q := by
      intro y hy
      have h1 : zT w ^ a * y + zT w ^ a ≤ zT w ^ a * zT w := by rw [← Nat.mul_succ]; exact Nat.mul_le_mul_left _ hy
      rw [Nat.add_assoc, Nat.mul_add_div (Nat.mul_pos hP hT), Nat.div_eq_of_lt (by omega)]
      rfl
    have A : ∀ y, y < zT w → (zT w ^ a * zT w * q + zT w ^ a * y + r) / (zT w ^ a * zT w * zT w ^ (b - a - 1)) = q / zT w ^ (b - a - 1) := fun y hy => (Nat.div_div_eq_div_mul (zT w ^ a * zT w * q + zT w ^ a * y + r) (zT w ^ a * zT w) (zT w ^ (b - a - 1))).symm.trans (congrArg (fun z => z / zT w ^ (b - a - 1)) (g y hy))
    have B1 : zwv w s a x / zT w ^ b = q / zT w ^ (b - a - 1) := by rw [ht, e]; exact A x hx'
    have B2 : s / zT w ^ b = q / zT w ^ (b - a - 1) := by rw [e]; exact (congrArg (fun z => z / (zT w ^ a * zT w * zT w ^ (b - a - 1))) hs).trans (A d hv)
    rw [B1, B2]
