/-! THE COMPONENT: its questions answer as the model's -/
section CASK
variable {j : JX} {Λ : JLam} {k : Nat → Nat} {F c : CE} {G : HG} {w : WV} {N : Nat}
theorem zif_t (x : Int32) : zif true x = x := rfl
theorem zif_f (x : Int32) : zif false x = -2 := rfl
theorem c_is (h : Rp k F c G) {v : NV} (C : CO j k F c w v) (hg : GW w) {P Q : Prop} (p : decide (0 < w 7) = false → P) (q : decide (0 < w 7) = true → Q) : gtQ G (k 0) 0 1 fun q1 => nnq q1 fun a2 => isO G a2 2 (hX2_is j Λ a2 G fun x4 G3 => (x4 = 0 → P) ∧ (¬ x4 = 0 → Q)) := by
  have h7 := hg.2.2.2.2.2.2.2.1
  obtain ⟨rl, ol, bdr, blk, h1, _⟩ := C.2.1
  refine a_now h C (isO_c h h1 (gI_c h h1 rfl ?_))
  refine ⟨fun r => ⟨fun _ => p ?_, fun s => absurd rfl s⟩, fun r => ⟨fun s => absurd s one_ne, fun _ => q ?_⟩⟩
  · exact decide_eq_false (fun s => (nI_nle s (by omega)) r)
  · exact decide_eq_true (Nat.pos_of_ne_zero (fun s => r (by rw [s]; exact nI_le (b := 0) (Nat.le_refl _) (by omega))))
theorem q_states (h : Rp k F c G) (C : CO j k F c w (znv w)) (hg : GW w) {post : Int32 → HG → Prop} (kk : post (zq_states w) G) : hX0_states j Λ (k 0) G post := by
  unfold zq_states at kk
  refine c_is (Λ := Λ) h C hg (fun q => ?_) (fun q => a_0 h C (c_states0 h C hg ?_))
  · rw [q] at kk; exact kk
  · rw [q] at kk; exact kk
theorem q_value (h : Rp k F c G) (C : CO j k F c w (znv w)) (hg : GW w) {x y : Int32} {post : Int32 → HG → Prop} (kk : post (zq_value w x y) G) : hX0_value j Λ (k 0) x y G post := by
  have hN := zN_le hg
  have h3 := hg.2.2.2.1
  unfold zq_value at kk
  refine a_0 h C (c_isState h C hg ?_)
  rw [Int32.toInt_toInt64]
  refine zb_0 (fun q => ?_) (fun q => a_0 h C (c_isCell h C hg (zb_0 (fun q2 => ?_) (fun q2 => ?_))))
  · rw [q, Bool.false_and] at kk; exact kk
  · rw [q, q2] at kk; exact kk
  · rw [q, q2] at kk
    obtain ⟨_, s, hs, rfl⟩ := zisS_nI q
    obtain ⟨i, hi, rfl⟩ := zin_nI q2
    refine a_0 h C (c_valueOf h C hg (by omega) (by omega) ?_)
    rw [tn (by omega), tn (by omega)] at kk
    exact kk
theorem q_weight (h : Rp k F c G) (C : CO j k F c w (znv w)) (hg : GW w) {x : Int32} {post : Int32 → HG → Prop} (kk : post (zq_weight w x) G) : hX0_weight j Λ (k 0) x G post := by
  have hN := zN_le hg
  have h3 := hg.2.2.2.1
  unfold zq_weight at kk
  refine a_0 h C (c_isState h C hg ?_)
  rw [Int32.toInt_toInt64]
  refine zb_0 (fun q => ?_) (fun q => ?_)
  · rw [q] at kk; exact kk
  · rw [q] at kk
    obtain ⟨_, s, hs, rfl⟩ := zisS_nI q
    rw [tn (by omega)] at kk
    refine ⟨w 3 + 1, lpH (A := Int32 × Int32 × HG) (fun n p => hX0_weight_l16 j Λ (k 0) (nI s) post n p.1 p.2.1 p.2.2) (fun K p => hX0_weight_b16 j Λ (k 0) (nI s) post (fun a i G => K (a, i, G)) p.1 p.2.1 p.2.2) (fun _ _ => rfl) (fun r p => ∃ i a, p = (nI a, nI i, G) ∧ i + r = w 3 ∧ itf (fun c a => a + zvl w s c) i r a = zwt w s) ?_ ?_ (w 3) (0, 0, G) ⟨0, 0, rfl, by omega, rfl⟩⟩
    · rintro K p ⟨i, a, rfl, hi, ha⟩
      refine a_cells h C (le_c (by omega) (by omega) (fun _ => ?_) (fun q => by omega))
      rw [← ha] at kk
      exact kk
    · rintro r K p ⟨i, a, rfl, hi, ha⟩ hk
      refine a_cells h C (le_c (by omega) (by omega) (fun q => by omega) (fun _ => a_0 h C (c_valueOf h C hg (by omega) (by omega) (hk _ ⟨i + 1, a + zvl w s i, ?_, by omega, ha⟩))))
      rw [nI_add, nI_1]
theorem q_holds (h : Rp k F c G) (C : CO j k F c w (znv w)) (hg : GW w) {x y : Int32} {post : Int32 → HG → Prop} (kk : post (zq_holds w x y) G) : hX0_holds j (jLam j (N + 1)) (k 0) x y G post := by
  have hN := zN_le hg
  have h4 := hg.2.2.2.2.1
  unfold zq_holds at kk
  refine a_0 h C (c_isRule h C hg (zb_0 (fun q => ?_) (fun q => a_0 h C (c_isState h C hg ?_))))
  · rw [q, Bool.and_false] at kk; exact kk
  · rw [Int32.toInt_toInt64]
    refine zb_0 (fun q2 => ?_) (fun q2 => ?_)
    · rw [q2, Bool.false_and] at kk; exact kk
    · rw [q, q2] at kk
      obtain ⟨_, s, hs, rfl⟩ := zisS_nI q2
      obtain ⟨r, hr, rfl⟩ := zin_nI q
      rw [tn (by omega), tn (by omega)] at kk
      refine a_rule h C hg hr (fun l hl => c_rule h C hg hr hl (by omega) (zb_0 (fun hh => ?_) (fun hh => ?_)))
      · rw [hh] at kk; exact kk
      · rw [hh] at kk; exact kk
theorem q_valid (h : Rp k F c G) (C : CO j k F c w (znv w)) (V : CV j c w (zdr w)) (hg : GW w) {x : Int32} {post : Int32 → HG → Prop} (kk : post (zq_valid w x) G) : hX0_valid j Λ (k 0) x G post := by
  have hN := zN_le hg
  unfold zq_valid at kk
  refine a_0 h C (c_isState h C hg ?_)
  rw [Int32.toInt_toInt64]
  refine zb_0 (fun q => ?_) (fun q => ?_)
  · rw [q, zif_f] at kk
    cases hd : decide (0 < w 7) <;> (rw [hd] at kk; exact kk)
  · obtain ⟨h7, s, hs, rfl⟩ := zisS_nI q
    rw [q, decide_eq_true h7, tn (by omega)] at kk
    refine a_valid h C hg V hs (zb_0 (fun hh => ?_) (fun hh => ?_))
    · rw [hh] at kk; exact kk
    · rw [hh] at kk; exact kk
theorem q_valids (h : Rp k F c G) (C : CO j k F c w (znv w)) (V : CV j c w (zdr w)) (hg : GW w) {post : Int32 → HG → Prop} (kk : post (zq_valids w) G) : hX0_valids j Λ (k 0) G post := by
  unfold zq_valids at kk
  refine c_is (Λ := Λ) h C hg (fun q => ?_) (fun q => a_0 h C (c_validsNow h C hg V ?_))
  · rw [q] at kk; exact kk
  · rw [q] at kk; exact kk
theorem q_breaks (h : Rp k F c G) (C : CO j k F c w (znv w)) (hg : GW w) {x : Int32} {post : Int32 → HG → Prop} (kk : post (zq_breaks w x) G) : hX0_breaks j (jLam j (N + 1)) (k 0) x G post := by
  have hN := zN_le hg
  unfold zq_breaks at kk
  refine a_0 h C (c_isState h C hg ?_)
  rw [Int32.toInt_toInt64]
  refine zb_0 (fun q => ?_) (fun q => ?_)
  · rw [q, zif_f] at kk
    cases hd : decide (0 < w 7) <;> (rw [hd] at kk; exact kk)
  · obtain ⟨h7, s, hs, rfl⟩ := zisS_nI q
    rw [q, decide_eq_true h7, tn (by omega)] at kk
    exact a_0 h C (c_breaksIn h C hg (znv_ok hg) (by omega) kk)
theorem q_does (h : Rp k F c G) (C : CO j k F c w (znv w)) (V : CV j c w (zdr w)) (hg : GW w) {x y : Int32} {post : Int32 → HG → Prop} (kk : post (zq_does w x y) G) : hX0_does j (jLam j (N + 1)) (k 0) x y G post := by
  have hN := zN_le hg
  have h5 := hg.2.2.2.2.2.1
  unfold zq_does at kk
  refine a_0 h C (c_isOp h C hg (zb_0 (fun q => ?_) (fun q => a_0 h C (c_isState h C hg ?_))))
  · rw [q, zif_f] at kk
    cases hd : decide (0 < w 7) <;> cases hs : zisS w y.toInt <;> (rw [hd, hs] at kk; exact kk)
  · rw [Int32.toInt_toInt64]
    refine zb_0 (fun q2 => ?_) (fun q2 => ?_)
    · rw [q2, zif_f] at kk
      cases hd : decide (0 < w 7) <;> (rw [hd] at kk; exact kk)
    · obtain ⟨h7, s, hs, rfl⟩ := zisS_nI q2
      obtain ⟨o, ho, rfl⟩ := zin_nI q
      rw [q, q2, decide_eq_true h7, tn (by omega), tn (by omega)] at kk
      exact a_0 h C (c_stepIn h C hg V ho hs kk)
theorem c_worksOf (h : Rp k F c G) {v : NV} (C : CO j k F c w v) {dr : Nat} (V : CV j c w dr) (hg : GW w) {o : Nat} (ho : o < w 5) {post : Int32 → HG → Prop} (kk : post (nI (zwk w dr o)) G) : hX0_worksOf j (jLam j (N + 1)) (k 0) (nI o) G post := by
  have hN := zN_le hg
  refine ⟨zN w + 1, lpH (A := Int32 × Int32 × HG) (fun n p => hX0_worksOf_l4 j (jLam j (N + 1)) (k 0) (nI o) post n p.1 p.2.1 p.2.2) (fun K p => hX0_worksOf_b4 j (jLam j (N + 1)) (k 0) (nI o) post (fun a i G => K (a, i, G)) p.1 p.2.1 p.2.2) (fun _ _ => rfl) (fun r p => ∃ i a, p = (nI a, nI i, G) ∧ i + r = zN w ∧ itf (fun s a => a + zb1 (zval w dr s && (zgo w dr o s).isSome)) i r a = zwk w dr o) ?_ ?_ (zN w) (0, 0, G) ⟨0, 0, rfl, by omega, rfl⟩⟩
  · rintro K p ⟨i, a, rfl, hi, ha⟩
    refine a_0 h C (c_states0 h C hg (le_c (by omega) (by omega) (fun _ => ?_) (fun q => by omega)))
    rw [← ha] at kk
    exact kk
  · rintro r K p ⟨i, a, rfl, hi, ha⟩ hk
    refine a_0 h C (c_states0 h C hg (le_c (by omega) (by omega) (fun q => by omega) (fun _ => a_valid h C hg V (by omega) (zb_0 (fun q => ?_) (fun q => a_0 h C (c_stepIn h C hg V ho (by omega) ?_))))))
    · refine hk _ ⟨i + 1, a + zb1 (zval w dr i && (zgo w dr o i).isSome), ?_, by omega, ha⟩
      rw [q, Bool.false_and]
      show (nI a + nI 0, nI i + 1, G) = _
      rw [nI_add, nI_1]; rfl
    · cases hgo : zgo w dr o i with
      | none =>
        refine ⟨fun _ => hk _ ⟨i + 1, a + zb1 (zval w dr i && (zgo w dr o i).isSome), ?_, by omega, ha⟩, fun q => absurd rfl q⟩
        rw [hgo, q]
        show (nI a + nI 0, nI i + 1, G) = _
        rw [nI_add, nI_1]; rfl
      | some t =>
        have ht := (zgo_lt hg ho (show i < zN w by omega) hgo).1
        refine ⟨fun q => absurd q (nI_nm1 (by omega)), fun _ => hk _ ⟨i + 1, a + zb1 (zval w dr i && (zgo w dr o i).isSome), ?_, by omega, ha⟩⟩
        rw [hgo, q]
        show (nI a + nI 1, nI i + 1, G) = _
        rw [nI_add, nI_1]; rfl
theorem q_works (h : Rp k F c G) (C : CO j k F c w (znv w)) (V : CV j c w (zdr w)) (hg : GW w) {x : Int32} {post : Int32 → HG → Prop} (kk : post (zq_works w x) G) (h7 : zin x.toInt (w 5) = true → 0 < w 7) : hX0_works j (jLam j (N + 1)) (k 0) x G post := by
  have h5 := hg.2.2.2.2.2.1
  unfold zq_works at kk
  refine a_0 h C (c_isOp h C hg (zb_0 (fun q => ?_) (fun q => ?_)))
  · rw [q, zif_f] at kk
    cases hd : decide (0 < w 7) <;> (rw [hd] at kk; exact kk)
  · rw [q, decide_eq_true (h7 q)] at kk
    obtain ⟨o, ho, rfl⟩ := zin_nI q
    rw [tn (by omega)] at kk
    exact a_0 h C (c_worksOf h C V hg ho kk)
theorem q_merge (h : Rp k F c G) (C : CO j k F c w (znv w)) (hg : GW w) {b x y : Int32} {post : Int32 → HG → Prop} (kk : post (zq_merge w b x y) G) : hX0_merge j (jLam j (N + 2)) (k 0) b x y G post := by
  have hN := zN_le hg
  unfold zq_merge at kk
  refine a_0 h C (c_isState h C hg ?_)
  rw [Int32.toInt_toInt64]
  refine zb_0 (fun q => ?_) (fun q => a_0 h C (c_isState h C hg ?_))
  · rw [q, zif_f] at kk
    cases hd : decide (0 < w 7) <;> (rw [hd] at kk; exact kk)
  · obtain ⟨h7, s, hs, rfl⟩ := zisS_nI q
    rw [Int32.toInt_toInt64]
    refine zb_0 (fun q2 => ?_) (fun q2 => a_0 h C (c_isState h C hg ?_))
    · rw [q, q2, decide_eq_true h7] at kk; exact kk
    · rw [Int32.toInt_toInt64]
      obtain ⟨_, s2, hs2, rfl⟩ := zisS_nI q2
      refine zb_0 (fun q3 => ?_) (fun q3 => ?_)
      · rw [q, q2, q3, decide_eq_true h7] at kk; exact kk
      · obtain ⟨_, s3, hs3, rfl⟩ := zisS_nI q3
        rw [q, q2, q3, decide_eq_true h7, tn (by omega), tn (by omega), tn (by omega)] at kk
        exact a_0 h C (c_mergeOf h C hg (znv_ok hg) hs hs2 hs3 kk)
theorem q_even (h : Rp k F c G) (C : CO j k F c w (znv w)) (hg : GW w) {b x y : Int32} {post : Int32 → HG → Prop} (kk : post (zq_even w b x y) G) : hX0_even j (jLam j (N + 2)) (k 0) b x y G post := by
  have hN := zN_le hg
  unfold zq_even at kk
  refine a_0 h C (c_isState h C hg ?_)
  rw [Int32.toInt_toInt64]
  refine zb_0 (fun q => ?_) (fun q => a_0 h C (c_isState h C hg ?_))
  · rw [q, zif_f] at kk
    cases hd : decide (0 < w 7) <;> (rw [hd] at kk; exact kk)
  · obtain ⟨h7, s, hs, rfl⟩ := zisS_nI q
    rw [Int32.toInt_toInt64]
    refine zb_0 (fun q2 => ?_) (fun q2 => a_0 h C (c_isState h C hg ?_))
    · rw [q, q2, decide_eq_true h7] at kk; exact kk
    · rw [Int32.toInt_toInt64]
      obtain ⟨_, s2, hs2, rfl⟩ := zisS_nI q2
      refine zb_0 (fun q3 => ?_) (fun q3 => ?_)
      · rw [q, q2, q3, decide_eq_true h7] at kk; exact kk
      · obtain ⟨_, s3, hs3, rfl⟩ := zisS_nI q3
        rw [q, q2, q3, decide_eq_true h7, tn (by omega), tn (by omega), tn (by omega)] at kk
        have m1 := zmg_lt w (zmb w) (w 1) s s2 s3
        have m2 := zmg_lt w (zmb w) (w 1) s s3 s2
        refine a_0 h C (c_mergeOf h C hg (znv_ok hg) hs hs2 hs3 (a_0 h C (c_mergeOf h C hg (znv_ok hg) hs hs3 hs2 (eq_c (by show zmg w (zmb w) (w 1) s s2 s3 < _; omega) (by show zmg w (zmb w) (w 1) s s3 s2 < _; omega) (fun e => ?_) (fun e => ?_)))))
        · rw [decide_eq_true (show zmg w (zmb w) (w 1) s s2 s3 = zmg w (zmb w) (w 1) s s3 s2 from e)] at kk; exact kk
        · rw [decide_eq_false (show ¬ zmg w (zmb w) (w 1) s s2 s3 = zmg w (zmb w) (w 1) s s3 s2 from e)] at kk; exact kk
end CASK
