/-! MADE OBJECTS: the environment, level by level -/
def jSt (D : va_G) (U : State) : Prop := (∀ k, k < 34 → jMade D U k (if k = 23 then "MergeJudge$Least" else "MergeJudge")) ∧ jFace U xMerge ∧ jFace U xRule ∧ jFace U xStep ∧ jFace U xBreak ∧ jFace U xAnswer ∧ jFace U xUndo
theorem JE_0 {l : Launch} {Z : (Nat → Prop) → State → Heap → Prop} {D : va_G} {j : JX} (hz : ZK Z) (h1 : ∀ A U H, Z A U H → jZ j A U H) (h2 : ∀ A U H, Z A U H → jS j D U) (fr lo : Nat) : JE l Z D j jLam0 fr lo :=
  ⟨hz, h1, HMk0_of h2, HMk1_of h2, fun _ _ _ _ _ _ h => h.elim, fun _ _ _ _ h => h.elim, fun _ _ _ _ h => h.elim, fun _ _ _ _ _ _ _ _ _ h => h.elim, fun _ _ _ _ _ h => h.elim, fun _ _ _ _ _ h => h.elim⟩
theorem JE_succ {l : Launch} {Z : (Nat → Prop) → State → Heap → Prop} {D : va_G} {j : JX} {Λ : JLam} {fr lo : Nat} (E : JE l Z D j Λ fr lo) (hZ : ∀ A U H, Z A U H → jSt D U) : JE l Z D j (jLamS j Λ) (fr + lamF) (lo + lamL) := by
  refine ⟨E.1, E.2.1, E.2.2.1, E.2.2.2.1, ?_, ?_, ?_, ?_, ?_, ?_⟩
  · intro q x1 x2 x3 G post h
    rcases h with h | h | h | h | h | h | h | h
    · exact lamH_0 E (fun A U H hz => ⟨(hZ A U H hz).1 0 (by decide), (hZ A U H hz).2.1⟩) q x1 x2 x3 G post h
    · exact lamH_1 E (fun A U H hz => ⟨(hZ A U H hz).1 1 (by decide), (hZ A U H hz).2.1⟩) q x1 x2 x3 G post h
    · exact lamH_2 E (fun A U H hz => ⟨(hZ A U H hz).1 2 (by decide), (hZ A U H hz).2.1⟩) q x1 x2 x3 G post h
    · exact lamH_3 E (fun A U H hz => ⟨(hZ A U H hz).1 3 (by decide), (hZ A U H hz).2.1⟩) q x1 x2 x3 G post h
    · exact lamH_4 E (fun A U H hz => ⟨(hZ A U H hz).1 4 (by decide), (hZ A U H hz).2.1⟩) q x1 x2 x3 G post h
    · exact lamH_5 E (fun A U H hz => ⟨(hZ A U H hz).1 5 (by decide), (hZ A U H hz).2.1⟩) q x1 x2 x3 G post h
    · exact lamH_6 E (fun A U H hz => ⟨(hZ A U H hz).1 6 (by decide), (hZ A U H hz).2.1⟩) q x1 x2 x3 G post h
    · exact lamH_7 E (fun A U H hz => ⟨(hZ A U H hz).1 7 (by decide), (hZ A U H hz).2.1⟩) q x1 x2 x3 G post h
  · intro q x1 G post h
    rcases h with h | h | h | h | h | h
    · exact lamH_8 E (fun A U H hz => ⟨(hZ A U H hz).1 8 (by decide), (hZ A U H hz).2.2.1⟩) q x1 G post h
    · exact lamH_9 E (fun A U H hz => ⟨(hZ A U H hz).1 9 (by decide), (hZ A U H hz).2.2.1⟩) q x1 G post h
    · exact lamH_10 E (fun A U H hz => ⟨(hZ A U H hz).1 10 (by decide), (hZ A U H hz).2.2.1⟩) q x1 G post h
    · exact lamH_11 E (fun A U H hz => ⟨(hZ A U H hz).1 11 (by decide), (hZ A U H hz).2.2.1⟩) q x1 G post h
    · exact lamH_12 E (fun A U H hz => ⟨(hZ A U H hz).1 12 (by decide), (hZ A U H hz).2.2.1⟩) q x1 G post h
    · exact lamH_13 E (fun A U H hz => ⟨(hZ A U H hz).1 13 (by decide), (hZ A U H hz).2.2.1⟩) q x1 G post h
  · intro q x1 G post h
    rcases h with h | h | h | h
    · exact lamH_14 E (fun A U H hz => ⟨(hZ A U H hz).1 14 (by decide), (hZ A U H hz).2.2.2.1⟩) q x1 G post h
    · exact lamH_15 E (fun A U H hz => ⟨(hZ A U H hz).1 15 (by decide), (hZ A U H hz).2.2.2.1⟩) q x1 G post h
    · exact lamH_16 E (fun A U H hz => ⟨(hZ A U H hz).1 16 (by decide), (hZ A U H hz).2.2.2.1⟩) q x1 G post h
    · exact lamH_17 E (fun A U H hz => ⟨(hZ A U H hz).1 17 (by decide), (hZ A U H hz).2.2.2.1⟩) q x1 G post h
  · intro q x1 x2 x3 x4 mc ms G post h
    rcases h with h | h | h | h | h | h
    · exact lamH_18 E (fun A U H hz => ⟨(hZ A U H hz).1 18 (by decide), (hZ A U H hz).2.2.2.2.1⟩) q x1 x2 x3 x4 mc ms G post h
    · exact lamH_20 E (fun A U H hz => ⟨(hZ A U H hz).1 20 (by decide), (hZ A U H hz).2.2.2.2.1⟩) q x1 x2 x3 x4 mc ms G post h
    · exact lamH_21 E (fun A U H hz => ⟨(hZ A U H hz).1 21 (by decide), (hZ A U H hz).2.2.2.2.1⟩) q x1 x2 x3 x4 mc ms G post h
    · exact lamH_22 E (fun A U H hz => ⟨(hZ A U H hz).1 22 (by decide), (hZ A U H hz).2.2.2.2.1⟩) q x1 x2 x3 x4 mc ms G post h
    · exact lamH_23 E (fun A U H hz => ⟨(hZ A U H hz).1 23 (by decide), (hZ A U H hz).2.2.2.2.1⟩) q x1 x2 x3 x4 mc ms G post h
    · exact lamH_24 E (fun A U H hz => ⟨(hZ A U H hz).1 24 (by decide), (hZ A U H hz).2.2.2.2.1⟩) q x1 x2 x3 x4 mc ms G post h
  · intro q mc ms G post h
    rcases h with h | h | h | h | h | h | h | h | h
    · exact lamH_19 E (fun A U H hz => ⟨(hZ A U H hz).1 19 (by decide), (hZ A U H hz).2.2.2.2.2.1⟩) q mc ms G post h
    · exact lamH_25 E (fun A U H hz => ⟨(hZ A U H hz).1 25 (by decide), (hZ A U H hz).2.2.2.2.2.1⟩) q mc ms G post h
    · exact lamH_26 E (fun A U H hz => ⟨(hZ A U H hz).1 26 (by decide), (hZ A U H hz).2.2.2.2.2.1⟩) q mc ms G post h
    · exact lamH_27 E (fun A U H hz => ⟨(hZ A U H hz).1 27 (by decide), (hZ A U H hz).2.2.2.2.2.1⟩) q mc ms G post h
    · exact lamH_28 E (fun A U H hz => ⟨(hZ A U H hz).1 28 (by decide), (hZ A U H hz).2.2.2.2.2.1⟩) q mc ms G post h
    · exact lamH_29 E (fun A U H hz => ⟨(hZ A U H hz).1 29 (by decide), (hZ A U H hz).2.2.2.2.2.1⟩) q mc ms G post h
    · exact lamH_30 E (fun A U H hz => ⟨(hZ A U H hz).1 30 (by decide), (hZ A U H hz).2.2.2.2.2.1⟩) q mc ms G post h
    · exact lamH_31 E (fun A U H hz => ⟨(hZ A U H hz).1 31 (by decide), (hZ A U H hz).2.2.2.2.2.1⟩) q mc ms G post h
    · exact lamH_32 E (fun A U H hz => ⟨(hZ A U H hz).1 32 (by decide), (hZ A U H hz).2.2.2.2.2.1⟩) q mc ms G post h
  · intro q mc ms G post h
    exact lamH_33 E (fun A U H hz => ⟨(hZ A U H hz).1 33 (by decide), (hZ A U H hz).2.2.2.2.2.2⟩) q mc ms G post h
