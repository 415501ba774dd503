/-! SYSTEM ROWS IV: is it a row of that kind -/
section HSYS4
variable {p : Program} {l : Launch} {e : Env} {R : Room} {s : State} {m : MethodId} {args : Array Value} {below : List Frame} {meth : Method} {c : Code} {H : Heap} {locs : List Loc} {cells slots : Nat} {Q : State → Prop}
variable {cc : ByteArray} {nL : Nat} {own : String} {D : va_G} {A0 : Nat → Prop} {Z : (Nat → Prop) → State → Heap → Prop} {G : HG} {pc : Nat} {ls : Array Slot} {rest : List Value} {a : Nat} {j : JX} {Λ : JLam} {fr lo : Nat}
def arrNm (t : Nat) : String := match t with
  | 0 => "[I"
  | 1 => "[Z"
  | 2 => "[B"
  | 3 => "[J"
  | _ => "[S"
theorem arrNm_at (X : XC p s m args meth c cc nL own D jC (jty j.1) A0 Z) {t : Nat} (ht : t < 5) : s.vm.findClass (arrNm t) = some (j.1 t) := by
  rcases t with _ | _ | _ | _ | _ | t
  · exact (X.2.2.2.2.2.1.2 0 _ (show (jty j.1)[0]? = some (j.1 0, .int) from rfl)).2
  · exact (X.2.2.2.2.2.1.2 1 _ (show (jty j.1)[1]? = some (j.1 1, .boolean) from rfl)).2
  · exact (X.2.2.2.2.2.1.2 2 _ (show (jty j.1)[2]? = some (j.1 2, .byte) from rfl)).2
  · exact (X.2.2.2.2.2.1.2 3 _ (show (jty j.1)[3]? = some (j.1 3, .long) from rfl)).2
  · exact (X.2.2.2.2.2.1.2 4 _ (show (jty j.1)[4]? = some (j.1 4, .short) from rfl)).2
  · omega
def inA (j : JX) (G : HG) (v : Option Nat) (nm : String) (K : Int32 → Prop) : Prop := (v = none → K 0) ∧ ∀ y, v = some y → ∃ (b : Bool) (t : Nat) (x : vp_A), t < 5 ∧ G y = some (b, .inl (j.1 t, x)) ∧ ((arrNm t = nm ∧ K 1) ∨ (Cond.not (.castable (arrNm t) nm) ∈ lw_tbl ∧ K 0))
theorem hr_instA (E : JE l Z D j Λ fr lo) (X : XC p s m args meth c cc nL own D jC (jty j.1) A0 Z) (hI : HI D jC G A0 s.heap H locs) {v : Option Nat} {nm : String} {index : Nat} {K : Int32 → Prop} (h : inA j G v nm K) (hq : Cond.classLink own index nm ∈ lw_all) (hdg : decode cc pc = .ok (.instanceof index, 3))
    (kk : ∀ x, K x → W p l e R s m args below meth c H locs cells slots Q (F0 m (pc + 3) ls (.int x :: rest))) : W p l e R s m args below meth c H locs cells slots Q (F0 m pc ls (va_rf v :: rest)) := by
  cases v with
  | none => exact lv_instN X.1 X.2.1 hdg (kk _ (h.1 rfl))
  | some y =>
    obtain ⟨b, t, x, ht, g1, g3⟩ := h.2 y rfl
    have hvm0 : (vp_cell (j.1 t) x).vm = .none := by
      obtain ⟨n, f | f | f | f | f⟩ := x <;> rfl
    have hcl0 : (vp_cell (j.1 t) x).cls = j.1 t := by
      obtain ⟨n, f | f | f | f | f⟩ := x <;> rfl
    have hr : hRecv s H y (arrNm t) := ⟨_, (hI.1 y b _ g1).1, by rw [hvm0]; rfl, by rw [hcl0]; exact arrNm_at X ht⟩
    rcases g3 with ⟨g3, k1⟩ | ⟨g3, k0⟩
    · rw [g3] at hr
      exact va_instE X.1 X.2.1 X.2.2.2.1 (X.2.2.2.2.1 _ hq) hr hdg (kk _ k1)
    · exact va_instNo X.1 X.2.1 X.2.2.2.1 (X.2.2.2.2.1 _ hq) ((E.w X).2.2.2.1 _ _ g3) hr hdg (kk _ k0)
end HSYS4
