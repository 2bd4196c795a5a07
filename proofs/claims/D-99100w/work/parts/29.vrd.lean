/-! the reader: its structure, strings in its code -/
set_option maxRecDepth 100000
def RdS (o k : Nat) (r : Rh) : Prop := rK r o = 7 ∧ rP r o 9 = some k ∧ KpS k r ∧ F1 o 1 1 16 r ∧ F1 o 2 2 144 r
section VRD
variable {g : Gl} {x : Cx} {cc : ByteArray} {nL : Nat} {d : Nat} {q : Nat × Nat} {pc : Nat} {lv : List (Nat × Value)} {st : List Value} {I : MI} {r : Rh} {E : Prop} {i k : Nat} {tx : String} {bs : List Int32}
theorem v_ldcS (h : Amb g x cc nL RX7 d) (hi : strT[i]? = some (k, tx, bs)) (hd : decode cc pc = .ok (.ldc k, 2)) (kk : V g x nL q (pc + 2) lv (.ref (gX g (10 + i)) :: st) I r E) : V g x nL q pc lv st I r E :=
  fun hE H locs ls hR hS hl => va_ldcS h.1 h.2.1 h.2.2.2.1 (xS_of h hi).1 hd (kk hE H locs ls hR hS hl)
theorem v_slen (h : Amb g x cc nL RX7 d) (hi : strT[i]? = some (k, tx, bs)) (hd : decode cc pc = .ok (.invokevirtual 47, 3)) (hdd : 2 ≤ d) (hroom : (st.map fun v => v.category).sum ≤ 8) (hq : q.1 ≤ (xR x).cells ∧ q.2 ≤ (xR x).slots) (kk : V g x nL q (pc + 3) lv (.int (Int32.ofNat bs.length) :: st) I r E) : V g x nL q pc lv (.ref (gX g (10 + i)) :: st) I r E := by
  refine v_eq (E' := (fun Q' : Int32 → Prop => Q' (Int32.ofNat bs.length)) (fun v => v = Int32.ofNat bs.length ∧ E)) (by simp) ?_
  refine v_callStr h hi hd kX7_47 (tJ7_length hi I r) (by omega) rfl rfl hroom hq (fun v => ?_)
  exact v_and (fun hv => by rw [hv]; exact kk)
theorem v_schr (h : Amb g x cc nL RX7 d) (hi : strT[i]? = some (k, tx, bs)) {j : Int32} (hd : decode cc pc = .ok (.invokevirtual 52, 3)) (hdd : 5 ≤ d) (hroom : (st.map fun v => v.category).sum ≤ 8) (hq : q.1 ≤ (xR x).cells ∧ q.2 ≤ (xR x).slots) (kk : V g x nL q (pc + 3) lv (.int (bs.getD j.toNatClampNeg 0 &&& 255) :: st) I r E) : V g x nL q pc lv (.int j :: .ref (gX g (10 + i)) :: st) I r (vp_in j bs.length ∧ E) := by
  refine v_and (fun hj => ?_)
  refine v_eq (E' := (fun Q' : Int32 → Prop => Q' (bs.getD j.toNatClampNeg 0 &&& 255)) (fun v => v = bs.getD j.toNatClampNeg 0 &&& 255 ∧ E)) (by simp) ?_
  refine v_callStr h hi hd kX7_52 (tJ7_charAt hi hj I r) (by omega) rfl rfl hroom hq (fun v => ?_)
  exact v_and (fun hv => by rw [hv]; exact kk)
end VRD
