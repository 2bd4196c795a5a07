/-! V, second part: fields, arrays, calls, ends, loops, joins -/
set_option maxRecDepth 100000
theorem Rp.upd {g : Gl} {I I' : MI} {r : Rh} {H H' : Heap} {P' : MP} {a : Nat} (h : Rp g I r H) (hz : H'.size = H.size) (ho : ∀ q : Nat, q ≠ a → H'[q]? = H[q]?) (hI : ∀ b, b ≠ a → I' b = I b) (hP : ∀ b, b ≠ a → P' b = rP r b)
    (hobj : ∀ (c : Nat) (q : vw_C), rK r a = c → vCl[c]? = some q → t_OB a ((gD g).1 c) q.2.2 ((gD g).2 c) H' (fv c I' P' a))
    (harr : ∀ (t : Nat) (ty : FieldType), rK r a = 50 + t → vTy[t]? = some ty → H'[a]? = some (vc ty (gA g t) (rL r a) I' P' a)) : Rp g I' (P', rK r, rL r, rN r, rS r) H' := by
  refine ⟨hz.trans h.1, fun b => ?_⟩
  by_cases hb : b = a
  · subst hb
    exact ⟨(h.2 b).1, hobj, harr⟩
  · refine ⟨(h.2 b).1, fun c q hc hq => ?_, fun t ty ht hq => ?_⟩
    · have h1 := (h.2 b).2.1 c q hc hq
      have e : fv c I' P' b = fv c I (rP r) b := by funext k; simp only [fv, hI b hb, hP b hb]
      show t_OB b _ _ _ H' (fv c I' P' b)
      rw [e]
      exact h1.kept (ho b hb)
    · have h1 := (h.2 b).2.2 t ty ht hq
      have e : vc ty (gA g t) (rL r b) I' P' b = vc ty (gA g t) (rL r b) I (rP r) b := by simp only [vc, hI b hb, hP b hb]
      show H'[b]? = some (vc ty (gA g t) (rL r b) I' P' b)
      rw [e, ho b hb]
      exact h1
theorem wI_ne {I : MI} {a k b : Nat} {v : Int32} (h : b ≠ a) : wI I a k v b = I b := by
  funext j
  simp [wI, h]
theorem wI_same (I : MI) (a k : Nat) (v : Int32) : wI I a k v a k = v := by simp [wI]
theorem wI_at (I : MI) (a k b j : Nat) (v : Int32) : wI I a k v b j = if b = a ∧ j = k then v else I b j := rfl
theorem fv_wI {c : Nat} {I : MI} {P : MP} {a k : Nat} {v : Int32} (hr : vRef c k = false) : fv c (wI I a k v) P a = updV (fv c I P a) k (.int v) := by
  funext j
  by_cases hj : j = k
  · subst hj
    simp [fv, updV, hr, wI]
  · simp [fv, updV, hj, wI]
theorem wP_ne {r : Rh} {a k b : Nat} {v : Option Nat} (h : b ≠ a) : rP (wP r a k v) b = rP r b := by
  funext j
  show (if b = a ∧ j = k then v else rP r b j) = rP r b j
  simp [h]
theorem wP_at (r : Rh) (a k b j : Nat) (v : Option Nat) : rP (wP r a k v) b j = if b = a ∧ j = k then v else rP r b j := rfl
theorem fv_wP {c : Nat} {I : MI} {r : Rh} {a k : Nat} {v : Option Nat} (hr : vRef c k = true) : fv c I (rP (wP r a k v)) a = updV (fv c I (rP r) a) k (va_rf v) := by
  funext j
  by_cases hj : j = k
  · subst hj
    simp [fv, updV, hr, wP_at]
  · simp [fv, updV, hj, wP_at]
theorem vc_wI {ty : FieldType} {cA : ClassId} {n : Nat} {I : MI} {P : MP} {a k : Nat} {v : Int32} (ht : ty.isReference = false) : vc ty cA n (wI I a k v) P a = (vc ty cA n I P a).setSlot k (.int v) := by
  unfold vc
  rw [arrV_store]
  congr 1
  funext j
  by_cases hj : j = k
  · subst hj
    simp [updV, ht, wI]
  · simp [updV, hj, wI]
theorem vc_wP {ty : FieldType} {cA : ClassId} {n : Nat} {I : MI} {r : Rh} {a k : Nat} {v : Option Nat} (ht : ty.isReference = true) : vc ty cA n I (rP (wP r a k v)) a = (vc ty cA n I (rP r) a).setSlot k (va_rf v) := by
  unfold vc
  rw [arrV_store]
  congr 1
  funext j
  by_cases hj : j = k
  · subst hj
    simp [updV, ht, wP_at]
  · simp [updV, hj, wP_at]
/-- a field that the code of 'own' names by its pool's entry idx: field k of class c -/
def FieldT (own : String) (idx c k : Nat) (fin : Bool) (τ : FieldType) : Prop := ∃ (C : String) (T : u_T) (N : Nat) (ty : Nat → FieldType) (ref : String), vCl[c]? = some (C, T, N) ∧ (∀ w ∈ u_ws C T N, w ∈ lw_all) ∧ k < N ∧ (ref = (T k).1 ∨ Cond.sameField ref (T k).1 (T k).2.1 (T k).2.2.1 ∈ lw_all) ∧ (∀ j, j < N → parseFieldDescriptor (T j).2.2.1 = some (ty j)) ∧ (∀ a, a < N → ∀ b, b < N → a ≠ b → (T a).2.1 ≠ (T b).2.1) ∧ (T k).2.2.2 = fin ∧ ty k = τ ∧
  (Cond.fieldLink own idx ref (T k).2.1 (T k).2.2.1 ∈ lw_all ∨ ∃ host, Cond.fieldLinkNest own idx ref (T k).2.1 (T k).2.2.1 host ∈ lw_tbl)
section VHEAP
variable {g : Gl} {x : Cx} {cc : ByteArray} {nL : Nat} {own : String} {d : Nat} {q : Nat × Nat} {pc : Nat} {lv lv' : List (Nat × Value)} {st : List Value} {I : MI} {r : Rh} {E : Prop}
theorem v_get (h : Amb g x cc nL own d) {idx c k a : Nat} {fin : Bool} {τ : FieldType} (hd : decode cc pc = .ok (.getfield idx, 3)) (hf : FieldT own idx c k fin τ) (hK : rK r a = c) (kk : V g x nL q (pc + 3) lv (fv c I (rP r) a k :: st) I r E) : V g x nL q pc lv (.ref a :: st) I r E := by
  intro hE H locs ls hR hS hl
  obtain ⟨C, T, N, ty, ref, hc, hin, hk, hT, hty, hnm, -, -, hlink⟩ := hf
  obtain ⟨hx, hb, hml, hown, hts, hlk, -, -, hWK, -⟩ := h
  obtain ⟨cell, q1, q2, q3, q4⟩ := (hR.2 a).2.1 c _ hK hc
  obtain ⟨hSl, hfc, kC, hkC, hkind⟩ := hWK.1.1 c _ hc
  obtain ⟨cf, kf, fi, f, hi, hsl⟩ := hSl k hk
  have hst := (u_facts hfc hkC (u_lays hts hin hk) hi).1
  have hv : cell.slots[f.slot]? = some (fv c I (rP r) a k) := by rw [hsl]; exact q4 k hk
  have hi2 : (xs x).fieldFound? ref (T k).2.1 (T k).2.2.1 = some (cf, kf, fi, f) := by
    rcases hT with e | e
    · rw [e]; exact hi
    · exact u_same (hts _ e) _ hi
  rcases hlink with hl1 | ⟨host, hl1⟩
  · exact W.getf hx hb hown (hts _ hl1) hi2 hst q1 (by rw [q3]; exact fun h => by cases h) hv rfl rfl hd (kk hE H locs ls hR hS hl)
  · exact va_Wgetf hx hb hown (va_Nw.use rfl (hWK.2.1 _ hl1 rfl)) hi2 hst q1 (by rw [q3]; exact fun h => by cases h) hv rfl rfl hd (kk hE H locs ls hR hS hl)
theorem v_geti (h : Amb g x cc nL own d) {idx c k a : Nat} {fin : Bool} {τ : FieldType} (hd : decode cc pc = .ok (.getfield idx, 3)) (hf : FieldT own idx c k fin τ) (hr : vRef c k = false) (hK : rK r a = c) (kk : V g x nL q (pc + 3) lv (.int (I a k) :: st) I r E) : V g x nL q pc lv (.ref a :: st) I r E :=
  v_get h hd hf hK (by rw [show fv c I (rP r) a k = .int (I a k) by simp [fv, hr]]; exact kk)
/-- a reference field whose content is known -/
theorem v_getp (h : Amb g x cc nL own d) {idx c k a b : Nat} {fin : Bool} {τ : FieldType} (hd : decode cc pc = .ok (.getfield idx, 3)) (hf : FieldT own idx c k fin τ) (hr : vRef c k = true) (hK : rK r a = c) (hp : rP r a k = some b) (kk : V g x nL q (pc + 3) lv (.ref b :: st) I r E) : V g x nL q pc lv (.ref a :: st) I r E :=
  v_get h hd hf hK (by rw [show fv c I (rP r) a k = .ref b by simp [fv, hr, hp, va_rf]]; exact kk)
/-- a reference field of which the program says that it isn't null -/
theorem v_getx (h : Amb g x cc nL own d) {idx c k a : Nat} {fin : Bool} {τ : FieldType} {E1 : Nat → Prop} (hd : decode cc pc = .ok (.getfield idx, 3)) (hf : FieldT own idx c k fin τ) (hr : vRef c k = true) (hK : rK r a = c) (kk : ∀ b, rP r a k = some b → V g x nL q (pc + 3) lv (.ref b :: st) I r (E1 b)) : V g x nL q pc lv (.ref a :: st) I r (∃ b, rP r a k = some b ∧ E1 b) :=
  fun ⟨b, hp, hE⟩ => v_getp h hd hf hr hK hp (kk b hp) hE
theorem v_putv (h : Amb g x cc nL own d) {idx c k a : Nat} {τ : FieldType} {v : Value} {I' : MI} {P' : MP} (hd : decode cc pc = .ok (.putfield idx, 3)) (hf : FieldT own idx c k false τ) (hn : narrow τ v = v) (hfit : fits τ v = true) (hK : rK r a = c) (hI : ∀ b, b ≠ a → I' b = I b) (hP : ∀ b, b ≠ a → P' b = rP r b) (hv : fv c I' P' a = updV (fv c I (rP r) a) k v) (kk : V g x nL q (pc + 3) lv st I' (P', rK r, rL r, rN r, rS r) E) : V g x nL q pc lv (v :: .ref a :: st) I r E := by
  intro hE H locs ls hR hS hl
  obtain ⟨C, T, N, ty, ref, hc, hin, hk, hT, hty, hnm, hfin, hτ, hlink⟩ := hf
  obtain ⟨hx, hb, hml, hown, hts, hlk, -, -, hWK, -⟩ := h
  obtain ⟨cell, q1, q2, q3, q4⟩ := (hR.2 a).2.1 c _ hK hc
  obtain ⟨hSl, hfc, kC, hkC, hkind⟩ := hWK.1.1 c _ hc
  obtain ⟨cf, kf, fi, f, hi, hsl⟩ := hSl k hk
  have hst := (u_facts hfc hkC (u_lays hts hin hk) hi).1
  have hap := va_apart (own := own) hts hin ty hty hnm hWK.1 hc
  have hlay := hts _ (hin _ (u_in_lay hk))
  unfold u_lay at hlay
  rw [if_neg (by rw [hfin]; decide)] at hlay
  have h6 := u_store hfc hkC hkind hlay hi ((hty k hk).trans (by rw [hτ])) hn hfit
  dsimp only at q4
  have hi2 : (xs x).fieldFound? ref (T k).2.1 (T k).2.2.1 = some (cf, kf, fi, f) := by
    rcases hT with e | e
    · rw [e]; exact hi
    · exact u_same (hts _ e) _ hi
  have hgo : ∀ H' : Heap, H'[a]? = some (cell.setSlot f.slot v) → H'.size = H.size → (∀ q, q ≠ a → H'[q]? = H[q]?) → Rp g I' (P', rK r, rL r, rN r, rS r) H' ∧ va_S (gS g) (xs x).heap H' (locs ++ [⟨a, f.slot⟩]) := by
    intro H' e1 e2 e3
    rw [hsl] at e1
    refine ⟨hR.upd e2 e3 hI hP (fun c2 q2' hc2 hq2 => ?_) (fun t ty' ht hq => ?_), hS.put e2 e3 ((hR.2 a).1 (fun h9 => ?_))⟩
    · have e4 : c2 = c := hc2.symm.trans hK
      subst e4
      have e5 : q2' = (C, T, N) := Option.some.inj (hq2.symm.trans hc)
      subst e5
      rw [hv]
      exact ⟨_, e1, q2, q3, t_set q4 hap hk v⟩
    · have := vCl_lt hc
      omega
    · have := vCl_lt hc
      omega
  rcases hlink with hl1 | ⟨host, hl1⟩
  · refine W.putK hx hb (f := f) ⟨hown, hts _ hl1, ⟨_, _, _, hi2⟩, hst⟩ (by rw [q2]; exact h6) q1 q3 (by rw [hsl]; exact k2_hasslot (q4 k hk)) rfl rfl hd fun H' e1 e2 e3 => ?_
    exact kk hE H' _ ls (hgo H' e1 e2 e3).1 (hgo H' e1 e2 e3).2 hl
  · refine va_WputK hx hb (f := f) hown (va_Nw.use rfl (hWK.2.1 _ hl1 rfl)) hi2 hst (by rw [q2]; exact h6) q1 q3 (by rw [hsl]; exact k2_hasslot (q4 k hk)) rfl rfl hd fun H' e1 e2 e3 => ?_
    exact kk hE H' _ ls (hgo H' e1 e2 e3).1 (hgo H' e1 e2 e3).2 hl
theorem v_puti (h : Amb g x cc nL own d) {idx c k a : Nat} {v : Int32} (hd : decode cc pc = .ok (.putfield idx, 3)) (hf : FieldT own idx c k false .int) (hr : vRef c k = false) (hK : rK r a = c) (kk : V g x nL q (pc + 3) lv st (wI I a k v) r E) : V g x nL q pc lv (.int v :: .ref a :: st) I r E :=
  v_putv (I' := wI I a k v) (P' := rP r) h hd hf rfl rfl hK (fun b hb => wI_ne hb) (fun b hb => rfl) (fv_wI hr) kk
/-- a boolean field: a written 0 or 1 -/
theorem v_putz (h : Amb g x cc nL own d) {idx c k a : Nat} {v : Int32} (hd : decode cc pc = .ok (.putfield idx, 3)) (hf : FieldT own idx c k false .boolean) (hr : vRef c k = false) (hv : v = 0 ∨ v = 1) (hK : rK r a = c) (kk : V g x nL q (pc + 3) lv st (wI I a k v) r E) : V g x nL q pc lv (.int v :: .ref a :: st) I r E :=
  v_putv (I' := wI I a k v) (P' := rP r) h hd hf (by rcases hv with rfl | rfl <;> rfl) (by rcases hv with rfl | rfl <;> rfl) hK (fun b hb => wI_ne hb) (fun b hb => rfl) (fv_wI hr) kk
theorem v_putzE (h : Amb g x cc nL own d) {idx c k a : Nat} {v : Int32} (hd : decode cc pc = .ok (.putfield idx, 3)) (hf : FieldT own idx c k false .boolean) (hr : vRef c k = false) (hK : rK r a = c) (kk : V g x nL q (pc + 3) lv st (wI I a k v) r E) : V g x nL q pc lv (.int v :: .ref a :: st) I r ((v = 0 ∨ v = 1) ∧ E) :=
  fun hE => v_putz h hd hf hr hE.1 hK kk hE.2
theorem v_alen (h : Amb g x cc nL own d) {a t n : Nat} {ty : FieldType} (hd : decode cc pc = .ok (.arraylength, 1)) (hK : rK r a = 50 + t) (ht : vTy[t]? = some ty) (hL : rL r a = n) (kk : V g x nL q (pc + 1) lv (.int (Int32.ofNat n) :: st) I r E) : V g x nL q pc lv (.ref a :: st) I r E := by
  intro hE H locs ls hR hS hl
  subst hL
  exact W.alen (n := Int32.ofNat (rL r a)) h.1 h.2.1 ((hR.2 a).2.2 t ty hK ht) ((h.2.2.2.2.2.2.2.2.1.1.2 t _ (gT_at ht)).1 _ _) (by unfold vc; rw [arrV_size]) rfl rfl hd (kk hE H locs ls hR hS hl)
theorem v_ialdK (h : Amb g x cc nL own d) {a n : Nat} {i : Int32} (hd : decode cc pc = .ok (.iaload, 1)) (hK : rK r a = 50) (hL : rL r a = n) (hin : vp_in i n) (kk : V g x nL q (pc + 1) lv (.int (I a i.toNatClampNeg) :: st) I r E) : V g x nL q pc lv (.int i :: .ref a :: st) I r E := by
  intro hE H locs ls hR hS hl
  subst hL
  have hlt : i.toNatClampNeg < rL r a := Nat.not_le.mp fun q => hin (Or.inr q)
  refine W.iald (v := .int (I a i.toNatClampNeg)) h.1 h.2.1 ((hR.2 a).2.2 0 .int hK rfl) ((h.2.2.2.2.2.2.2.2.1.1.2 0 _ (gT_at (ty := .int) rfl)).1 _ _) (fun q => by cases q) (by unfold vc; rw [arrV_size]; exact hin) ?_ rfl rfl hd (kk hE H locs ls hR hS hl)
  unfold vc
  rw [arrV_read _ _ hlt]
  rfl
theorem v_iald (h : Amb g x cc nL own d) {a n : Nat} {i : Int32} (hd : decode cc pc = .ok (.iaload, 1)) (hK : rK r a = 50) (hL : rL r a = n) (kk : V g x nL q (pc + 1) lv (.int (I a i.toNatClampNeg) :: st) I r E) : V g x nL q pc lv (.int i :: .ref a :: st) I r (vp_in i n ∧ E) :=
  fun hE => v_ialdK h hd hK hL hE.1 kk hE.2
theorem v_baldK (h : Amb g x cc nL own d) {a n : Nat} {i : Int32} (hd : decode cc pc = .ok (.baload, 1)) (hK : rK r a = 51) (hL : rL r a = n) (hin : vp_in i n) (kk : V g x nL q (pc + 1) lv (.int (I a i.toNatClampNeg) :: st) I r E) : V g x nL q pc lv (.int i :: .ref a :: st) I r E := by
  intro hE H locs ls hR hS hl
  subst hL
  have hlt : i.toNatClampNeg < rL r a := Nat.not_le.mp fun q => hin (Or.inr q)
  refine W.bald (v := .int (I a i.toNatClampNeg)) h.1 h.2.1 ((hR.2 a).2.2 1 .byte hK rfl) ((h.2.2.2.2.2.2.2.2.1.1.2 1 _ (gT_at (ty := .byte) rfl)).1 _ _) (fun q => by cases q) (by unfold vc; rw [arrV_size]; exact hin) ?_ rfl rfl hd (kk hE H locs ls hR hS hl)
  unfold vc
  rw [arrV_read _ _ hlt]
  rfl
theorem v_bald (h : Amb g x cc nL own d) {a n : Nat} {i : Int32} (hd : decode cc pc = .ok (.baload, 1)) (hK : rK r a = 51) (hL : rL r a = n) (kk : V g x nL q (pc + 1) lv (.int (I a i.toNatClampNeg) :: st) I r E) : V g x nL q pc lv (.int i :: .ref a :: st) I r (vp_in i n ∧ E) :=
  fun hE => v_baldK h hd hK hL hE.1 kk hE.2
theorem v_iastK (h : Amb g x cc nL own d) {a n : Nat} {i v : Int32} (hd : decode cc pc = .ok (.iastore, 1)) (hK : rK r a = 50) (hL : rL r a = n) (hin : vp_in i n) (kk : V g x nL q (pc + 1) lv st (wI I a i.toNatClampNeg v) r E) : V g x nL q pc lv (.int v :: .int i :: .ref a :: st) I r E := by
  intro hE H locs ls hR hS hl
  subst hL
  refine W.iast h.1 h.2.1 ((hR.2 a).2.2 0 .int hK rfl) ((h.2.2.2.2.2.2.2.2.1.1.2 0 _ (gT_at (ty := .int) rfl)).1 _ _) (fun q => by cases q) (by unfold vc; rw [arrV_size]; exact hin) rfl rfl hd fun H' e1 e2 e3 => ?_
  refine kk hE H' _ ls (hR.upd (I' := wI I a i.toNatClampNeg v) (P' := rP r) e2 e3 (fun b hb => wI_ne hb) (fun b hb => rfl) (fun c q hc hq => ?_) (fun t ty ht hq => ?_)) (hS.put e2 e3 ((hR.2 a).1 (by omega))) hl
  · have := vCl_lt hq
    omega
  · have e : t = 0 := by omega
    subst e
    have e : ty = .int := (Option.some.inj hq).symm
    subst e
    rw [vc_wI rfl]
    exact e1
theorem v_iast (h : Amb g x cc nL own d) {a n : Nat} {i v : Int32} (hd : decode cc pc = .ok (.iastore, 1)) (hK : rK r a = 50) (hL : rL r a = n) (kk : V g x nL q (pc + 1) lv st (wI I a i.toNatClampNeg v) r E) : V g x nL q pc lv (.int v :: .int i :: .ref a :: st) I r (vp_in i n ∧ E) :=
  fun hE => v_iastK h hd hK hL hE.1 kk hE.2
theorem v_aald (h : Amb g x cc nL own d) {a t n : Nat} {ty : FieldType} {i : Int32} (hd : decode cc pc = .ok (.aaload, 1)) (hK : rK r a = 50 + t) (ht : vTy[t]? = some ty) (hty : ty.isReference = true) (hL : rL r a = n) (hin : vp_in i n) (kk : V g x nL q (pc + 1) lv (va_rf (rP r a i.toNatClampNeg) :: st) I r E) : V g x nL q pc lv (.int i :: .ref a :: st) I r E := by
  intro hE H locs ls hR hS hl
  subst hL
  have hlt : i.toNatClampNeg < rL r a := Nat.not_le.mp fun q => hin (Or.inr q)
  refine W.aald (v := va_rf (rP r a i.toNatClampNeg)) h.1 h.2.1 ((hR.2 a).2.2 t ty hK ht) ((h.2.2.2.2.2.2.2.2.1.1.2 t _ (gT_at ht)).1 _ _) hty (fun q => by cases q) (by unfold vc; rw [arrV_size]; exact hin) ?_ rfl rfl hd (kk hE H locs ls hR hS hl)
  unfold vc
  rw [arrV_read _ _ hlt]
  simp only [hty, if_true]
/-- an element that is a known cell -/
theorem v_aaldp (h : Amb g x cc nL own d) {a t n b : Nat} {ty : FieldType} {i : Int32} (hd : decode cc pc = .ok (.aaload, 1)) (hK : rK r a = 50 + t) (ht : vTy[t]? = some ty) (hty : ty.isReference = true) (hL : rL r a = n) (hp : vp_in i n → rP r a i.toNatClampNeg = some b) (kk : V g x nL q (pc + 1) lv (.ref b :: st) I r E) : V g x nL q pc lv (.int i :: .ref a :: st) I r (vp_in i n ∧ E) :=
  fun hE => v_aald h hd hK ht hty hL hE.1 (by rw [hp hE.1]; exact kk) hE.2
theorem v_aaldx (h : Amb g x cc nL own d) {a t n : Nat} {ty : FieldType} {i : Int32} {E1 : Nat → Prop} (hd : decode cc pc = .ok (.aaload, 1)) (hK : rK r a = 50 + t) (ht : vTy[t]? = some ty) (hty : ty.isReference = true) (hL : rL r a = n) (kk : ∀ b, vp_in i n → rP r a i.toNatClampNeg = some b → V g x nL q (pc + 1) lv (.ref b :: st) I r (E1 b)) : V g x nL q pc lv (.int i :: .ref a :: st) I r (vp_in i n ∧ ∃ b, rP r a i.toNatClampNeg = some b ∧ E1 b) :=
  fun ⟨hin, b, hp, hE⟩ => v_aald h hd hK ht hty hL hin (by rw [hp]; exact kk b hin hp) hE
theorem v_false : V g x nL q pc lv st I r False := fun h => h.elim
theorem v_ex {E1 : Nat → Prop} (k : ∀ n, V g x nL q pc lv st I r (E1 n)) : V g x nL q pc lv st I r (∃ n, E1 n) := fun ⟨n, h⟩ => k n h
theorem v_and {p : Prop} (k : p → V g x nL q pc lv st I r E) : V g x nL q pc lv st I r (p ∧ E) := fun ⟨h1, h2⟩ => k h1 h2
end VHEAP
/-! contracts: a method that returns an int (a boolean), a method that returns nothing; neither makes cells -/
def CtI (g : Gl) (y : MethodName) (bytes : ByteArray) (maxL : Nat) (ret : Option FieldType) (d : Nat) (av : List Value) (I : MI) (r : Rh) (F : (Int32 → MI → Prop) → Prop) : Prop :=
  ∀ Q : Int32 → MI → Prop, F Q → Met (gl g) y (ws_ y bytes maxL ret) { frames := d, cells := 0, slots := 0, locals := 60 * d } (va_Pc av (RS g I r)) (va_Qi (S := MI) Q (fun I' t => Rp g I' r t.heap) (gS g)) 0 0 (gS g)
def CtV (g : Gl) (y : MethodName) (bytes : ByteArray) (maxL : Nat) (d : Nat) (av : List Value) (I : MI) (r : Rh) (F : (MI → Prop) → Prop) : Prop :=
  ∀ Q : MI → Prop, F Q → Met (gl g) y (ws_ y bytes maxL none) { frames := d, cells := 0, slots := 0, locals := 60 * d } (va_Pc av (RS g I r)) (va_Qv (S := MI) Q (fun I' t => Rp g I' r t.heap) (gS g)) 0 0 (gS g)
def RtI (g : Gl) (x : Cx) (r : Rh) (ret : Option FieldType) (Q : Int32 → MI → Prop) : Prop := xQ x = MQ (xb x) (va_Qi (S := MI) Q (fun I' t => Rp g I' r t.heap) (gS g)) (xa x) (xs x) 0 0 (gS g) ∧ (xM x).sig.returnType = ret
def RtV (g : Gl) (x : Cx) (r : Rh) (Q : MI → Prop) : Prop := xQ x = MQ (xb x) (va_Qv (S := MI) Q (fun I' t => Rp g I' r t.heap) (gS g)) (xa x) (xs x) 0 0 (gS g) ∧ (xM x).sig.returnType = none
section VCT
variable {g : Gl} {x : Cx} {cc : ByteArray} {nL : Nat} {own : String} {d : Nat} {q : Nat × Nat} {pc : Nat} {lv lv' : List (Nat × Value)} {st : List Value} {I : MI} {r : Rh} {E : Prop}
theorem CtI.mk {y : MethodName} {bytes : ByteArray} {maxL : Nat} {ret : Option FieldType} {av : List Value} {F : (Int32 → MI → Prop) → Prop} (hy : plainName y.cls = true) (hlen : (lg_sl av).length ≤ maxL) (hlv : lv_args 0 av = lv)
    (body : ∀ (x : Cx) (Q : Int32 → MI → Prop), Amb g x bytes maxL y.cls d → RtI g x r ret Q → V g x maxL (0, 0) 0 lv [] I r (F Q)) : CtI g y bytes maxL ret d av I r F := by
  intro Q hF
  refine Met.ofW (cc := bytes) (maxL := maxL) (ret := ret) hy rfl ?_
  intro p e s m args below meth c s₁ B hml hv
  obtain ⟨rfl, hR, hW, hb0⟩ := hv
  have hts := atoms_spec (ws := ws_ y bytes maxL ret) B.pre
  have hts : ∀ w ∈ lw_all, w.before _ s = true := fun w h => hts w (List.mem_cons_of_mem _ h)
  have hl := lv_entry av (n := maxL) hlen
  rw [lg_entry_eq]
  exact body (p, e, (headSpec (ws_ y bytes maxL ret) { frames := d, cells := 0, slots := 0, locals := 60 * d }).room, s, m, av.toArray, below, meth, c, MQ below (va_Qi (S := MI) Q (fun I' t => Rp g I' r t.heap) (gS g)) av.toArray s 0 0 (gS g)) Q ⟨B.exec, B.bytes, hml, findClass_of_methodNamed B.named, hts, B.notSynchronized, rfl, rfl, hW, hb0⟩ ⟨rfl, B.returns⟩ hF s.heap [] _ hR va_S.rf (hlv ▸ hl)
theorem CtV.mk {y : MethodName} {bytes : ByteArray} {maxL : Nat} {av : List Value} {F : (MI → Prop) → Prop} (hy : plainName y.cls = true) (hlen : (lg_sl av).length ≤ maxL) (hlv : lv_args 0 av = lv)
    (body : ∀ (x : Cx) (Q : MI → Prop), Amb g x bytes maxL y.cls d → RtV g x r Q → V g x maxL (0, 0) 0 lv [] I r (F Q)) : CtV g y bytes maxL d av I r F := by
  intro Q hF
  refine Met.ofW (cc := bytes) (maxL := maxL) (ret := none) hy rfl ?_
  intro p e s m args below meth c s₁ B hml hv
  obtain ⟨rfl, hR, hW, hb0⟩ := hv
  have hts := atoms_spec (ws := ws_ y bytes maxL none) B.pre
  have hts : ∀ w ∈ lw_all, w.before _ s = true := fun w h => hts w (List.mem_cons_of_mem _ h)
  have hl := lv_entry av (n := maxL) hlen
  rw [lg_entry_eq]
  exact body (p, e, (headSpec (ws_ y bytes maxL none) { frames := d, cells := 0, slots := 0, locals := 60 * d }).room, s, m, av.toArray, below, meth, c, MQ below (va_Qv (S := MI) Q (fun I' t => Rp g I' r t.heap) (gS g)) av.toArray s 0 0 (gS g)) Q ⟨B.exec, B.bytes, hml, findClass_of_methodNamed B.named, hts, B.notSynchronized, rfl, rfl, hW, hb0⟩ ⟨rfl, B.returns⟩ hF s.heap [] _ hR va_S.rf (hlv ▸ hl)
theorem v_iret (h : Amb g x cc nL own d) {Q : Int32 → MI → Prop} {v : Int32} (hr : RtI g x r (some .int) Q) (hd : decode cc pc = .ok (.ireturn, 1)) : V g x nL (0, 0) pc lv [.int v] I r (Q v I) := by
  intro hE H locs ls hR hS hl
  rw [hr.1]
  exact W.iret h.1 h.2.1 hr.2 (fun t ht hW => ⟨⟨v, I, rfl, hE, by show Rp g I r t.heap; rw [ht]; exact hR⟩, hS.F ht⟩) hS.2.2 hd h.2.2.2.2.2.1
theorem v_zret (h : Amb g x cc nL own d) {Q : Int32 → MI → Prop} {v : Int32} (hr : RtI g x r (some .boolean) Q) (hv : v = 0 ∨ v = 1) (hd : decode cc pc = .ok (.ireturn, 1)) : V g x nL (0, 0) pc lv [.int v] I r (Q v I) := by
  intro hE H locs ls hR hS hl
  rw [hr.1]
  exact W.zret h.1 h.2.1 hr.2 (by rcases hv with rfl | rfl <;> rfl) (fun t ht hW => ⟨⟨v, I, rfl, hE, by show Rp g I r t.heap; rw [ht]; exact hR⟩, hS.F ht⟩) hS.2.2 hd h.2.2.2.2.2.1
theorem v_zretE (h : Amb g x cc nL own d) {Q : Int32 → MI → Prop} {v : Int32} (hr : RtI g x r (some .boolean) Q) (hd : decode cc pc = .ok (.ireturn, 1)) : V g x nL (0, 0) pc lv [.int v] I r ((v = 0 ∨ v = 1) ∧ Q v I) :=
  fun hE => v_zret h hr hE.1 hd hE.2
theorem v_vret (h : Amb g x cc nL own d) {Q : MI → Prop} (hr : RtV g x r Q) (hd : decode cc pc = .ok (.return_, 1)) : V g x nL (0, 0) pc lv [] I r (Q I) := by
  intro hE H locs ls hR hS hl
  rw [hr.1]
  exact W.vret h.1 h.2.1 hr.2 (fun t ht hW => ⟨⟨I, rfl, hE, by show Rp g I r t.heap; rw [ht]; exact hR⟩, hS.F ht⟩) hS.2.2 hd h.2.2.2.2.2.1
theorem rs_blind {av : List Value} : FrameBlind (va_Pc av (RS g I r)) := fun a U f mk hq => ⟨hq.1, hq.2.1, WK.same (s := U) (U := U.calling f mk a) rfl hq.2.2.1, HB.same (s := U) (U := U.calling f mk a) rfl rfl hq.2.2.2⟩
theorem rs_recv {c b : Nat} {C : String} {T : u_T} {N : Nat} {s : State} {H : Heap} (hW : WK g s) (hR : Rp g I r H) (hc : vCl[c]? = some (C, T, N)) (hK : rK r b = c) : ∃ cell : Cell, H[b]? = some cell ∧ cell.vm.isStatics = false ∧ s.vm.findClass C = some cell.cls := by
  obtain ⟨cell, q1, q2, q3, q4⟩ := (hR.2 b).2.1 c _ hK hc
  exact ⟨cell, q1, by rw [q3]; rfl, by rw [q2]; exact (hW.1.1 c _ hc).2.1⟩
/-- what a call of the code of 'own' through its pool's entry idx asks -/
def CallT (own : String) (idx : Nat) (C : String) (y : MethodName) (bytes : ByteArray) (maxL : Nat) (ret : Option FieldType) (n : Nat) : Prop :=
  GoodIn lw_all (wsV own idx C y (ws_ y bytes maxL ret)) ∧ (y.cls = C ∧ y.cls ≠ "java/lang/invoke/MethodHandle" ∧ y.cls ≠ "java/lang/invoke/VarHandle" ∧ (parseMethodDescriptor y.desc).map (fun d => d.parameters.length) = some n) ∧ maxL ≤ 41
theorem v_calli (h : Amb g x cc nL own d) {C : String} {T : u_T} {N idx maxL n d' c b : Nat} {y : MethodName} {bytes : ByteArray} {ret : Option FieldType} {As rest : List Value} {F : (Int32 → MI → Prop) → Prop} {E1 : Int32 → MI → Prop} (hd : decode cc pc = .ok (.invokevirtual idx, 3)) (hw : CallT own idx C y bytes maxL ret n) (hc : vCl[c]? = some (C, T, N)) (hK : rK r b = c) (hM : CtI g y bytes maxL ret d' (.ref b :: As) I r F) (hdd : d' + 1 ≤ d) (hn : As.length = n) (hst : st = As.reverse ++ .ref b :: rest) (hroom : (rest.map fun v => v.category).sum ≤ 8) (hq : q = (0, 0))
    (kk : ∀ (v : Int32) (I' : MI), V g x nL q (pc + 3) lv (.int v :: rest) I' r (E1 v I')) : V g x nL q pc lv st I r (F E1) := by
  intro hE H locs ls hR hS hl
  subst hst
  subst hq
  obtain ⟨hx, hb, hml, hown, hts, hlk, hRf, hRl, hWK, hB⟩ := h
  refine va_calli (va_runV (As := As) (rest := rest) ⟨hx, hb, hml, hown, hts⟩ (hM E1 hE) (cwV n hts hw.1 rfl rfl rfl hw.2.1 ⟨by rw [hRf]; exact hdd, by rw [hRl]; show 8 + (maxL + 11) + 60 * d' ≤ 60 * d; have := hw.2.2; omega⟩) ⟨rs_blind, rs_recv hWK hR hc hK, fun U hU hW => ⟨rfl, by rw [hU]; exact hR, WK.warm hW hWK, HB.next hB hS hU hW⟩⟩ rfl hn hl.1 rfl (lv_room hroom) hd ⟨Nat.zero_le _, Nat.zero_le _⟩) hS (fun q _ h => h) (fun q h => h) (fun v u t H1 locs1 ht hvm hp hBt hz hk hS1 => ?_)
  exact kk v u hp H1 locs1 ls (by rw [← ht]; exact hBt) hS1 hl
theorem v_callv (h : Amb g x cc nL own d) {C : String} {T : u_T} {N idx maxL n d' c b : Nat} {y : MethodName} {bytes : ByteArray} {As rest : List Value} {F : (MI → Prop) → Prop} {E1 : MI → Prop} (hd : decode cc pc = .ok (.invokevirtual idx, 3)) (hw : CallT own idx C y bytes maxL none n) (hc : vCl[c]? = some (C, T, N)) (hK : rK r b = c) (hM : CtV g y bytes maxL d' (.ref b :: As) I r F) (hdd : d' + 1 ≤ d) (hn : As.length = n) (hst : st = As.reverse ++ .ref b :: rest) (hroom : (rest.map fun v => v.category).sum ≤ 8) (hq : q = (0, 0))
    (kk : ∀ (I' : MI), V g x nL q (pc + 3) lv rest I' r (E1 I')) : V g x nL q pc lv st I r (F E1) := by
  intro hE H locs ls hR hS hl
  subst hst
  subst hq
  obtain ⟨hx, hb, hml, hown, hts, hlk, hRf, hRl, hWK, hB⟩ := h
  refine va_callv (va_runV (As := As) (rest := rest) ⟨hx, hb, hml, hown, hts⟩ (hM E1 hE) (cwV n hts hw.1 rfl rfl rfl hw.2.1 ⟨by rw [hRf]; exact hdd, by rw [hRl]; show 8 + (maxL + 11) + 60 * d' ≤ 60 * d; have := hw.2.2; omega⟩) ⟨rs_blind, rs_recv hWK hR hc hK, fun U hU hW => ⟨rfl, by rw [hU]; exact hR, WK.warm hW hWK, HB.next hB hS hU hW⟩⟩ rfl hn hl.1 rfl (lv_room hroom) hd ⟨Nat.zero_le _, Nat.zero_le _⟩) hS (fun q _ h => h) (fun q h => h) (fun u t H1 locs1 ht hvm hp hBt hz hk hS1 => ?_)
  exact kk u hp H1 locs1 ls (by rw [← ht]; exact hBt) hS1 hl
end VCT
theorem vpd {i : Int32} {n : Nat} (h : decide (¬ (i < 0 ∨ n ≤ i.toNatClampNeg)) = true) : vp_in i n := of_decide_eq_true (p := ¬ (i < 0 ∨ n ≤ i.toNatClampNeg)) h
/-! loops and joins -/
def lf1 {A1 : Type} (B : (A1 → Prop) → A1 → Prop) : Nat → A1 → Prop
  | 0 => fun _ => False
  | n + 1 => B (lf1 B n)
def L1 {A1 : Type} (B : (A1 → Prop) → A1 → Prop) (a1 : A1) : Prop := ∃ n, lf1 B n a1
theorem L1.run {A1 : Type} {B : (A1 → Prop) → A1 → Prop} {g : Gl} {x : Cx} {nL : Nat} {q : Nat × Nat} {pc : Nat} {lv : A1 → List (Nat × Value)} {st : A1 → List Value} {Im : A1 → MI} {r : A1 → Rh} (hs : ∀ X, (∀ (b1 : A1), V g x nL q pc (lv b1) (st b1) (Im b1) (r b1) (X b1)) → ∀ (a1 : A1), V g x nL q pc (lv a1) (st a1) (Im a1) (r a1) (B X a1)) (a1 : A1) : V g x nL q pc (lv a1) (st a1) (Im a1) (r a1) (L1 B a1) := by
  refine v_ex (fun n => ?_)
  induction n generalizing a1 with
  | zero => exact v_false
  | succ n ih => exact hs (lf1 B n) ih a1
theorem L1.inv {A1 : Type} {B : (A1 → Prop) → A1 → Prop} (Inv : A1 → Prop) (μ : A1 → Nat) (hs : ∀ (X : A1 → Prop) (a1 : A1), Inv a1 → (∀ (b1 : A1), Inv b1 → μ b1 < μ a1 → X b1) → B X a1) (a1 : A1) (h : Inv a1) : L1 B a1 := by
  have key : ∀ (n : Nat) (a1 : A1), Inv a1 → μ a1 < n → lf1 B n a1 := by
    intro n
    induction n with
    | zero => intro a1 _ h; exact absurd h (Nat.not_lt_zero _)
    | succ n ih => intro a1 h1 h2; exact hs _ a1 h1 (fun b1 h3 h4 => ih b1 h3 (by omega))
  exact ⟨_, key (μ a1 + 1) a1 h (Nat.lt_succ_self _)⟩
def jn1 {A1 : Type} (F : (A1 → Prop) → Prop) (k : A1 → Prop) : Prop := F k
theorem v_jn1 {A1 : Type} {F : (A1 → Prop) → Prop} {k : A1 → Prop} {g : Gl} {x : Cx} {nL : Nat} {q : Nat × Nat} {pc : Nat} {lv : List (Nat × Value)} {st : List Value} {I : MI} {r : Rh} (J : A1 → Prop → Prop) (hF : ∀ k' : A1 → Prop, (∀ (a1 : A1), J a1 (k' a1)) → V g x nL q pc lv st I r (F k')) (hk : ∀ (a1 : A1), J a1 (k a1)) : V g x nL q pc lv st I r (jn1 F k) := hF k hk
def lf2 {A1 A2 : Type} (B : (A1 → A2 → Prop) → A1 → A2 → Prop) : Nat → A1 → A2 → Prop
  | 0 => fun _ _ => False
  | n + 1 => B (lf2 B n)
def L2 {A1 A2 : Type} (B : (A1 → A2 → Prop) → A1 → A2 → Prop) (a1 : A1) (a2 : A2) : Prop := ∃ n, lf2 B n a1 a2
theorem L2.run {A1 A2 : Type} {B : (A1 → A2 → Prop) → A1 → A2 → Prop} {g : Gl} {x : Cx} {nL : Nat} {q : Nat × Nat} {pc : Nat} {lv : A1 → A2 → List (Nat × Value)} {st : A1 → A2 → List Value} {Im : A1 → A2 → MI} {r : A1 → A2 → Rh} (hs : ∀ X, (∀ (b1 : A1) (b2 : A2), V g x nL q pc (lv b1 b2) (st b1 b2) (Im b1 b2) (r b1 b2) (X b1 b2)) → ∀ (a1 : A1) (a2 : A2), V g x nL q pc (lv a1 a2) (st a1 a2) (Im a1 a2) (r a1 a2) (B X a1 a2)) (a1 : A1) (a2 : A2) : V g x nL q pc (lv a1 a2) (st a1 a2) (Im a1 a2) (r a1 a2) (L2 B a1 a2) := by
  refine v_ex (fun n => ?_)
  induction n generalizing a1 a2 with
  | zero => exact v_false
  | succ n ih => exact hs (lf2 B n) ih a1 a2
theorem L2.inv {A1 A2 : Type} {B : (A1 → A2 → Prop) → A1 → A2 → Prop} (Inv : A1 → A2 → Prop) (μ : A1 → A2 → Nat) (hs : ∀ (X : A1 → A2 → Prop) (a1 : A1) (a2 : A2), Inv a1 a2 → (∀ (b1 : A1) (b2 : A2), Inv b1 b2 → μ b1 b2 < μ a1 a2 → X b1 b2) → B X a1 a2) (a1 : A1) (a2 : A2) (h : Inv a1 a2) : L2 B a1 a2 := by
  have key : ∀ (n : Nat) (a1 : A1) (a2 : A2), Inv a1 a2 → μ a1 a2 < n → lf2 B n a1 a2 := by
    intro n
    induction n with
    | zero => intro a1 a2 _ h; exact absurd h (Nat.not_lt_zero _)
    | succ n ih => intro a1 a2 h1 h2; exact hs _ a1 a2 h1 (fun b1 b2 h3 h4 => ih b1 b2 h3 (by omega))
  exact ⟨_, key (μ a1 a2 + 1) a1 a2 h (Nat.lt_succ_self _)⟩
def jn2 {A1 A2 : Type} (F : (A1 → A2 → Prop) → Prop) (k : A1 → A2 → Prop) : Prop := F k
theorem v_jn2 {A1 A2 : Type} {F : (A1 → A2 → Prop) → Prop} {k : A1 → A2 → Prop} {g : Gl} {x : Cx} {nL : Nat} {q : Nat × Nat} {pc : Nat} {lv : List (Nat × Value)} {st : List Value} {I : MI} {r : Rh} (J : A1 → A2 → Prop → Prop) (hF : ∀ k' : A1 → A2 → Prop, (∀ (a1 : A1) (a2 : A2), J a1 a2 (k' a1 a2)) → V g x nL q pc lv st I r (F k')) (hk : ∀ (a1 : A1) (a2 : A2), J a1 a2 (k a1 a2)) : V g x nL q pc lv st I r (jn2 F k) := hF k hk
def lf3 {A1 A2 A3 : Type} (B : (A1 → A2 → A3 → Prop) → A1 → A2 → A3 → Prop) : Nat → A1 → A2 → A3 → Prop
  | 0 => fun _ _ _ => False
  | n + 1 => B (lf3 B n)
def L3 {A1 A2 A3 : Type} (B : (A1 → A2 → A3 → Prop) → A1 → A2 → A3 → Prop) (a1 : A1) (a2 : A2) (a3 : A3) : Prop := ∃ n, lf3 B n a1 a2 a3
theorem L3.run {A1 A2 A3 : Type} {B : (A1 → A2 → A3 → Prop) → A1 → A2 → A3 → Prop} {g : Gl} {x : Cx} {nL : Nat} {q : Nat × Nat} {pc : Nat} {lv : A1 → A2 → A3 → List (Nat × Value)} {st : A1 → A2 → A3 → List Value} {Im : A1 → A2 → A3 → MI} {r : A1 → A2 → A3 → Rh} (hs : ∀ X, (∀ (b1 : A1) (b2 : A2) (b3 : A3), V g x nL q pc (lv b1 b2 b3) (st b1 b2 b3) (Im b1 b2 b3) (r b1 b2 b3) (X b1 b2 b3)) → ∀ (a1 : A1) (a2 : A2) (a3 : A3), V g x nL q pc (lv a1 a2 a3) (st a1 a2 a3) (Im a1 a2 a3) (r a1 a2 a3) (B X a1 a2 a3)) (a1 : A1) (a2 : A2) (a3 : A3) : V g x nL q pc (lv a1 a2 a3) (st a1 a2 a3) (Im a1 a2 a3) (r a1 a2 a3) (L3 B a1 a2 a3) := by
  refine v_ex (fun n => ?_)
  induction n generalizing a1 a2 a3 with
  | zero => exact v_false
  | succ n ih => exact hs (lf3 B n) ih a1 a2 a3
theorem L3.inv {A1 A2 A3 : Type} {B : (A1 → A2 → A3 → Prop) → A1 → A2 → A3 → Prop} (Inv : A1 → A2 → A3 → Prop) (μ : A1 → A2 → A3 → Nat) (hs : ∀ (X : A1 → A2 → A3 → Prop) (a1 : A1) (a2 : A2) (a3 : A3), Inv a1 a2 a3 → (∀ (b1 : A1) (b2 : A2) (b3 : A3), Inv b1 b2 b3 → μ b1 b2 b3 < μ a1 a2 a3 → X b1 b2 b3) → B X a1 a2 a3) (a1 : A1) (a2 : A2) (a3 : A3) (h : Inv a1 a2 a3) : L3 B a1 a2 a3 := by
  have key : ∀ (n : Nat) (a1 : A1) (a2 : A2) (a3 : A3), Inv a1 a2 a3 → μ a1 a2 a3 < n → lf3 B n a1 a2 a3 := by
    intro n
    induction n with
    | zero => intro a1 a2 a3 _ h; exact absurd h (Nat.not_lt_zero _)
    | succ n ih => intro a1 a2 a3 h1 h2; exact hs _ a1 a2 a3 h1 (fun b1 b2 b3 h3 h4 => ih b1 b2 b3 h3 (by omega))
  exact ⟨_, key (μ a1 a2 a3 + 1) a1 a2 a3 h (Nat.lt_succ_self _)⟩
def jn3 {A1 A2 A3 : Type} (F : (A1 → A2 → A3 → Prop) → Prop) (k : A1 → A2 → A3 → Prop) : Prop := F k
theorem v_jn3 {A1 A2 A3 : Type} {F : (A1 → A2 → A3 → Prop) → Prop} {k : A1 → A2 → A3 → Prop} {g : Gl} {x : Cx} {nL : Nat} {q : Nat × Nat} {pc : Nat} {lv : List (Nat × Value)} {st : List Value} {I : MI} {r : Rh} (J : A1 → A2 → A3 → Prop → Prop) (hF : ∀ k' : A1 → A2 → A3 → Prop, (∀ (a1 : A1) (a2 : A2) (a3 : A3), J a1 a2 a3 (k' a1 a2 a3)) → V g x nL q pc lv st I r (F k')) (hk : ∀ (a1 : A1) (a2 : A2) (a3 : A3), J a1 a2 a3 (k a1 a2 a3)) : V g x nL q pc lv st I r (jn3 F k) := hF k hk
def lf4 {A1 A2 A3 A4 : Type} (B : (A1 → A2 → A3 → A4 → Prop) → A1 → A2 → A3 → A4 → Prop) : Nat → A1 → A2 → A3 → A4 → Prop
  | 0 => fun _ _ _ _ => False
  | n + 1 => B (lf4 B n)
def L4 {A1 A2 A3 A4 : Type} (B : (A1 → A2 → A3 → A4 → Prop) → A1 → A2 → A3 → A4 → Prop) (a1 : A1) (a2 : A2) (a3 : A3) (a4 : A4) : Prop := ∃ n, lf4 B n a1 a2 a3 a4
theorem L4.run {A1 A2 A3 A4 : Type} {B : (A1 → A2 → A3 → A4 → Prop) → A1 → A2 → A3 → A4 → Prop} {g : Gl} {x : Cx} {nL : Nat} {q : Nat × Nat} {pc : Nat} {lv : A1 → A2 → A3 → A4 → List (Nat × Value)} {st : A1 → A2 → A3 → A4 → List Value} {Im : A1 → A2 → A3 → A4 → MI} {r : A1 → A2 → A3 → A4 → Rh} (hs : ∀ X, (∀ (b1 : A1) (b2 : A2) (b3 : A3) (b4 : A4), V g x nL q pc (lv b1 b2 b3 b4) (st b1 b2 b3 b4) (Im b1 b2 b3 b4) (r b1 b2 b3 b4) (X b1 b2 b3 b4)) → ∀ (a1 : A1) (a2 : A2) (a3 : A3) (a4 : A4), V g x nL q pc (lv a1 a2 a3 a4) (st a1 a2 a3 a4) (Im a1 a2 a3 a4) (r a1 a2 a3 a4) (B X a1 a2 a3 a4)) (a1 : A1) (a2 : A2) (a3 : A3) (a4 : A4) : V g x nL q pc (lv a1 a2 a3 a4) (st a1 a2 a3 a4) (Im a1 a2 a3 a4) (r a1 a2 a3 a4) (L4 B a1 a2 a3 a4) := by
  refine v_ex (fun n => ?_)
  induction n generalizing a1 a2 a3 a4 with
  | zero => exact v_false
  | succ n ih => exact hs (lf4 B n) ih a1 a2 a3 a4
theorem L4.inv {A1 A2 A3 A4 : Type} {B : (A1 → A2 → A3 → A4 → Prop) → A1 → A2 → A3 → A4 → Prop} (Inv : A1 → A2 → A3 → A4 → Prop) (μ : A1 → A2 → A3 → A4 → Nat) (hs : ∀ (X : A1 → A2 → A3 → A4 → Prop) (a1 : A1) (a2 : A2) (a3 : A3) (a4 : A4), Inv a1 a2 a3 a4 → (∀ (b1 : A1) (b2 : A2) (b3 : A3) (b4 : A4), Inv b1 b2 b3 b4 → μ b1 b2 b3 b4 < μ a1 a2 a3 a4 → X b1 b2 b3 b4) → B X a1 a2 a3 a4) (a1 : A1) (a2 : A2) (a3 : A3) (a4 : A4) (h : Inv a1 a2 a3 a4) : L4 B a1 a2 a3 a4 := by
  have key : ∀ (n : Nat) (a1 : A1) (a2 : A2) (a3 : A3) (a4 : A4), Inv a1 a2 a3 a4 → μ a1 a2 a3 a4 < n → lf4 B n a1 a2 a3 a4 := by
    intro n
    induction n with
    | zero => intro a1 a2 a3 a4 _ h; exact absurd h (Nat.not_lt_zero _)
    | succ n ih => intro a1 a2 a3 a4 h1 h2; exact hs _ a1 a2 a3 a4 h1 (fun b1 b2 b3 b4 h3 h4 => ih b1 b2 b3 b4 h3 (by omega))
  exact ⟨_, key (μ a1 a2 a3 a4 + 1) a1 a2 a3 a4 h (Nat.lt_succ_self _)⟩
def jn4 {A1 A2 A3 A4 : Type} (F : (A1 → A2 → A3 → A4 → Prop) → Prop) (k : A1 → A2 → A3 → A4 → Prop) : Prop := F k
theorem v_jn4 {A1 A2 A3 A4 : Type} {F : (A1 → A2 → A3 → A4 → Prop) → Prop} {k : A1 → A2 → A3 → A4 → Prop} {g : Gl} {x : Cx} {nL : Nat} {q : Nat × Nat} {pc : Nat} {lv : List (Nat × Value)} {st : List Value} {I : MI} {r : Rh} (J : A1 → A2 → A3 → A4 → Prop → Prop) (hF : ∀ k' : A1 → A2 → A3 → A4 → Prop, (∀ (a1 : A1) (a2 : A2) (a3 : A3) (a4 : A4), J a1 a2 a3 a4 (k' a1 a2 a3 a4)) → V g x nL q pc lv st I r (F k')) (hk : ∀ (a1 : A1) (a2 : A2) (a3 : A3) (a4 : A4), J a1 a2 a3 a4 (k a1 a2 a3 a4)) : V g x nL q pc lv st I r (jn4 F k) := hF k hk
def lf5 {A1 A2 A3 A4 A5 : Type} (B : (A1 → A2 → A3 → A4 → A5 → Prop) → A1 → A2 → A3 → A4 → A5 → Prop) : Nat → A1 → A2 → A3 → A4 → A5 → Prop
  | 0 => fun _ _ _ _ _ => False
  | n + 1 => B (lf5 B n)
def L5 {A1 A2 A3 A4 A5 : Type} (B : (A1 → A2 → A3 → A4 → A5 → Prop) → A1 → A2 → A3 → A4 → A5 → Prop) (a1 : A1) (a2 : A2) (a3 : A3) (a4 : A4) (a5 : A5) : Prop := ∃ n, lf5 B n a1 a2 a3 a4 a5
theorem L5.run {A1 A2 A3 A4 A5 : Type} {B : (A1 → A2 → A3 → A4 → A5 → Prop) → A1 → A2 → A3 → A4 → A5 → Prop} {g : Gl} {x : Cx} {nL : Nat} {q : Nat × Nat} {pc : Nat} {lv : A1 → A2 → A3 → A4 → A5 → List (Nat × Value)} {st : A1 → A2 → A3 → A4 → A5 → List Value} {Im : A1 → A2 → A3 → A4 → A5 → MI} {r : A1 → A2 → A3 → A4 → A5 → Rh} (hs : ∀ X, (∀ (b1 : A1) (b2 : A2) (b3 : A3) (b4 : A4) (b5 : A5), V g x nL q pc (lv b1 b2 b3 b4 b5) (st b1 b2 b3 b4 b5) (Im b1 b2 b3 b4 b5) (r b1 b2 b3 b4 b5) (X b1 b2 b3 b4 b5)) → ∀ (a1 : A1) (a2 : A2) (a3 : A3) (a4 : A4) (a5 : A5), V g x nL q pc (lv a1 a2 a3 a4 a5) (st a1 a2 a3 a4 a5) (Im a1 a2 a3 a4 a5) (r a1 a2 a3 a4 a5) (B X a1 a2 a3 a4 a5)) (a1 : A1) (a2 : A2) (a3 : A3) (a4 : A4) (a5 : A5) : V g x nL q pc (lv a1 a2 a3 a4 a5) (st a1 a2 a3 a4 a5) (Im a1 a2 a3 a4 a5) (r a1 a2 a3 a4 a5) (L5 B a1 a2 a3 a4 a5) := by
  refine v_ex (fun n => ?_)
  induction n generalizing a1 a2 a3 a4 a5 with
  | zero => exact v_false
  | succ n ih => exact hs (lf5 B n) ih a1 a2 a3 a4 a5
theorem L5.inv {A1 A2 A3 A4 A5 : Type} {B : (A1 → A2 → A3 → A4 → A5 → Prop) → A1 → A2 → A3 → A4 → A5 → Prop} (Inv : A1 → A2 → A3 → A4 → A5 → Prop) (μ : A1 → A2 → A3 → A4 → A5 → Nat) (hs : ∀ (X : A1 → A2 → A3 → A4 → A5 → Prop) (a1 : A1) (a2 : A2) (a3 : A3) (a4 : A4) (a5 : A5), Inv a1 a2 a3 a4 a5 → (∀ (b1 : A1) (b2 : A2) (b3 : A3) (b4 : A4) (b5 : A5), Inv b1 b2 b3 b4 b5 → μ b1 b2 b3 b4 b5 < μ a1 a2 a3 a4 a5 → X b1 b2 b3 b4 b5) → B X a1 a2 a3 a4 a5) (a1 : A1) (a2 : A2) (a3 : A3) (a4 : A4) (a5 : A5) (h : Inv a1 a2 a3 a4 a5) : L5 B a1 a2 a3 a4 a5 := by
  have key : ∀ (n : Nat) (a1 : A1) (a2 : A2) (a3 : A3) (a4 : A4) (a5 : A5), Inv a1 a2 a3 a4 a5 → μ a1 a2 a3 a4 a5 < n → lf5 B n a1 a2 a3 a4 a5 := by
    intro n
    induction n with
    | zero => intro a1 a2 a3 a4 a5 _ h; exact absurd h (Nat.not_lt_zero _)
    | succ n ih => intro a1 a2 a3 a4 a5 h1 h2; exact hs _ a1 a2 a3 a4 a5 h1 (fun b1 b2 b3 b4 b5 h3 h4 => ih b1 b2 b3 b4 b5 h3 (by omega))
  exact ⟨_, key (μ a1 a2 a3 a4 a5 + 1) a1 a2 a3 a4 a5 h (Nat.lt_succ_self _)⟩
def jn5 {A1 A2 A3 A4 A5 : Type} (F : (A1 → A2 → A3 → A4 → A5 → Prop) → Prop) (k : A1 → A2 → A3 → A4 → A5 → Prop) : Prop := F k
theorem v_jn5 {A1 A2 A3 A4 A5 : Type} {F : (A1 → A2 → A3 → A4 → A5 → Prop) → Prop} {k : A1 → A2 → A3 → A4 → A5 → Prop} {g : Gl} {x : Cx} {nL : Nat} {q : Nat × Nat} {pc : Nat} {lv : List (Nat × Value)} {st : List Value} {I : MI} {r : Rh} (J : A1 → A2 → A3 → A4 → A5 → Prop → Prop) (hF : ∀ k' : A1 → A2 → A3 → A4 → A5 → Prop, (∀ (a1 : A1) (a2 : A2) (a3 : A3) (a4 : A4) (a5 : A5), J a1 a2 a3 a4 a5 (k' a1 a2 a3 a4 a5)) → V g x nL q pc lv st I r (F k')) (hk : ∀ (a1 : A1) (a2 : A2) (a3 : A3) (a4 : A4) (a5 : A5), J a1 a2 a3 a4 a5 (k a1 a2 a3 a4 a5)) : V g x nL q pc lv st I r (jn5 F k) := hF k hk
def lf6 {A1 A2 A3 A4 A5 A6 : Type} (B : (A1 → A2 → A3 → A4 → A5 → A6 → Prop) → A1 → A2 → A3 → A4 → A5 → A6 → Prop) : Nat → A1 → A2 → A3 → A4 → A5 → A6 → Prop
  | 0 => fun _ _ _ _ _ _ => False
  | n + 1 => B (lf6 B n)
def L6 {A1 A2 A3 A4 A5 A6 : Type} (B : (A1 → A2 → A3 → A4 → A5 → A6 → Prop) → A1 → A2 → A3 → A4 → A5 → A6 → Prop) (a1 : A1) (a2 : A2) (a3 : A3) (a4 : A4) (a5 : A5) (a6 : A6) : Prop := ∃ n, lf6 B n a1 a2 a3 a4 a5 a6
theorem L6.run {A1 A2 A3 A4 A5 A6 : Type} {B : (A1 → A2 → A3 → A4 → A5 → A6 → Prop) → A1 → A2 → A3 → A4 → A5 → A6 → Prop} {g : Gl} {x : Cx} {nL : Nat} {q : Nat × Nat} {pc : Nat} {lv : A1 → A2 → A3 → A4 → A5 → A6 → List (Nat × Value)} {st : A1 → A2 → A3 → A4 → A5 → A6 → List Value} {Im : A1 → A2 → A3 → A4 → A5 → A6 → MI} {r : A1 → A2 → A3 → A4 → A5 → A6 → Rh} (hs : ∀ X, (∀ (b1 : A1) (b2 : A2) (b3 : A3) (b4 : A4) (b5 : A5) (b6 : A6), V g x nL q pc (lv b1 b2 b3 b4 b5 b6) (st b1 b2 b3 b4 b5 b6) (Im b1 b2 b3 b4 b5 b6) (r b1 b2 b3 b4 b5 b6) (X b1 b2 b3 b4 b5 b6)) → ∀ (a1 : A1) (a2 : A2) (a3 : A3) (a4 : A4) (a5 : A5) (a6 : A6), V g x nL q pc (lv a1 a2 a3 a4 a5 a6) (st a1 a2 a3 a4 a5 a6) (Im a1 a2 a3 a4 a5 a6) (r a1 a2 a3 a4 a5 a6) (B X a1 a2 a3 a4 a5 a6)) (a1 : A1) (a2 : A2) (a3 : A3) (a4 : A4) (a5 : A5) (a6 : A6) : V g x nL q pc (lv a1 a2 a3 a4 a5 a6) (st a1 a2 a3 a4 a5 a6) (Im a1 a2 a3 a4 a5 a6) (r a1 a2 a3 a4 a5 a6) (L6 B a1 a2 a3 a4 a5 a6) := by
  refine v_ex (fun n => ?_)
  induction n generalizing a1 a2 a3 a4 a5 a6 with
  | zero => exact v_false
  | succ n ih => exact hs (lf6 B n) ih a1 a2 a3 a4 a5 a6
theorem L6.inv {A1 A2 A3 A4 A5 A6 : Type} {B : (A1 → A2 → A3 → A4 → A5 → A6 → Prop) → A1 → A2 → A3 → A4 → A5 → A6 → Prop} (Inv : A1 → A2 → A3 → A4 → A5 → A6 → Prop) (μ : A1 → A2 → A3 → A4 → A5 → A6 → Nat) (hs : ∀ (X : A1 → A2 → A3 → A4 → A5 → A6 → Prop) (a1 : A1) (a2 : A2) (a3 : A3) (a4 : A4) (a5 : A5) (a6 : A6), Inv a1 a2 a3 a4 a5 a6 → (∀ (b1 : A1) (b2 : A2) (b3 : A3) (b4 : A4) (b5 : A5) (b6 : A6), Inv b1 b2 b3 b4 b5 b6 → μ b1 b2 b3 b4 b5 b6 < μ a1 a2 a3 a4 a5 a6 → X b1 b2 b3 b4 b5 b6) → B X a1 a2 a3 a4 a5 a6) (a1 : A1) (a2 : A2) (a3 : A3) (a4 : A4) (a5 : A5) (a6 : A6) (h : Inv a1 a2 a3 a4 a5 a6) : L6 B a1 a2 a3 a4 a5 a6 := by
  have key : ∀ (n : Nat) (a1 : A1) (a2 : A2) (a3 : A3) (a4 : A4) (a5 : A5) (a6 : A6), Inv a1 a2 a3 a4 a5 a6 → μ a1 a2 a3 a4 a5 a6 < n → lf6 B n a1 a2 a3 a4 a5 a6 := by
    intro n
    induction n with
    | zero => intro a1 a2 a3 a4 a5 a6 _ h; exact absurd h (Nat.not_lt_zero _)
    | succ n ih => intro a1 a2 a3 a4 a5 a6 h1 h2; exact hs _ a1 a2 a3 a4 a5 a6 h1 (fun b1 b2 b3 b4 b5 b6 h3 h4 => ih b1 b2 b3 b4 b5 b6 h3 (by omega))
  exact ⟨_, key (μ a1 a2 a3 a4 a5 a6 + 1) a1 a2 a3 a4 a5 a6 h (Nat.lt_succ_self _)⟩
def jn6 {A1 A2 A3 A4 A5 A6 : Type} (F : (A1 → A2 → A3 → A4 → A5 → A6 → Prop) → Prop) (k : A1 → A2 → A3 → A4 → A5 → A6 → Prop) : Prop := F k
theorem v_jn6 {A1 A2 A3 A4 A5 A6 : Type} {F : (A1 → A2 → A3 → A4 → A5 → A6 → Prop) → Prop} {k : A1 → A2 → A3 → A4 → A5 → A6 → Prop} {g : Gl} {x : Cx} {nL : Nat} {q : Nat × Nat} {pc : Nat} {lv : List (Nat × Value)} {st : List Value} {I : MI} {r : Rh} (J : A1 → A2 → A3 → A4 → A5 → A6 → Prop → Prop) (hF : ∀ k' : A1 → A2 → A3 → A4 → A5 → A6 → Prop, (∀ (a1 : A1) (a2 : A2) (a3 : A3) (a4 : A4) (a5 : A5) (a6 : A6), J a1 a2 a3 a4 a5 a6 (k' a1 a2 a3 a4 a5 a6)) → V g x nL q pc lv st I r (F k')) (hk : ∀ (a1 : A1) (a2 : A2) (a3 : A3) (a4 : A4) (a5 : A5) (a6 : A6), J a1 a2 a3 a4 a5 a6 (k a1 a2 a3 a4 a5 a6)) : V g x nL q pc lv st I r (jn6 F k) := hF k hk
def lf7 {A1 A2 A3 A4 A5 A6 A7 : Type} (B : (A1 → A2 → A3 → A4 → A5 → A6 → A7 → Prop) → A1 → A2 → A3 → A4 → A5 → A6 → A7 → Prop) : Nat → A1 → A2 → A3 → A4 → A5 → A6 → A7 → Prop
  | 0 => fun _ _ _ _ _ _ _ => False
  | n + 1 => B (lf7 B n)
def L7 {A1 A2 A3 A4 A5 A6 A7 : Type} (B : (A1 → A2 → A3 → A4 → A5 → A6 → A7 → Prop) → A1 → A2 → A3 → A4 → A5 → A6 → A7 → Prop) (a1 : A1) (a2 : A2) (a3 : A3) (a4 : A4) (a5 : A5) (a6 : A6) (a7 : A7) : Prop := ∃ n, lf7 B n a1 a2 a3 a4 a5 a6 a7
theorem L7.run {A1 A2 A3 A4 A5 A6 A7 : Type} {B : (A1 → A2 → A3 → A4 → A5 → A6 → A7 → Prop) → A1 → A2 → A3 → A4 → A5 → A6 → A7 → Prop} {g : Gl} {x : Cx} {nL : Nat} {q : Nat × Nat} {pc : Nat} {lv : A1 → A2 → A3 → A4 → A5 → A6 → A7 → List (Nat × Value)} {st : A1 → A2 → A3 → A4 → A5 → A6 → A7 → List Value} {Im : A1 → A2 → A3 → A4 → A5 → A6 → A7 → MI} {r : A1 → A2 → A3 → A4 → A5 → A6 → A7 → Rh} (hs : ∀ X, (∀ (b1 : A1) (b2 : A2) (b3 : A3) (b4 : A4) (b5 : A5) (b6 : A6) (b7 : A7), V g x nL q pc (lv b1 b2 b3 b4 b5 b6 b7) (st b1 b2 b3 b4 b5 b6 b7) (Im b1 b2 b3 b4 b5 b6 b7) (r b1 b2 b3 b4 b5 b6 b7) (X b1 b2 b3 b4 b5 b6 b7)) → ∀ (a1 : A1) (a2 : A2) (a3 : A3) (a4 : A4) (a5 : A5) (a6 : A6) (a7 : A7), V g x nL q pc (lv a1 a2 a3 a4 a5 a6 a7) (st a1 a2 a3 a4 a5 a6 a7) (Im a1 a2 a3 a4 a5 a6 a7) (r a1 a2 a3 a4 a5 a6 a7) (B X a1 a2 a3 a4 a5 a6 a7)) (a1 : A1) (a2 : A2) (a3 : A3) (a4 : A4) (a5 : A5) (a6 : A6) (a7 : A7) : V g x nL q pc (lv a1 a2 a3 a4 a5 a6 a7) (st a1 a2 a3 a4 a5 a6 a7) (Im a1 a2 a3 a4 a5 a6 a7) (r a1 a2 a3 a4 a5 a6 a7) (L7 B a1 a2 a3 a4 a5 a6 a7) := by
  refine v_ex (fun n => ?_)
  induction n generalizing a1 a2 a3 a4 a5 a6 a7 with
  | zero => exact v_false
  | succ n ih => exact hs (lf7 B n) ih a1 a2 a3 a4 a5 a6 a7
theorem L7.inv {A1 A2 A3 A4 A5 A6 A7 : Type} {B : (A1 → A2 → A3 → A4 → A5 → A6 → A7 → Prop) → A1 → A2 → A3 → A4 → A5 → A6 → A7 → Prop} (Inv : A1 → A2 → A3 → A4 → A5 → A6 → A7 → Prop) (μ : A1 → A2 → A3 → A4 → A5 → A6 → A7 → Nat) (hs : ∀ (X : A1 → A2 → A3 → A4 → A5 → A6 → A7 → Prop) (a1 : A1) (a2 : A2) (a3 : A3) (a4 : A4) (a5 : A5) (a6 : A6) (a7 : A7), Inv a1 a2 a3 a4 a5 a6 a7 → (∀ (b1 : A1) (b2 : A2) (b3 : A3) (b4 : A4) (b5 : A5) (b6 : A6) (b7 : A7), Inv b1 b2 b3 b4 b5 b6 b7 → μ b1 b2 b3 b4 b5 b6 b7 < μ a1 a2 a3 a4 a5 a6 a7 → X b1 b2 b3 b4 b5 b6 b7) → B X a1 a2 a3 a4 a5 a6 a7) (a1 : A1) (a2 : A2) (a3 : A3) (a4 : A4) (a5 : A5) (a6 : A6) (a7 : A7) (h : Inv a1 a2 a3 a4 a5 a6 a7) : L7 B a1 a2 a3 a4 a5 a6 a7 := by
  have key : ∀ (n : Nat) (a1 : A1) (a2 : A2) (a3 : A3) (a4 : A4) (a5 : A5) (a6 : A6) (a7 : A7), Inv a1 a2 a3 a4 a5 a6 a7 → μ a1 a2 a3 a4 a5 a6 a7 < n → lf7 B n a1 a2 a3 a4 a5 a6 a7 := by
    intro n
    induction n with
    | zero => intro a1 a2 a3 a4 a5 a6 a7 _ h; exact absurd h (Nat.not_lt_zero _)
    | succ n ih => intro a1 a2 a3 a4 a5 a6 a7 h1 h2; exact hs _ a1 a2 a3 a4 a5 a6 a7 h1 (fun b1 b2 b3 b4 b5 b6 b7 h3 h4 => ih b1 b2 b3 b4 b5 b6 b7 h3 (by omega))
  exact ⟨_, key (μ a1 a2 a3 a4 a5 a6 a7 + 1) a1 a2 a3 a4 a5 a6 a7 h (Nat.lt_succ_self _)⟩
def jn7 {A1 A2 A3 A4 A5 A6 A7 : Type} (F : (A1 → A2 → A3 → A4 → A5 → A6 → A7 → Prop) → Prop) (k : A1 → A2 → A3 → A4 → A5 → A6 → A7 → Prop) : Prop := F k
theorem v_jn7 {A1 A2 A3 A4 A5 A6 A7 : Type} {F : (A1 → A2 → A3 → A4 → A5 → A6 → A7 → Prop) → Prop} {k : A1 → A2 → A3 → A4 → A5 → A6 → A7 → Prop} {g : Gl} {x : Cx} {nL : Nat} {q : Nat × Nat} {pc : Nat} {lv : List (Nat × Value)} {st : List Value} {I : MI} {r : Rh} (J : A1 → A2 → A3 → A4 → A5 → A6 → A7 → Prop → Prop) (hF : ∀ k' : A1 → A2 → A3 → A4 → A5 → A6 → A7 → Prop, (∀ (a1 : A1) (a2 : A2) (a3 : A3) (a4 : A4) (a5 : A5) (a6 : A6) (a7 : A7), J a1 a2 a3 a4 a5 a6 a7 (k' a1 a2 a3 a4 a5 a6 a7)) → V g x nL q pc lv st I r (F k')) (hk : ∀ (a1 : A1) (a2 : A2) (a3 : A3) (a4 : A4) (a5 : A5) (a6 : A6) (a7 : A7), J a1 a2 a3 a4 a5 a6 a7 (k a1 a2 a3 a4 a5 a6 a7)) : V g x nL q pc lv st I r (jn7 F k) := hF k hk
def lf8 {A1 A2 A3 A4 A5 A6 A7 A8 : Type} (B : (A1 → A2 → A3 → A4 → A5 → A6 → A7 → A8 → Prop) → A1 → A2 → A3 → A4 → A5 → A6 → A7 → A8 → Prop) : Nat → A1 → A2 → A3 → A4 → A5 → A6 → A7 → A8 → Prop
  | 0 => fun _ _ _ _ _ _ _ _ => False
  | n + 1 => B (lf8 B n)
def L8 {A1 A2 A3 A4 A5 A6 A7 A8 : Type} (B : (A1 → A2 → A3 → A4 → A5 → A6 → A7 → A8 → Prop) → A1 → A2 → A3 → A4 → A5 → A6 → A7 → A8 → Prop) (a1 : A1) (a2 : A2) (a3 : A3) (a4 : A4) (a5 : A5) (a6 : A6) (a7 : A7) (a8 : A8) : Prop := ∃ n, lf8 B n a1 a2 a3 a4 a5 a6 a7 a8
theorem L8.run {A1 A2 A3 A4 A5 A6 A7 A8 : Type} {B : (A1 → A2 → A3 → A4 → A5 → A6 → A7 → A8 → Prop) → A1 → A2 → A3 → A4 → A5 → A6 → A7 → A8 → Prop} {g : Gl} {x : Cx} {nL : Nat} {q : Nat × Nat} {pc : Nat} {lv : A1 → A2 → A3 → A4 → A5 → A6 → A7 → A8 → List (Nat × Value)} {st : A1 → A2 → A3 → A4 → A5 → A6 → A7 → A8 → List Value} {Im : A1 → A2 → A3 → A4 → A5 → A6 → A7 → A8 → MI} {r : A1 → A2 → A3 → A4 → A5 → A6 → A7 → A8 → Rh} (hs : ∀ X, (∀ (b1 : A1) (b2 : A2) (b3 : A3) (b4 : A4) (b5 : A5) (b6 : A6) (b7 : A7) (b8 : A8), V g x nL q pc (lv b1 b2 b3 b4 b5 b6 b7 b8) (st b1 b2 b3 b4 b5 b6 b7 b8) (Im b1 b2 b3 b4 b5 b6 b7 b8) (r b1 b2 b3 b4 b5 b6 b7 b8) (X b1 b2 b3 b4 b5 b6 b7 b8)) → ∀ (a1 : A1) (a2 : A2) (a3 : A3) (a4 : A4) (a5 : A5) (a6 : A6) (a7 : A7) (a8 : A8), V g x nL q pc (lv a1 a2 a3 a4 a5 a6 a7 a8) (st a1 a2 a3 a4 a5 a6 a7 a8) (Im a1 a2 a3 a4 a5 a6 a7 a8) (r a1 a2 a3 a4 a5 a6 a7 a8) (B X a1 a2 a3 a4 a5 a6 a7 a8)) (a1 : A1) (a2 : A2) (a3 : A3) (a4 : A4) (a5 : A5) (a6 : A6) (a7 : A7) (a8 : A8) : V g x nL q pc (lv a1 a2 a3 a4 a5 a6 a7 a8) (st a1 a2 a3 a4 a5 a6 a7 a8) (Im a1 a2 a3 a4 a5 a6 a7 a8) (r a1 a2 a3 a4 a5 a6 a7 a8) (L8 B a1 a2 a3 a4 a5 a6 a7 a8) := by
  refine v_ex (fun n => ?_)
  induction n generalizing a1 a2 a3 a4 a5 a6 a7 a8 with
  | zero => exact v_false
  | succ n ih => exact hs (lf8 B n) ih a1 a2 a3 a4 a5 a6 a7 a8
theorem L8.inv {A1 A2 A3 A4 A5 A6 A7 A8 : Type} {B : (A1 → A2 → A3 → A4 → A5 → A6 → A7 → A8 → Prop) → A1 → A2 → A3 → A4 → A5 → A6 → A7 → A8 → Prop} (Inv : A1 → A2 → A3 → A4 → A5 → A6 → A7 → A8 → Prop) (μ : A1 → A2 → A3 → A4 → A5 → A6 → A7 → A8 → Nat) (hs : ∀ (X : A1 → A2 → A3 → A4 → A5 → A6 → A7 → A8 → Prop) (a1 : A1) (a2 : A2) (a3 : A3) (a4 : A4) (a5 : A5) (a6 : A6) (a7 : A7) (a8 : A8), Inv a1 a2 a3 a4 a5 a6 a7 a8 → (∀ (b1 : A1) (b2 : A2) (b3 : A3) (b4 : A4) (b5 : A5) (b6 : A6) (b7 : A7) (b8 : A8), Inv b1 b2 b3 b4 b5 b6 b7 b8 → μ b1 b2 b3 b4 b5 b6 b7 b8 < μ a1 a2 a3 a4 a5 a6 a7 a8 → X b1 b2 b3 b4 b5 b6 b7 b8) → B X a1 a2 a3 a4 a5 a6 a7 a8) (a1 : A1) (a2 : A2) (a3 : A3) (a4 : A4) (a5 : A5) (a6 : A6) (a7 : A7) (a8 : A8) (h : Inv a1 a2 a3 a4 a5 a6 a7 a8) : L8 B a1 a2 a3 a4 a5 a6 a7 a8 := by
  have key : ∀ (n : Nat) (a1 : A1) (a2 : A2) (a3 : A3) (a4 : A4) (a5 : A5) (a6 : A6) (a7 : A7) (a8 : A8), Inv a1 a2 a3 a4 a5 a6 a7 a8 → μ a1 a2 a3 a4 a5 a6 a7 a8 < n → lf8 B n a1 a2 a3 a4 a5 a6 a7 a8 := by
    intro n
    induction n with
    | zero => intro a1 a2 a3 a4 a5 a6 a7 a8 _ h; exact absurd h (Nat.not_lt_zero _)
    | succ n ih => intro a1 a2 a3 a4 a5 a6 a7 a8 h1 h2; exact hs _ a1 a2 a3 a4 a5 a6 a7 a8 h1 (fun b1 b2 b3 b4 b5 b6 b7 b8 h3 h4 => ih b1 b2 b3 b4 b5 b6 b7 b8 h3 (by omega))
  exact ⟨_, key (μ a1 a2 a3 a4 a5 a6 a7 a8 + 1) a1 a2 a3 a4 a5 a6 a7 a8 h (Nat.lt_succ_self _)⟩
def jn8 {A1 A2 A3 A4 A5 A6 A7 A8 : Type} (F : (A1 → A2 → A3 → A4 → A5 → A6 → A7 → A8 → Prop) → Prop) (k : A1 → A2 → A3 → A4 → A5 → A6 → A7 → A8 → Prop) : Prop := F k
theorem v_jn8 {A1 A2 A3 A4 A5 A6 A7 A8 : Type} {F : (A1 → A2 → A3 → A4 → A5 → A6 → A7 → A8 → Prop) → Prop} {k : A1 → A2 → A3 → A4 → A5 → A6 → A7 → A8 → Prop} {g : Gl} {x : Cx} {nL : Nat} {q : Nat × Nat} {pc : Nat} {lv : List (Nat × Value)} {st : List Value} {I : MI} {r : Rh} (J : A1 → A2 → A3 → A4 → A5 → A6 → A7 → A8 → Prop → Prop) (hF : ∀ k' : A1 → A2 → A3 → A4 → A5 → A6 → A7 → A8 → Prop, (∀ (a1 : A1) (a2 : A2) (a3 : A3) (a4 : A4) (a5 : A5) (a6 : A6) (a7 : A7) (a8 : A8), J a1 a2 a3 a4 a5 a6 a7 a8 (k' a1 a2 a3 a4 a5 a6 a7 a8)) → V g x nL q pc lv st I r (F k')) (hk : ∀ (a1 : A1) (a2 : A2) (a3 : A3) (a4 : A4) (a5 : A5) (a6 : A6) (a7 : A7) (a8 : A8), J a1 a2 a3 a4 a5 a6 a7 a8 (k a1 a2 a3 a4 a5 a6 a7 a8)) : V g x nL q pc lv st I r (jn8 F k) := hF k hk
def lf9 {A1 A2 A3 A4 A5 A6 A7 A8 A9 : Type} (B : (A1 → A2 → A3 → A4 → A5 → A6 → A7 → A8 → A9 → Prop) → A1 → A2 → A3 → A4 → A5 → A6 → A7 → A8 → A9 → Prop) : Nat → A1 → A2 → A3 → A4 → A5 → A6 → A7 → A8 → A9 → Prop
  | 0 => fun _ _ _ _ _ _ _ _ _ => False
  | n + 1 => B (lf9 B n)
def L9 {A1 A2 A3 A4 A5 A6 A7 A8 A9 : Type} (B : (A1 → A2 → A3 → A4 → A5 → A6 → A7 → A8 → A9 → Prop) → A1 → A2 → A3 → A4 → A5 → A6 → A7 → A8 → A9 → Prop) (a1 : A1) (a2 : A2) (a3 : A3) (a4 : A4) (a5 : A5) (a6 : A6) (a7 : A7) (a8 : A8) (a9 : A9) : Prop := ∃ n, lf9 B n a1 a2 a3 a4 a5 a6 a7 a8 a9
theorem L9.run {A1 A2 A3 A4 A5 A6 A7 A8 A9 : Type} {B : (A1 → A2 → A3 → A4 → A5 → A6 → A7 → A8 → A9 → Prop) → A1 → A2 → A3 → A4 → A5 → A6 → A7 → A8 → A9 → Prop} {g : Gl} {x : Cx} {nL : Nat} {q : Nat × Nat} {pc : Nat} {lv : A1 → A2 → A3 → A4 → A5 → A6 → A7 → A8 → A9 → List (Nat × Value)} {st : A1 → A2 → A3 → A4 → A5 → A6 → A7 → A8 → A9 → List Value} {Im : A1 → A2 → A3 → A4 → A5 → A6 → A7 → A8 → A9 → MI} {r : A1 → A2 → A3 → A4 → A5 → A6 → A7 → A8 → A9 → Rh} (hs : ∀ X, (∀ (b1 : A1) (b2 : A2) (b3 : A3) (b4 : A4) (b5 : A5) (b6 : A6) (b7 : A7) (b8 : A8) (b9 : A9), V g x nL q pc (lv b1 b2 b3 b4 b5 b6 b7 b8 b9) (st b1 b2 b3 b4 b5 b6 b7 b8 b9) (Im b1 b2 b3 b4 b5 b6 b7 b8 b9) (r b1 b2 b3 b4 b5 b6 b7 b8 b9) (X b1 b2 b3 b4 b5 b6 b7 b8 b9)) → ∀ (a1 : A1) (a2 : A2) (a3 : A3) (a4 : A4) (a5 : A5) (a6 : A6) (a7 : A7) (a8 : A8) (a9 : A9), V g x nL q pc (lv a1 a2 a3 a4 a5 a6 a7 a8 a9) (st a1 a2 a3 a4 a5 a6 a7 a8 a9) (Im a1 a2 a3 a4 a5 a6 a7 a8 a9) (r a1 a2 a3 a4 a5 a6 a7 a8 a9) (B X a1 a2 a3 a4 a5 a6 a7 a8 a9)) (a1 : A1) (a2 : A2) (a3 : A3) (a4 : A4) (a5 : A5) (a6 : A6) (a7 : A7) (a8 : A8) (a9 : A9) : V g x nL q pc (lv a1 a2 a3 a4 a5 a6 a7 a8 a9) (st a1 a2 a3 a4 a5 a6 a7 a8 a9) (Im a1 a2 a3 a4 a5 a6 a7 a8 a9) (r a1 a2 a3 a4 a5 a6 a7 a8 a9) (L9 B a1 a2 a3 a4 a5 a6 a7 a8 a9) := by
  refine v_ex (fun n => ?_)
  induction n generalizing a1 a2 a3 a4 a5 a6 a7 a8 a9 with
  | zero => exact v_false
  | succ n ih => exact hs (lf9 B n) ih a1 a2 a3 a4 a5 a6 a7 a8 a9
theorem L9.inv {A1 A2 A3 A4 A5 A6 A7 A8 A9 : Type} {B : (A1 → A2 → A3 → A4 → A5 → A6 → A7 → A8 → A9 → Prop) → A1 → A2 → A3 → A4 → A5 → A6 → A7 → A8 → A9 → Prop} (Inv : A1 → A2 → A3 → A4 → A5 → A6 → A7 → A8 → A9 → Prop) (μ : A1 → A2 → A3 → A4 → A5 → A6 → A7 → A8 → A9 → Nat) (hs : ∀ (X : A1 → A2 → A3 → A4 → A5 → A6 → A7 → A8 → A9 → Prop) (a1 : A1) (a2 : A2) (a3 : A3) (a4 : A4) (a5 : A5) (a6 : A6) (a7 : A7) (a8 : A8) (a9 : A9), Inv a1 a2 a3 a4 a5 a6 a7 a8 a9 → (∀ (b1 : A1) (b2 : A2) (b3 : A3) (b4 : A4) (b5 : A5) (b6 : A6) (b7 : A7) (b8 : A8) (b9 : A9), Inv b1 b2 b3 b4 b5 b6 b7 b8 b9 → μ b1 b2 b3 b4 b5 b6 b7 b8 b9 < μ a1 a2 a3 a4 a5 a6 a7 a8 a9 → X b1 b2 b3 b4 b5 b6 b7 b8 b9) → B X a1 a2 a3 a4 a5 a6 a7 a8 a9) (a1 : A1) (a2 : A2) (a3 : A3) (a4 : A4) (a5 : A5) (a6 : A6) (a7 : A7) (a8 : A8) (a9 : A9) (h : Inv a1 a2 a3 a4 a5 a6 a7 a8 a9) : L9 B a1 a2 a3 a4 a5 a6 a7 a8 a9 := by
  have key : ∀ (n : Nat) (a1 : A1) (a2 : A2) (a3 : A3) (a4 : A4) (a5 : A5) (a6 : A6) (a7 : A7) (a8 : A8) (a9 : A9), Inv a1 a2 a3 a4 a5 a6 a7 a8 a9 → μ a1 a2 a3 a4 a5 a6 a7 a8 a9 < n → lf9 B n a1 a2 a3 a4 a5 a6 a7 a8 a9 := by
    intro n
    induction n with
    | zero => intro a1 a2 a3 a4 a5 a6 a7 a8 a9 _ h; exact absurd h (Nat.not_lt_zero _)
    | succ n ih => intro a1 a2 a3 a4 a5 a6 a7 a8 a9 h1 h2; exact hs _ a1 a2 a3 a4 a5 a6 a7 a8 a9 h1 (fun b1 b2 b3 b4 b5 b6 b7 b8 b9 h3 h4 => ih b1 b2 b3 b4 b5 b6 b7 b8 b9 h3 (by omega))
  exact ⟨_, key (μ a1 a2 a3 a4 a5 a6 a7 a8 a9 + 1) a1 a2 a3 a4 a5 a6 a7 a8 a9 h (Nat.lt_succ_self _)⟩
def jn9 {A1 A2 A3 A4 A5 A6 A7 A8 A9 : Type} (F : (A1 → A2 → A3 → A4 → A5 → A6 → A7 → A8 → A9 → Prop) → Prop) (k : A1 → A2 → A3 → A4 → A5 → A6 → A7 → A8 → A9 → Prop) : Prop := F k
theorem v_jn9 {A1 A2 A3 A4 A5 A6 A7 A8 A9 : Type} {F : (A1 → A2 → A3 → A4 → A5 → A6 → A7 → A8 → A9 → Prop) → Prop} {k : A1 → A2 → A3 → A4 → A5 → A6 → A7 → A8 → A9 → Prop} {g : Gl} {x : Cx} {nL : Nat} {q : Nat × Nat} {pc : Nat} {lv : List (Nat × Value)} {st : List Value} {I : MI} {r : Rh} (J : A1 → A2 → A3 → A4 → A5 → A6 → A7 → A8 → A9 → Prop → Prop) (hF : ∀ k' : A1 → A2 → A3 → A4 → A5 → A6 → A7 → A8 → A9 → Prop, (∀ (a1 : A1) (a2 : A2) (a3 : A3) (a4 : A4) (a5 : A5) (a6 : A6) (a7 : A7) (a8 : A8) (a9 : A9), J a1 a2 a3 a4 a5 a6 a7 a8 a9 (k' a1 a2 a3 a4 a5 a6 a7 a8 a9)) → V g x nL q pc lv st I r (F k')) (hk : ∀ (a1 : A1) (a2 : A2) (a3 : A3) (a4 : A4) (a5 : A5) (a6 : A6) (a7 : A7) (a8 : A8) (a9 : A9), J a1 a2 a3 a4 a5 a6 a7 a8 a9 (k a1 a2 a3 a4 a5 a6 a7 a8 a9)) : V g x nL q pc lv st I r (jn9 F k) := hF k hk
def lf10 {A1 A2 A3 A4 A5 A6 A7 A8 A9 A10 : Type} (B : (A1 → A2 → A3 → A4 → A5 → A6 → A7 → A8 → A9 → A10 → Prop) → A1 → A2 → A3 → A4 → A5 → A6 → A7 → A8 → A9 → A10 → Prop) : Nat → A1 → A2 → A3 → A4 → A5 → A6 → A7 → A8 → A9 → A10 → Prop
  | 0 => fun _ _ _ _ _ _ _ _ _ _ => False
  | n + 1 => B (lf10 B n)
def L10 {A1 A2 A3 A4 A5 A6 A7 A8 A9 A10 : Type} (B : (A1 → A2 → A3 → A4 → A5 → A6 → A7 → A8 → A9 → A10 → Prop) → A1 → A2 → A3 → A4 → A5 → A6 → A7 → A8 → A9 → A10 → Prop) (a1 : A1) (a2 : A2) (a3 : A3) (a4 : A4) (a5 : A5) (a6 : A6) (a7 : A7) (a8 : A8) (a9 : A9) (a10 : A10) : Prop := ∃ n, lf10 B n a1 a2 a3 a4 a5 a6 a7 a8 a9 a10
theorem L10.run {A1 A2 A3 A4 A5 A6 A7 A8 A9 A10 : Type} {B : (A1 → A2 → A3 → A4 → A5 → A6 → A7 → A8 → A9 → A10 → Prop) → A1 → A2 → A3 → A4 → A5 → A6 → A7 → A8 → A9 → A10 → Prop} {g : Gl} {x : Cx} {nL : Nat} {q : Nat × Nat} {pc : Nat} {lv : A1 → A2 → A3 → A4 → A5 → A6 → A7 → A8 → A9 → A10 → List (Nat × Value)} {st : A1 → A2 → A3 → A4 → A5 → A6 → A7 → A8 → A9 → A10 → List Value} {Im : A1 → A2 → A3 → A4 → A5 → A6 → A7 → A8 → A9 → A10 → MI} {r : A1 → A2 → A3 → A4 → A5 → A6 → A7 → A8 → A9 → A10 → Rh} (hs : ∀ X, (∀ (b1 : A1) (b2 : A2) (b3 : A3) (b4 : A4) (b5 : A5) (b6 : A6) (b7 : A7) (b8 : A8) (b9 : A9) (b10 : A10), V g x nL q pc (lv b1 b2 b3 b4 b5 b6 b7 b8 b9 b10) (st b1 b2 b3 b4 b5 b6 b7 b8 b9 b10) (Im b1 b2 b3 b4 b5 b6 b7 b8 b9 b10) (r b1 b2 b3 b4 b5 b6 b7 b8 b9 b10) (X b1 b2 b3 b4 b5 b6 b7 b8 b9 b10)) → ∀ (a1 : A1) (a2 : A2) (a3 : A3) (a4 : A4) (a5 : A5) (a6 : A6) (a7 : A7) (a8 : A8) (a9 : A9) (a10 : A10), V g x nL q pc (lv a1 a2 a3 a4 a5 a6 a7 a8 a9 a10) (st a1 a2 a3 a4 a5 a6 a7 a8 a9 a10) (Im a1 a2 a3 a4 a5 a6 a7 a8 a9 a10) (r a1 a2 a3 a4 a5 a6 a7 a8 a9 a10) (B X a1 a2 a3 a4 a5 a6 a7 a8 a9 a10)) (a1 : A1) (a2 : A2) (a3 : A3) (a4 : A4) (a5 : A5) (a6 : A6) (a7 : A7) (a8 : A8) (a9 : A9) (a10 : A10) : V g x nL q pc (lv a1 a2 a3 a4 a5 a6 a7 a8 a9 a10) (st a1 a2 a3 a4 a5 a6 a7 a8 a9 a10) (Im a1 a2 a3 a4 a5 a6 a7 a8 a9 a10) (r a1 a2 a3 a4 a5 a6 a7 a8 a9 a10) (L10 B a1 a2 a3 a4 a5 a6 a7 a8 a9 a10) := by
  refine v_ex (fun n => ?_)
  induction n generalizing a1 a2 a3 a4 a5 a6 a7 a8 a9 a10 with
  | zero => exact v_false
  | succ n ih => exact hs (lf10 B n) ih a1 a2 a3 a4 a5 a6 a7 a8 a9 a10
theorem L10.inv {A1 A2 A3 A4 A5 A6 A7 A8 A9 A10 : Type} {B : (A1 → A2 → A3 → A4 → A5 → A6 → A7 → A8 → A9 → A10 → Prop) → A1 → A2 → A3 → A4 → A5 → A6 → A7 → A8 → A9 → A10 → Prop} (Inv : A1 → A2 → A3 → A4 → A5 → A6 → A7 → A8 → A9 → A10 → Prop) (μ : A1 → A2 → A3 → A4 → A5 → A6 → A7 → A8 → A9 → A10 → Nat) (hs : ∀ (X : A1 → A2 → A3 → A4 → A5 → A6 → A7 → A8 → A9 → A10 → Prop) (a1 : A1) (a2 : A2) (a3 : A3) (a4 : A4) (a5 : A5) (a6 : A6) (a7 : A7) (a8 : A8) (a9 : A9) (a10 : A10), Inv a1 a2 a3 a4 a5 a6 a7 a8 a9 a10 → (∀ (b1 : A1) (b2 : A2) (b3 : A3) (b4 : A4) (b5 : A5) (b6 : A6) (b7 : A7) (b8 : A8) (b9 : A9) (b10 : A10), Inv b1 b2 b3 b4 b5 b6 b7 b8 b9 b10 → μ b1 b2 b3 b4 b5 b6 b7 b8 b9 b10 < μ a1 a2 a3 a4 a5 a6 a7 a8 a9 a10 → X b1 b2 b3 b4 b5 b6 b7 b8 b9 b10) → B X a1 a2 a3 a4 a5 a6 a7 a8 a9 a10) (a1 : A1) (a2 : A2) (a3 : A3) (a4 : A4) (a5 : A5) (a6 : A6) (a7 : A7) (a8 : A8) (a9 : A9) (a10 : A10) (h : Inv a1 a2 a3 a4 a5 a6 a7 a8 a9 a10) : L10 B a1 a2 a3 a4 a5 a6 a7 a8 a9 a10 := by
  have key : ∀ (n : Nat) (a1 : A1) (a2 : A2) (a3 : A3) (a4 : A4) (a5 : A5) (a6 : A6) (a7 : A7) (a8 : A8) (a9 : A9) (a10 : A10), Inv a1 a2 a3 a4 a5 a6 a7 a8 a9 a10 → μ a1 a2 a3 a4 a5 a6 a7 a8 a9 a10 < n → lf10 B n a1 a2 a3 a4 a5 a6 a7 a8 a9 a10 := by
    intro n
    induction n with
    | zero => intro a1 a2 a3 a4 a5 a6 a7 a8 a9 a10 _ h; exact absurd h (Nat.not_lt_zero _)
    | succ n ih => intro a1 a2 a3 a4 a5 a6 a7 a8 a9 a10 h1 h2; exact hs _ a1 a2 a3 a4 a5 a6 a7 a8 a9 a10 h1 (fun b1 b2 b3 b4 b5 b6 b7 b8 b9 b10 h3 h4 => ih b1 b2 b3 b4 b5 b6 b7 b8 b9 b10 h3 (by omega))
  exact ⟨_, key (μ a1 a2 a3 a4 a5 a6 a7 a8 a9 a10 + 1) a1 a2 a3 a4 a5 a6 a7 a8 a9 a10 h (Nat.lt_succ_self _)⟩
def jn10 {A1 A2 A3 A4 A5 A6 A7 A8 A9 A10 : Type} (F : (A1 → A2 → A3 → A4 → A5 → A6 → A7 → A8 → A9 → A10 → Prop) → Prop) (k : A1 → A2 → A3 → A4 → A5 → A6 → A7 → A8 → A9 → A10 → Prop) : Prop := F k
theorem v_jn10 {A1 A2 A3 A4 A5 A6 A7 A8 A9 A10 : Type} {F : (A1 → A2 → A3 → A4 → A5 → A6 → A7 → A8 → A9 → A10 → Prop) → Prop} {k : A1 → A2 → A3 → A4 → A5 → A6 → A7 → A8 → A9 → A10 → Prop} {g : Gl} {x : Cx} {nL : Nat} {q : Nat × Nat} {pc : Nat} {lv : List (Nat × Value)} {st : List Value} {I : MI} {r : Rh} (J : A1 → A2 → A3 → A4 → A5 → A6 → A7 → A8 → A9 → A10 → Prop → Prop) (hF : ∀ k' : A1 → A2 → A3 → A4 → A5 → A6 → A7 → A8 → A9 → A10 → Prop, (∀ (a1 : A1) (a2 : A2) (a3 : A3) (a4 : A4) (a5 : A5) (a6 : A6) (a7 : A7) (a8 : A8) (a9 : A9) (a10 : A10), J a1 a2 a3 a4 a5 a6 a7 a8 a9 a10 (k' a1 a2 a3 a4 a5 a6 a7 a8 a9 a10)) → V g x nL q pc lv st I r (F k')) (hk : ∀ (a1 : A1) (a2 : A2) (a3 : A3) (a4 : A4) (a5 : A5) (a6 : A6) (a7 : A7) (a8 : A8) (a9 : A9) (a10 : A10), J a1 a2 a3 a4 a5 a6 a7 a8 a9 a10 (k a1 a2 a3 a4 a5 a6 a7 a8 a9 a10)) : V g x nL q pc lv st I r (jn10 F k) := hF k hk
def lf11 {A1 A2 A3 A4 A5 A6 A7 A8 A9 A10 A11 : Type} (B : (A1 → A2 → A3 → A4 → A5 → A6 → A7 → A8 → A9 → A10 → A11 → Prop) → A1 → A2 → A3 → A4 → A5 → A6 → A7 → A8 → A9 → A10 → A11 → Prop) : Nat → A1 → A2 → A3 → A4 → A5 → A6 → A7 → A8 → A9 → A10 → A11 → Prop
  | 0 => fun _ _ _ _ _ _ _ _ _ _ _ => False
  | n + 1 => B (lf11 B n)
def L11 {A1 A2 A3 A4 A5 A6 A7 A8 A9 A10 A11 : Type} (B : (A1 → A2 → A3 → A4 → A5 → A6 → A7 → A8 → A9 → A10 → A11 → Prop) → A1 → A2 → A3 → A4 → A5 → A6 → A7 → A8 → A9 → A10 → A11 → Prop) (a1 : A1) (a2 : A2) (a3 : A3) (a4 : A4) (a5 : A5) (a6 : A6) (a7 : A7) (a8 : A8) (a9 : A9) (a10 : A10) (a11 : A11) : Prop := ∃ n, lf11 B n a1 a2 a3 a4 a5 a6 a7 a8 a9 a10 a11
theorem L11.run {A1 A2 A3 A4 A5 A6 A7 A8 A9 A10 A11 : Type} {B : (A1 → A2 → A3 → A4 → A5 → A6 → A7 → A8 → A9 → A10 → A11 → Prop) → A1 → A2 → A3 → A4 → A5 → A6 → A7 → A8 → A9 → A10 → A11 → Prop} {g : Gl} {x : Cx} {nL : Nat} {q : Nat × Nat} {pc : Nat} {lv : A1 → A2 → A3 → A4 → A5 → A6 → A7 → A8 → A9 → A10 → A11 → List (Nat × Value)} {st : A1 → A2 → A3 → A4 → A5 → A6 → A7 → A8 → A9 → A10 → A11 → List Value} {Im : A1 → A2 → A3 → A4 → A5 → A6 → A7 → A8 → A9 → A10 → A11 → MI} {r : A1 → A2 → A3 → A4 → A5 → A6 → A7 → A8 → A9 → A10 → A11 → Rh} (hs : ∀ X, (∀ (b1 : A1) (b2 : A2) (b3 : A3) (b4 : A4) (b5 : A5) (b6 : A6) (b7 : A7) (b8 : A8) (b9 : A9) (b10 : A10) (b11 : A11), V g x nL q pc (lv b1 b2 b3 b4 b5 b6 b7 b8 b9 b10 b11) (st b1 b2 b3 b4 b5 b6 b7 b8 b9 b10 b11) (Im b1 b2 b3 b4 b5 b6 b7 b8 b9 b10 b11) (r b1 b2 b3 b4 b5 b6 b7 b8 b9 b10 b11) (X b1 b2 b3 b4 b5 b6 b7 b8 b9 b10 b11)) → ∀ (a1 : A1) (a2 : A2) (a3 : A3) (a4 : A4) (a5 : A5) (a6 : A6) (a7 : A7) (a8 : A8) (a9 : A9) (a10 : A10) (a11 : A11), V g x nL q pc (lv a1 a2 a3 a4 a5 a6 a7 a8 a9 a10 a11) (st a1 a2 a3 a4 a5 a6 a7 a8 a9 a10 a11) (Im a1 a2 a3 a4 a5 a6 a7 a8 a9 a10 a11) (r a1 a2 a3 a4 a5 a6 a7 a8 a9 a10 a11) (B X a1 a2 a3 a4 a5 a6 a7 a8 a9 a10 a11)) (a1 : A1) (a2 : A2) (a3 : A3) (a4 : A4) (a5 : A5) (a6 : A6) (a7 : A7) (a8 : A8) (a9 : A9) (a10 : A10) (a11 : A11) : V g x nL q pc (lv a1 a2 a3 a4 a5 a6 a7 a8 a9 a10 a11) (st a1 a2 a3 a4 a5 a6 a7 a8 a9 a10 a11) (Im a1 a2 a3 a4 a5 a6 a7 a8 a9 a10 a11) (r a1 a2 a3 a4 a5 a6 a7 a8 a9 a10 a11) (L11 B a1 a2 a3 a4 a5 a6 a7 a8 a9 a10 a11) := by
  refine v_ex (fun n => ?_)
  induction n generalizing a1 a2 a3 a4 a5 a6 a7 a8 a9 a10 a11 with
  | zero => exact v_false
  | succ n ih => exact hs (lf11 B n) ih a1 a2 a3 a4 a5 a6 a7 a8 a9 a10 a11
theorem L11.inv {A1 A2 A3 A4 A5 A6 A7 A8 A9 A10 A11 : Type} {B : (A1 → A2 → A3 → A4 → A5 → A6 → A7 → A8 → A9 → A10 → A11 → Prop) → A1 → A2 → A3 → A4 → A5 → A6 → A7 → A8 → A9 → A10 → A11 → Prop} (Inv : A1 → A2 → A3 → A4 → A5 → A6 → A7 → A8 → A9 → A10 → A11 → Prop) (μ : A1 → A2 → A3 → A4 → A5 → A6 → A7 → A8 → A9 → A10 → A11 → Nat) (hs : ∀ (X : A1 → A2 → A3 → A4 → A5 → A6 → A7 → A8 → A9 → A10 → A11 → Prop) (a1 : A1) (a2 : A2) (a3 : A3) (a4 : A4) (a5 : A5) (a6 : A6) (a7 : A7) (a8 : A8) (a9 : A9) (a10 : A10) (a11 : A11), Inv a1 a2 a3 a4 a5 a6 a7 a8 a9 a10 a11 → (∀ (b1 : A1) (b2 : A2) (b3 : A3) (b4 : A4) (b5 : A5) (b6 : A6) (b7 : A7) (b8 : A8) (b9 : A9) (b10 : A10) (b11 : A11), Inv b1 b2 b3 b4 b5 b6 b7 b8 b9 b10 b11 → μ b1 b2 b3 b4 b5 b6 b7 b8 b9 b10 b11 < μ a1 a2 a3 a4 a5 a6 a7 a8 a9 a10 a11 → X b1 b2 b3 b4 b5 b6 b7 b8 b9 b10 b11) → B X a1 a2 a3 a4 a5 a6 a7 a8 a9 a10 a11) (a1 : A1) (a2 : A2) (a3 : A3) (a4 : A4) (a5 : A5) (a6 : A6) (a7 : A7) (a8 : A8) (a9 : A9) (a10 : A10) (a11 : A11) (h : Inv a1 a2 a3 a4 a5 a6 a7 a8 a9 a10 a11) : L11 B a1 a2 a3 a4 a5 a6 a7 a8 a9 a10 a11 := by
  have key : ∀ (n : Nat) (a1 : A1) (a2 : A2) (a3 : A3) (a4 : A4) (a5 : A5) (a6 : A6) (a7 : A7) (a8 : A8) (a9 : A9) (a10 : A10) (a11 : A11), Inv a1 a2 a3 a4 a5 a6 a7 a8 a9 a10 a11 → μ a1 a2 a3 a4 a5 a6 a7 a8 a9 a10 a11 < n → lf11 B n a1 a2 a3 a4 a5 a6 a7 a8 a9 a10 a11 := by
    intro n
    induction n with
    | zero => intro a1 a2 a3 a4 a5 a6 a7 a8 a9 a10 a11 _ h; exact absurd h (Nat.not_lt_zero _)
    | succ n ih => intro a1 a2 a3 a4 a5 a6 a7 a8 a9 a10 a11 h1 h2; exact hs _ a1 a2 a3 a4 a5 a6 a7 a8 a9 a10 a11 h1 (fun b1 b2 b3 b4 b5 b6 b7 b8 b9 b10 b11 h3 h4 => ih b1 b2 b3 b4 b5 b6 b7 b8 b9 b10 b11 h3 (by omega))
  exact ⟨_, key (μ a1 a2 a3 a4 a5 a6 a7 a8 a9 a10 a11 + 1) a1 a2 a3 a4 a5 a6 a7 a8 a9 a10 a11 h (Nat.lt_succ_self _)⟩
def jn11 {A1 A2 A3 A4 A5 A6 A7 A8 A9 A10 A11 : Type} (F : (A1 → A2 → A3 → A4 → A5 → A6 → A7 → A8 → A9 → A10 → A11 → Prop) → Prop) (k : A1 → A2 → A3 → A4 → A5 → A6 → A7 → A8 → A9 → A10 → A11 → Prop) : Prop := F k
theorem v_jn11 {A1 A2 A3 A4 A5 A6 A7 A8 A9 A10 A11 : Type} {F : (A1 → A2 → A3 → A4 → A5 → A6 → A7 → A8 → A9 → A10 → A11 → Prop) → Prop} {k : A1 → A2 → A3 → A4 → A5 → A6 → A7 → A8 → A9 → A10 → A11 → Prop} {g : Gl} {x : Cx} {nL : Nat} {q : Nat × Nat} {pc : Nat} {lv : List (Nat × Value)} {st : List Value} {I : MI} {r : Rh} (J : A1 → A2 → A3 → A4 → A5 → A6 → A7 → A8 → A9 → A10 → A11 → Prop → Prop) (hF : ∀ k' : A1 → A2 → A3 → A4 → A5 → A6 → A7 → A8 → A9 → A10 → A11 → Prop, (∀ (a1 : A1) (a2 : A2) (a3 : A3) (a4 : A4) (a5 : A5) (a6 : A6) (a7 : A7) (a8 : A8) (a9 : A9) (a10 : A10) (a11 : A11), J a1 a2 a3 a4 a5 a6 a7 a8 a9 a10 a11 (k' a1 a2 a3 a4 a5 a6 a7 a8 a9 a10 a11)) → V g x nL q pc lv st I r (F k')) (hk : ∀ (a1 : A1) (a2 : A2) (a3 : A3) (a4 : A4) (a5 : A5) (a6 : A6) (a7 : A7) (a8 : A8) (a9 : A9) (a10 : A10) (a11 : A11), J a1 a2 a3 a4 a5 a6 a7 a8 a9 a10 a11 (k a1 a2 a3 a4 a5 a6 a7 a8 a9 a10 a11)) : V g x nL q pc lv st I r (jn11 F k) := hF k hk
def lf12 {A1 A2 A3 A4 A5 A6 A7 A8 A9 A10 A11 A12 : Type} (B : (A1 → A2 → A3 → A4 → A5 → A6 → A7 → A8 → A9 → A10 → A11 → A12 → Prop) → A1 → A2 → A3 → A4 → A5 → A6 → A7 → A8 → A9 → A10 → A11 → A12 → Prop) : Nat → A1 → A2 → A3 → A4 → A5 → A6 → A7 → A8 → A9 → A10 → A11 → A12 → Prop
  | 0 => fun _ _ _ _ _ _ _ _ _ _ _ _ => False
  | n + 1 => B (lf12 B n)
def L12 {A1 A2 A3 A4 A5 A6 A7 A8 A9 A10 A11 A12 : Type} (B : (A1 → A2 → A3 → A4 → A5 → A6 → A7 → A8 → A9 → A10 → A11 → A12 → Prop) → A1 → A2 → A3 → A4 → A5 → A6 → A7 → A8 → A9 → A10 → A11 → A12 → Prop) (a1 : A1) (a2 : A2) (a3 : A3) (a4 : A4) (a5 : A5) (a6 : A6) (a7 : A7) (a8 : A8) (a9 : A9) (a10 : A10) (a11 : A11) (a12 : A12) : Prop := ∃ n, lf12 B n a1 a2 a3 a4 a5 a6 a7 a8 a9 a10 a11 a12
theorem L12.run {A1 A2 A3 A4 A5 A6 A7 A8 A9 A10 A11 A12 : Type} {B : (A1 → A2 → A3 → A4 → A5 → A6 → A7 → A8 → A9 → A10 → A11 → A12 → Prop) → A1 → A2 → A3 → A4 → A5 → A6 → A7 → A8 → A9 → A10 → A11 → A12 → Prop} {g : Gl} {x : Cx} {nL : Nat} {q : Nat × Nat} {pc : Nat} {lv : A1 → A2 → A3 → A4 → A5 → A6 → A7 → A8 → A9 → A10 → A11 → A12 → List (Nat × Value)} {st : A1 → A2 → A3 → A4 → A5 → A6 → A7 → A8 → A9 → A10 → A11 → A12 → List Value} {Im : A1 → A2 → A3 → A4 → A5 → A6 → A7 → A8 → A9 → A10 → A11 → A12 → MI} {r : A1 → A2 → A3 → A4 → A5 → A6 → A7 → A8 → A9 → A10 → A11 → A12 → Rh} (hs : ∀ X, (∀ (b1 : A1) (b2 : A2) (b3 : A3) (b4 : A4) (b5 : A5) (b6 : A6) (b7 : A7) (b8 : A8) (b9 : A9) (b10 : A10) (b11 : A11) (b12 : A12), V g x nL q pc (lv b1 b2 b3 b4 b5 b6 b7 b8 b9 b10 b11 b12) (st b1 b2 b3 b4 b5 b6 b7 b8 b9 b10 b11 b12) (Im b1 b2 b3 b4 b5 b6 b7 b8 b9 b10 b11 b12) (r b1 b2 b3 b4 b5 b6 b7 b8 b9 b10 b11 b12) (X b1 b2 b3 b4 b5 b6 b7 b8 b9 b10 b11 b12)) → ∀ (a1 : A1) (a2 : A2) (a3 : A3) (a4 : A4) (a5 : A5) (a6 : A6) (a7 : A7) (a8 : A8) (a9 : A9) (a10 : A10) (a11 : A11) (a12 : A12), V g x nL q pc (lv a1 a2 a3 a4 a5 a6 a7 a8 a9 a10 a11 a12) (st a1 a2 a3 a4 a5 a6 a7 a8 a9 a10 a11 a12) (Im a1 a2 a3 a4 a5 a6 a7 a8 a9 a10 a11 a12) (r a1 a2 a3 a4 a5 a6 a7 a8 a9 a10 a11 a12) (B X a1 a2 a3 a4 a5 a6 a7 a8 a9 a10 a11 a12)) (a1 : A1) (a2 : A2) (a3 : A3) (a4 : A4) (a5 : A5) (a6 : A6) (a7 : A7) (a8 : A8) (a9 : A9) (a10 : A10) (a11 : A11) (a12 : A12) : V g x nL q pc (lv a1 a2 a3 a4 a5 a6 a7 a8 a9 a10 a11 a12) (st a1 a2 a3 a4 a5 a6 a7 a8 a9 a10 a11 a12) (Im a1 a2 a3 a4 a5 a6 a7 a8 a9 a10 a11 a12) (r a1 a2 a3 a4 a5 a6 a7 a8 a9 a10 a11 a12) (L12 B a1 a2 a3 a4 a5 a6 a7 a8 a9 a10 a11 a12) := by
  refine v_ex (fun n => ?_)
  induction n generalizing a1 a2 a3 a4 a5 a6 a7 a8 a9 a10 a11 a12 with
  | zero => exact v_false
  | succ n ih => exact hs (lf12 B n) ih a1 a2 a3 a4 a5 a6 a7 a8 a9 a10 a11 a12
theorem L12.inv {A1 A2 A3 A4 A5 A6 A7 A8 A9 A10 A11 A12 : Type} {B : (A1 → A2 → A3 → A4 → A5 → A6 → A7 → A8 → A9 → A10 → A11 → A12 → Prop) → A1 → A2 → A3 → A4 → A5 → A6 → A7 → A8 → A9 → A10 → A11 → A12 → Prop} (Inv : A1 → A2 → A3 → A4 → A5 → A6 → A7 → A8 → A9 → A10 → A11 → A12 → Prop) (μ : A1 → A2 → A3 → A4 → A5 → A6 → A7 → A8 → A9 → A10 → A11 → A12 → Nat) (hs : ∀ (X : A1 → A2 → A3 → A4 → A5 → A6 → A7 → A8 → A9 → A10 → A11 → A12 → Prop) (a1 : A1) (a2 : A2) (a3 : A3) (a4 : A4) (a5 : A5) (a6 : A6) (a7 : A7) (a8 : A8) (a9 : A9) (a10 : A10) (a11 : A11) (a12 : A12), Inv a1 a2 a3 a4 a5 a6 a7 a8 a9 a10 a11 a12 → (∀ (b1 : A1) (b2 : A2) (b3 : A3) (b4 : A4) (b5 : A5) (b6 : A6) (b7 : A7) (b8 : A8) (b9 : A9) (b10 : A10) (b11 : A11) (b12 : A12), Inv b1 b2 b3 b4 b5 b6 b7 b8 b9 b10 b11 b12 → μ b1 b2 b3 b4 b5 b6 b7 b8 b9 b10 b11 b12 < μ a1 a2 a3 a4 a5 a6 a7 a8 a9 a10 a11 a12 → X b1 b2 b3 b4 b5 b6 b7 b8 b9 b10 b11 b12) → B X a1 a2 a3 a4 a5 a6 a7 a8 a9 a10 a11 a12) (a1 : A1) (a2 : A2) (a3 : A3) (a4 : A4) (a5 : A5) (a6 : A6) (a7 : A7) (a8 : A8) (a9 : A9) (a10 : A10) (a11 : A11) (a12 : A12) (h : Inv a1 a2 a3 a4 a5 a6 a7 a8 a9 a10 a11 a12) : L12 B a1 a2 a3 a4 a5 a6 a7 a8 a9 a10 a11 a12 := by
  have key : ∀ (n : Nat) (a1 : A1) (a2 : A2) (a3 : A3) (a4 : A4) (a5 : A5) (a6 : A6) (a7 : A7) (a8 : A8) (a9 : A9) (a10 : A10) (a11 : A11) (a12 : A12), Inv a1 a2 a3 a4 a5 a6 a7 a8 a9 a10 a11 a12 → μ a1 a2 a3 a4 a5 a6 a7 a8 a9 a10 a11 a12 < n → lf12 B n a1 a2 a3 a4 a5 a6 a7 a8 a9 a10 a11 a12 := by
    intro n
    induction n with
    | zero => intro a1 a2 a3 a4 a5 a6 a7 a8 a9 a10 a11 a12 _ h; exact absurd h (Nat.not_lt_zero _)
    | succ n ih => intro a1 a2 a3 a4 a5 a6 a7 a8 a9 a10 a11 a12 h1 h2; exact hs _ a1 a2 a3 a4 a5 a6 a7 a8 a9 a10 a11 a12 h1 (fun b1 b2 b3 b4 b5 b6 b7 b8 b9 b10 b11 b12 h3 h4 => ih b1 b2 b3 b4 b5 b6 b7 b8 b9 b10 b11 b12 h3 (by omega))
  exact ⟨_, key (μ a1 a2 a3 a4 a5 a6 a7 a8 a9 a10 a11 a12 + 1) a1 a2 a3 a4 a5 a6 a7 a8 a9 a10 a11 a12 h (Nat.lt_succ_self _)⟩
def jn12 {A1 A2 A3 A4 A5 A6 A7 A8 A9 A10 A11 A12 : Type} (F : (A1 → A2 → A3 → A4 → A5 → A6 → A7 → A8 → A9 → A10 → A11 → A12 → Prop) → Prop) (k : A1 → A2 → A3 → A4 → A5 → A6 → A7 → A8 → A9 → A10 → A11 → A12 → Prop) : Prop := F k
theorem v_jn12 {A1 A2 A3 A4 A5 A6 A7 A8 A9 A10 A11 A12 : Type} {F : (A1 → A2 → A3 → A4 → A5 → A6 → A7 → A8 → A9 → A10 → A11 → A12 → Prop) → Prop} {k : A1 → A2 → A3 → A4 → A5 → A6 → A7 → A8 → A9 → A10 → A11 → A12 → Prop} {g : Gl} {x : Cx} {nL : Nat} {q : Nat × Nat} {pc : Nat} {lv : List (Nat × Value)} {st : List Value} {I : MI} {r : Rh} (J : A1 → A2 → A3 → A4 → A5 → A6 → A7 → A8 → A9 → A10 → A11 → A12 → Prop → Prop) (hF : ∀ k' : A1 → A2 → A3 → A4 → A5 → A6 → A7 → A8 → A9 → A10 → A11 → A12 → Prop, (∀ (a1 : A1) (a2 : A2) (a3 : A3) (a4 : A4) (a5 : A5) (a6 : A6) (a7 : A7) (a8 : A8) (a9 : A9) (a10 : A10) (a11 : A11) (a12 : A12), J a1 a2 a3 a4 a5 a6 a7 a8 a9 a10 a11 a12 (k' a1 a2 a3 a4 a5 a6 a7 a8 a9 a10 a11 a12)) → V g x nL q pc lv st I r (F k')) (hk : ∀ (a1 : A1) (a2 : A2) (a3 : A3) (a4 : A4) (a5 : A5) (a6 : A6) (a7 : A7) (a8 : A8) (a9 : A9) (a10 : A10) (a11 : A11) (a12 : A12), J a1 a2 a3 a4 a5 a6 a7 a8 a9 a10 a11 a12 (k a1 a2 a3 a4 a5 a6 a7 a8 a9 a10 a11 a12)) : V g x nL q pc lv st I r (jn12 F k) := hF k hk
def lf13 {A1 A2 A3 A4 A5 A6 A7 A8 A9 A10 A11 A12 A13 : Type} (B : (A1 → A2 → A3 → A4 → A5 → A6 → A7 → A8 → A9 → A10 → A11 → A12 → A13 → Prop) → A1 → A2 → A3 → A4 → A5 → A6 → A7 → A8 → A9 → A10 → A11 → A12 → A13 → Prop) : Nat → A1 → A2 → A3 → A4 → A5 → A6 → A7 → A8 → A9 → A10 → A11 → A12 → A13 → Prop
  | 0 => fun _ _ _ _ _ _ _ _ _ _ _ _ _ => False
  | n + 1 => B (lf13 B n)
def L13 {A1 A2 A3 A4 A5 A6 A7 A8 A9 A10 A11 A12 A13 : Type} (B : (A1 → A2 → A3 → A4 → A5 → A6 → A7 → A8 → A9 → A10 → A11 → A12 → A13 → Prop) → A1 → A2 → A3 → A4 → A5 → A6 → A7 → A8 → A9 → A10 → A11 → A12 → A13 → Prop) (a1 : A1) (a2 : A2) (a3 : A3) (a4 : A4) (a5 : A5) (a6 : A6) (a7 : A7) (a8 : A8) (a9 : A9) (a10 : A10) (a11 : A11) (a12 : A12) (a13 : A13) : Prop := ∃ n, lf13 B n a1 a2 a3 a4 a5 a6 a7 a8 a9 a10 a11 a12 a13
theorem L13.run {A1 A2 A3 A4 A5 A6 A7 A8 A9 A10 A11 A12 A13 : Type} {B : (A1 → A2 → A3 → A4 → A5 → A6 → A7 → A8 → A9 → A10 → A11 → A12 → A13 → Prop) → A1 → A2 → A3 → A4 → A5 → A6 → A7 → A8 → A9 → A10 → A11 → A12 → A13 → Prop} {g : Gl} {x : Cx} {nL : Nat} {q : Nat × Nat} {pc : Nat} {lv : A1 → A2 → A3 → A4 → A5 → A6 → A7 → A8 → A9 → A10 → A11 → A12 → A13 → List (Nat × Value)} {st : A1 → A2 → A3 → A4 → A5 → A6 → A7 → A8 → A9 → A10 → A11 → A12 → A13 → List Value} {Im : A1 → A2 → A3 → A4 → A5 → A6 → A7 → A8 → A9 → A10 → A11 → A12 → A13 → MI} {r : A1 → A2 → A3 → A4 → A5 → A6 → A7 → A8 → A9 → A10 → A11 → A12 → A13 → Rh} (hs : ∀ X, (∀ (b1 : A1) (b2 : A2) (b3 : A3) (b4 : A4) (b5 : A5) (b6 : A6) (b7 : A7) (b8 : A8) (b9 : A9) (b10 : A10) (b11 : A11) (b12 : A12) (b13 : A13), V g x nL q pc (lv b1 b2 b3 b4 b5 b6 b7 b8 b9 b10 b11 b12 b13) (st b1 b2 b3 b4 b5 b6 b7 b8 b9 b10 b11 b12 b13) (Im b1 b2 b3 b4 b5 b6 b7 b8 b9 b10 b11 b12 b13) (r b1 b2 b3 b4 b5 b6 b7 b8 b9 b10 b11 b12 b13) (X b1 b2 b3 b4 b5 b6 b7 b8 b9 b10 b11 b12 b13)) → ∀ (a1 : A1) (a2 : A2) (a3 : A3) (a4 : A4) (a5 : A5) (a6 : A6) (a7 : A7) (a8 : A8) (a9 : A9) (a10 : A10) (a11 : A11) (a12 : A12) (a13 : A13), V g x nL q pc (lv a1 a2 a3 a4 a5 a6 a7 a8 a9 a10 a11 a12 a13) (st a1 a2 a3 a4 a5 a6 a7 a8 a9 a10 a11 a12 a13) (Im a1 a2 a3 a4 a5 a6 a7 a8 a9 a10 a11 a12 a13) (r a1 a2 a3 a4 a5 a6 a7 a8 a9 a10 a11 a12 a13) (B X a1 a2 a3 a4 a5 a6 a7 a8 a9 a10 a11 a12 a13)) (a1 : A1) (a2 : A2) (a3 : A3) (a4 : A4) (a5 : A5) (a6 : A6) (a7 : A7) (a8 : A8) (a9 : A9) (a10 : A10) (a11 : A11) (a12 : A12) (a13 : A13) : V g x nL q pc (lv a1 a2 a3 a4 a5 a6 a7 a8 a9 a10 a11 a12 a13) (st a1 a2 a3 a4 a5 a6 a7 a8 a9 a10 a11 a12 a13) (Im a1 a2 a3 a4 a5 a6 a7 a8 a9 a10 a11 a12 a13) (r a1 a2 a3 a4 a5 a6 a7 a8 a9 a10 a11 a12 a13) (L13 B a1 a2 a3 a4 a5 a6 a7 a8 a9 a10 a11 a12 a13) := by
  refine v_ex (fun n => ?_)
  induction n generalizing a1 a2 a3 a4 a5 a6 a7 a8 a9 a10 a11 a12 a13 with
  | zero => exact v_false
  | succ n ih => exact hs (lf13 B n) ih a1 a2 a3 a4 a5 a6 a7 a8 a9 a10 a11 a12 a13
theorem L13.inv {A1 A2 A3 A4 A5 A6 A7 A8 A9 A10 A11 A12 A13 : Type} {B : (A1 → A2 → A3 → A4 → A5 → A6 → A7 → A8 → A9 → A10 → A11 → A12 → A13 → Prop) → A1 → A2 → A3 → A4 → A5 → A6 → A7 → A8 → A9 → A10 → A11 → A12 → A13 → Prop} (Inv : A1 → A2 → A3 → A4 → A5 → A6 → A7 → A8 → A9 → A10 → A11 → A12 → A13 → Prop) (μ : A1 → A2 → A3 → A4 → A5 → A6 → A7 → A8 → A9 → A10 → A11 → A12 → A13 → Nat) (hs : ∀ (X : A1 → A2 → A3 → A4 → A5 → A6 → A7 → A8 → A9 → A10 → A11 → A12 → A13 → Prop) (a1 : A1) (a2 : A2) (a3 : A3) (a4 : A4) (a5 : A5) (a6 : A6) (a7 : A7) (a8 : A8) (a9 : A9) (a10 : A10) (a11 : A11) (a12 : A12) (a13 : A13), Inv a1 a2 a3 a4 a5 a6 a7 a8 a9 a10 a11 a12 a13 → (∀ (b1 : A1) (b2 : A2) (b3 : A3) (b4 : A4) (b5 : A5) (b6 : A6) (b7 : A7) (b8 : A8) (b9 : A9) (b10 : A10) (b11 : A11) (b12 : A12) (b13 : A13), Inv b1 b2 b3 b4 b5 b6 b7 b8 b9 b10 b11 b12 b13 → μ b1 b2 b3 b4 b5 b6 b7 b8 b9 b10 b11 b12 b13 < μ a1 a2 a3 a4 a5 a6 a7 a8 a9 a10 a11 a12 a13 → X b1 b2 b3 b4 b5 b6 b7 b8 b9 b10 b11 b12 b13) → B X a1 a2 a3 a4 a5 a6 a7 a8 a9 a10 a11 a12 a13) (a1 : A1) (a2 : A2) (a3 : A3) (a4 : A4) (a5 : A5) (a6 : A6) (a7 : A7) (a8 : A8) (a9 : A9) (a10 : A10) (a11 : A11) (a12 : A12) (a13 : A13) (h : Inv a1 a2 a3 a4 a5 a6 a7 a8 a9 a10 a11 a12 a13) : L13 B a1 a2 a3 a4 a5 a6 a7 a8 a9 a10 a11 a12 a13 := by
  have key : ∀ (n : Nat) (a1 : A1) (a2 : A2) (a3 : A3) (a4 : A4) (a5 : A5) (a6 : A6) (a7 : A7) (a8 : A8) (a9 : A9) (a10 : A10) (a11 : A11) (a12 : A12) (a13 : A13), Inv a1 a2 a3 a4 a5 a6 a7 a8 a9 a10 a11 a12 a13 → μ a1 a2 a3 a4 a5 a6 a7 a8 a9 a10 a11 a12 a13 < n → lf13 B n a1 a2 a3 a4 a5 a6 a7 a8 a9 a10 a11 a12 a13 := by
    intro n
    induction n with
    | zero => intro a1 a2 a3 a4 a5 a6 a7 a8 a9 a10 a11 a12 a13 _ h; exact absurd h (Nat.not_lt_zero _)
    | succ n ih => intro a1 a2 a3 a4 a5 a6 a7 a8 a9 a10 a11 a12 a13 h1 h2; exact hs _ a1 a2 a3 a4 a5 a6 a7 a8 a9 a10 a11 a12 a13 h1 (fun b1 b2 b3 b4 b5 b6 b7 b8 b9 b10 b11 b12 b13 h3 h4 => ih b1 b2 b3 b4 b5 b6 b7 b8 b9 b10 b11 b12 b13 h3 (by omega))
  exact ⟨_, key (μ a1 a2 a3 a4 a5 a6 a7 a8 a9 a10 a11 a12 a13 + 1) a1 a2 a3 a4 a5 a6 a7 a8 a9 a10 a11 a12 a13 h (Nat.lt_succ_self _)⟩
def jn13 {A1 A2 A3 A4 A5 A6 A7 A8 A9 A10 A11 A12 A13 : Type} (F : (A1 → A2 → A3 → A4 → A5 → A6 → A7 → A8 → A9 → A10 → A11 → A12 → A13 → Prop) → Prop) (k : A1 → A2 → A3 → A4 → A5 → A6 → A7 → A8 → A9 → A10 → A11 → A12 → A13 → Prop) : Prop := F k
theorem v_jn13 {A1 A2 A3 A4 A5 A6 A7 A8 A9 A10 A11 A12 A13 : Type} {F : (A1 → A2 → A3 → A4 → A5 → A6 → A7 → A8 → A9 → A10 → A11 → A12 → A13 → Prop) → Prop} {k : A1 → A2 → A3 → A4 → A5 → A6 → A7 → A8 → A9 → A10 → A11 → A12 → A13 → Prop} {g : Gl} {x : Cx} {nL : Nat} {q : Nat × Nat} {pc : Nat} {lv : List (Nat × Value)} {st : List Value} {I : MI} {r : Rh} (J : A1 → A2 → A3 → A4 → A5 → A6 → A7 → A8 → A9 → A10 → A11 → A12 → A13 → Prop → Prop) (hF : ∀ k' : A1 → A2 → A3 → A4 → A5 → A6 → A7 → A8 → A9 → A10 → A11 → A12 → A13 → Prop, (∀ (a1 : A1) (a2 : A2) (a3 : A3) (a4 : A4) (a5 : A5) (a6 : A6) (a7 : A7) (a8 : A8) (a9 : A9) (a10 : A10) (a11 : A11) (a12 : A12) (a13 : A13), J a1 a2 a3 a4 a5 a6 a7 a8 a9 a10 a11 a12 a13 (k' a1 a2 a3 a4 a5 a6 a7 a8 a9 a10 a11 a12 a13)) → V g x nL q pc lv st I r (F k')) (hk : ∀ (a1 : A1) (a2 : A2) (a3 : A3) (a4 : A4) (a5 : A5) (a6 : A6) (a7 : A7) (a8 : A8) (a9 : A9) (a10 : A10) (a11 : A11) (a12 : A12) (a13 : A13), J a1 a2 a3 a4 a5 a6 a7 a8 a9 a10 a11 a12 a13 (k a1 a2 a3 a4 a5 a6 a7 a8 a9 a10 a11 a12 a13)) : V g x nL q pc lv st I r (jn13 F k) := hF k hk
def lf14 {A1 A2 A3 A4 A5 A6 A7 A8 A9 A10 A11 A12 A13 A14 : Type} (B : (A1 → A2 → A3 → A4 → A5 → A6 → A7 → A8 → A9 → A10 → A11 → A12 → A13 → A14 → Prop) → A1 → A2 → A3 → A4 → A5 → A6 → A7 → A8 → A9 → A10 → A11 → A12 → A13 → A14 → Prop) : Nat → A1 → A2 → A3 → A4 → A5 → A6 → A7 → A8 → A9 → A10 → A11 → A12 → A13 → A14 → Prop
  | 0 => fun _ _ _ _ _ _ _ _ _ _ _ _ _ _ => False
  | n + 1 => B (lf14 B n)
def L14 {A1 A2 A3 A4 A5 A6 A7 A8 A9 A10 A11 A12 A13 A14 : Type} (B : (A1 → A2 → A3 → A4 → A5 → A6 → A7 → A8 → A9 → A10 → A11 → A12 → A13 → A14 → Prop) → A1 → A2 → A3 → A4 → A5 → A6 → A7 → A8 → A9 → A10 → A11 → A12 → A13 → A14 → Prop) (a1 : A1) (a2 : A2) (a3 : A3) (a4 : A4) (a5 : A5) (a6 : A6) (a7 : A7) (a8 : A8) (a9 : A9) (a10 : A10) (a11 : A11) (a12 : A12) (a13 : A13) (a14 : A14) : Prop := ∃ n, lf14 B n a1 a2 a3 a4 a5 a6 a7 a8 a9 a10 a11 a12 a13 a14
theorem L14.run {A1 A2 A3 A4 A5 A6 A7 A8 A9 A10 A11 A12 A13 A14 : Type} {B : (A1 → A2 → A3 → A4 → A5 → A6 → A7 → A8 → A9 → A10 → A11 → A12 → A13 → A14 → Prop) → A1 → A2 → A3 → A4 → A5 → A6 → A7 → A8 → A9 → A10 → A11 → A12 → A13 → A14 → Prop} {g : Gl} {x : Cx} {nL : Nat} {q : Nat × Nat} {pc : Nat} {lv : A1 → A2 → A3 → A4 → A5 → A6 → A7 → A8 → A9 → A10 → A11 → A12 → A13 → A14 → List (Nat × Value)} {st : A1 → A2 → A3 → A4 → A5 → A6 → A7 → A8 → A9 → A10 → A11 → A12 → A13 → A14 → List Value} {Im : A1 → A2 → A3 → A4 → A5 → A6 → A7 → A8 → A9 → A10 → A11 → A12 → A13 → A14 → MI} {r : A1 → A2 → A3 → A4 → A5 → A6 → A7 → A8 → A9 → A10 → A11 → A12 → A13 → A14 → Rh} (hs : ∀ X, (∀ (b1 : A1) (b2 : A2) (b3 : A3) (b4 : A4) (b5 : A5) (b6 : A6) (b7 : A7) (b8 : A8) (b9 : A9) (b10 : A10) (b11 : A11) (b12 : A12) (b13 : A13) (b14 : A14), V g x nL q pc (lv b1 b2 b3 b4 b5 b6 b7 b8 b9 b10 b11 b12 b13 b14) (st b1 b2 b3 b4 b5 b6 b7 b8 b9 b10 b11 b12 b13 b14) (Im b1 b2 b3 b4 b5 b6 b7 b8 b9 b10 b11 b12 b13 b14) (r b1 b2 b3 b4 b5 b6 b7 b8 b9 b10 b11 b12 b13 b14) (X b1 b2 b3 b4 b5 b6 b7 b8 b9 b10 b11 b12 b13 b14)) → ∀ (a1 : A1) (a2 : A2) (a3 : A3) (a4 : A4) (a5 : A5) (a6 : A6) (a7 : A7) (a8 : A8) (a9 : A9) (a10 : A10) (a11 : A11) (a12 : A12) (a13 : A13) (a14 : A14), V g x nL q pc (lv a1 a2 a3 a4 a5 a6 a7 a8 a9 a10 a11 a12 a13 a14) (st a1 a2 a3 a4 a5 a6 a7 a8 a9 a10 a11 a12 a13 a14) (Im a1 a2 a3 a4 a5 a6 a7 a8 a9 a10 a11 a12 a13 a14) (r a1 a2 a3 a4 a5 a6 a7 a8 a9 a10 a11 a12 a13 a14) (B X a1 a2 a3 a4 a5 a6 a7 a8 a9 a10 a11 a12 a13 a14)) (a1 : A1) (a2 : A2) (a3 : A3) (a4 : A4) (a5 : A5) (a6 : A6) (a7 : A7) (a8 : A8) (a9 : A9) (a10 : A10) (a11 : A11) (a12 : A12) (a13 : A13) (a14 : A14) : V g x nL q pc (lv a1 a2 a3 a4 a5 a6 a7 a8 a9 a10 a11 a12 a13 a14) (st a1 a2 a3 a4 a5 a6 a7 a8 a9 a10 a11 a12 a13 a14) (Im a1 a2 a3 a4 a5 a6 a7 a8 a9 a10 a11 a12 a13 a14) (r a1 a2 a3 a4 a5 a6 a7 a8 a9 a10 a11 a12 a13 a14) (L14 B a1 a2 a3 a4 a5 a6 a7 a8 a9 a10 a11 a12 a13 a14) := by
  refine v_ex (fun n => ?_)
  induction n generalizing a1 a2 a3 a4 a5 a6 a7 a8 a9 a10 a11 a12 a13 a14 with
  | zero => exact v_false
  | succ n ih => exact hs (lf14 B n) ih a1 a2 a3 a4 a5 a6 a7 a8 a9 a10 a11 a12 a13 a14
theorem L14.inv {A1 A2 A3 A4 A5 A6 A7 A8 A9 A10 A11 A12 A13 A14 : Type} {B : (A1 → A2 → A3 → A4 → A5 → A6 → A7 → A8 → A9 → A10 → A11 → A12 → A13 → A14 → Prop) → A1 → A2 → A3 → A4 → A5 → A6 → A7 → A8 → A9 → A10 → A11 → A12 → A13 → A14 → Prop} (Inv : A1 → A2 → A3 → A4 → A5 → A6 → A7 → A8 → A9 → A10 → A11 → A12 → A13 → A14 → Prop) (μ : A1 → A2 → A3 → A4 → A5 → A6 → A7 → A8 → A9 → A10 → A11 → A12 → A13 → A14 → Nat) (hs : ∀ (X : A1 → A2 → A3 → A4 → A5 → A6 → A7 → A8 → A9 → A10 → A11 → A12 → A13 → A14 → Prop) (a1 : A1) (a2 : A2) (a3 : A3) (a4 : A4) (a5 : A5) (a6 : A6) (a7 : A7) (a8 : A8) (a9 : A9) (a10 : A10) (a11 : A11) (a12 : A12) (a13 : A13) (a14 : A14), Inv a1 a2 a3 a4 a5 a6 a7 a8 a9 a10 a11 a12 a13 a14 → (∀ (b1 : A1) (b2 : A2) (b3 : A3) (b4 : A4) (b5 : A5) (b6 : A6) (b7 : A7) (b8 : A8) (b9 : A9) (b10 : A10) (b11 : A11) (b12 : A12) (b13 : A13) (b14 : A14), Inv b1 b2 b3 b4 b5 b6 b7 b8 b9 b10 b11 b12 b13 b14 → μ b1 b2 b3 b4 b5 b6 b7 b8 b9 b10 b11 b12 b13 b14 < μ a1 a2 a3 a4 a5 a6 a7 a8 a9 a10 a11 a12 a13 a14 → X b1 b2 b3 b4 b5 b6 b7 b8 b9 b10 b11 b12 b13 b14) → B X a1 a2 a3 a4 a5 a6 a7 a8 a9 a10 a11 a12 a13 a14) (a1 : A1) (a2 : A2) (a3 : A3) (a4 : A4) (a5 : A5) (a6 : A6) (a7 : A7) (a8 : A8) (a9 : A9) (a10 : A10) (a11 : A11) (a12 : A12) (a13 : A13) (a14 : A14) (h : Inv a1 a2 a3 a4 a5 a6 a7 a8 a9 a10 a11 a12 a13 a14) : L14 B a1 a2 a3 a4 a5 a6 a7 a8 a9 a10 a11 a12 a13 a14 := by
  have key : ∀ (n : Nat) (a1 : A1) (a2 : A2) (a3 : A3) (a4 : A4) (a5 : A5) (a6 : A6) (a7 : A7) (a8 : A8) (a9 : A9) (a10 : A10) (a11 : A11) (a12 : A12) (a13 : A13) (a14 : A14), Inv a1 a2 a3 a4 a5 a6 a7 a8 a9 a10 a11 a12 a13 a14 → μ a1 a2 a3 a4 a5 a6 a7 a8 a9 a10 a11 a12 a13 a14 < n → lf14 B n a1 a2 a3 a4 a5 a6 a7 a8 a9 a10 a11 a12 a13 a14 := by
    intro n
    induction n with
    | zero => intro a1 a2 a3 a4 a5 a6 a7 a8 a9 a10 a11 a12 a13 a14 _ h; exact absurd h (Nat.not_lt_zero _)
    | succ n ih => intro a1 a2 a3 a4 a5 a6 a7 a8 a9 a10 a11 a12 a13 a14 h1 h2; exact hs _ a1 a2 a3 a4 a5 a6 a7 a8 a9 a10 a11 a12 a13 a14 h1 (fun b1 b2 b3 b4 b5 b6 b7 b8 b9 b10 b11 b12 b13 b14 h3 h4 => ih b1 b2 b3 b4 b5 b6 b7 b8 b9 b10 b11 b12 b13 b14 h3 (by omega))
  exact ⟨_, key (μ a1 a2 a3 a4 a5 a6 a7 a8 a9 a10 a11 a12 a13 a14 + 1) a1 a2 a3 a4 a5 a6 a7 a8 a9 a10 a11 a12 a13 a14 h (Nat.lt_succ_self _)⟩
def jn14 {A1 A2 A3 A4 A5 A6 A7 A8 A9 A10 A11 A12 A13 A14 : Type} (F : (A1 → A2 → A3 → A4 → A5 → A6 → A7 → A8 → A9 → A10 → A11 → A12 → A13 → A14 → Prop) → Prop) (k : A1 → A2 → A3 → A4 → A5 → A6 → A7 → A8 → A9 → A10 → A11 → A12 → A13 → A14 → Prop) : Prop := F k
theorem v_jn14 {A1 A2 A3 A4 A5 A6 A7 A8 A9 A10 A11 A12 A13 A14 : Type} {F : (A1 → A2 → A3 → A4 → A5 → A6 → A7 → A8 → A9 → A10 → A11 → A12 → A13 → A14 → Prop) → Prop} {k : A1 → A2 → A3 → A4 → A5 → A6 → A7 → A8 → A9 → A10 → A11 → A12 → A13 → A14 → Prop} {g : Gl} {x : Cx} {nL : Nat} {q : Nat × Nat} {pc : Nat} {lv : List (Nat × Value)} {st : List Value} {I : MI} {r : Rh} (J : A1 → A2 → A3 → A4 → A5 → A6 → A7 → A8 → A9 → A10 → A11 → A12 → A13 → A14 → Prop → Prop) (hF : ∀ k' : A1 → A2 → A3 → A4 → A5 → A6 → A7 → A8 → A9 → A10 → A11 → A12 → A13 → A14 → Prop, (∀ (a1 : A1) (a2 : A2) (a3 : A3) (a4 : A4) (a5 : A5) (a6 : A6) (a7 : A7) (a8 : A8) (a9 : A9) (a10 : A10) (a11 : A11) (a12 : A12) (a13 : A13) (a14 : A14), J a1 a2 a3 a4 a5 a6 a7 a8 a9 a10 a11 a12 a13 a14 (k' a1 a2 a3 a4 a5 a6 a7 a8 a9 a10 a11 a12 a13 a14)) → V g x nL q pc lv st I r (F k')) (hk : ∀ (a1 : A1) (a2 : A2) (a3 : A3) (a4 : A4) (a5 : A5) (a6 : A6) (a7 : A7) (a8 : A8) (a9 : A9) (a10 : A10) (a11 : A11) (a12 : A12) (a13 : A13) (a14 : A14), J a1 a2 a3 a4 a5 a6 a7 a8 a9 a10 a11 a12 a13 a14 (k a1 a2 a3 a4 a5 a6 a7 a8 a9 a10 a11 a12 a13 a14)) : V g x nL q pc lv st I r (jn14 F k) := hF k hk
