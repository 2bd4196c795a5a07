/-! V, sixth part: constructors -/
set_option maxRecDepth 100000
/-- between the start's world r0 and the end's room -/
def Wt (r0 r : Rh) (cN cS : Nat) : Prop := rN r0 ≤ rN r ∧ rN r ≤ cN ∧ rS r0 ≤ rS r ∧ rS r ≤ cS
def FieldF (own : String) (idx c k : Nat) (τ : FieldType) : Prop := ∃ (C : String) (T : u_T) (N : Nat) (ty : Nat → FieldType), vCl[c]? = some (C, T, N) ∧ (∀ w ∈ u_ws C T N, w ∈ lw_all) ∧ k < N ∧ (∀ j, j < N → parseFieldDescriptor (T j).2.2.1 = some (ty j)) ∧ (∀ a, a < N → ∀ b, b < N → a ≠ b → (T a).2.1 ≠ (T b).2.1) ∧ (T k).2.2.2 = true ∧ ty k = τ ∧ (T k).1 = own ∧ Cond.fieldLink own idx own (T k).2.1 (T k).2.2.1 ∈ lw_all
def CallI (own : String) (idx : Nat) (y : MethodName) (bytes : ByteArray) (maxL n : Nat) : Prop :=
  (Cond.methodLink own idx y ∈ lw_all ∨ ∃ host, Cond.methodLinkNest own idx y host ∈ lw_tbl) ∧ GoodIn lw_all (ws_ y bytes maxL none) ∧ Cond.initialized y.cls ∈ lw_all ∧ Cond.instanceMethod y ∈ lw_all ∧ y.name = "<init>" ∧ (y.cls ≠ "java/lang/invoke/MethodHandle" ∧ y.cls ≠ "java/lang/invoke/VarHandle" ∧ (parseMethodDescriptor y.desc).map (fun d => d.parameters.length) = some n) ∧ maxL ≤ 41
section VINIT
variable {g : Gl} {x : Cx} {cc : ByteArray} {nL : Nat} {own : String} {d : Nat} {q : Nat × Nat} {pc : Nat} {lv lv' : List (Nat × Value)} {st : List Value} {I : MI} {r r0 : Rh} {E : Prop} {cN cS : Nat}
theorem Wt.hq (hRm : RmN x (rN r0) (rS r0) cN cS) (hw : Wt r0 r cN cS) : rN r - rN r0 ≤ (xR x).cells ∧ rS r - rS r0 ≤ (xR x).slots := by
  obtain ⟨h1, h2, h3, h4⟩ := hw
  rw [hRm.1, hRm.2]
  omega
theorem v_objInit (h : Amb g x cc nL own d) {idx a : Nat} (hd : decode cc pc = .ok (.invokespecial idx, 3)) (hlk : Cond.methodLink own idx Lib.objectInit ∈ lw_all) (hd1 : 1 ≤ d) (hroom : (st.map fun v => v.category).sum ≤ 8) (kk : V g x nL q (pc + 3) lv st I r E) : V g x nL q pc lv (.ref a :: st) I r E := by
  intro hE H locs ls hR hS hl
  obtain ⟨hx, hb, hml, hown, hts, hlk0, hRf, hRl, hWK, hB⟩ := h
  exact W.objInit hx hb hown (hts _ hlk) (hts _ q180) (hts _ q181) rfl (by rw [hml]; exact hl.1) rfl hd (by rw [hRf]; exact hd1) (by rw [hRl]; have := lv_room (m := xm x) (pc := pc) (ls := ls) (rest := .ref a :: st) hroom; omega) (kk hE H locs ls hR hS hl)
theorem v_putFv (h : Amb g x cc nL own d) {idx c k a : Nat} {τ : FieldType} {v : Value} {I' : MI} {P' : MP} (hnm : (xM x).name = "<init>") (hd : decode cc pc = .ok (.putfield idx, 3)) (hf : FieldF own idx c k τ) (hn : narrow τ v = v) (hfit : fits τ v = true) (hK : rK r a = c) (hI : ∀ b, b ≠ a → I' b = I b) (hP : ∀ b, b ≠ a → P' b = rP r b) (hv : fv c I' P' a = updV (fv c I (rP r) a) k v) (kk : V g x nL q (pc + 3) lv st I' (P', rK r, rL r, rN r, rS r) E) : V g x nL q pc lv (v :: .ref a :: st) I r E := by
  intro hE H locs ls hR hS hl
  obtain ⟨C, T, N, ty, hc, hin, hk, hty, hnm2, hfin, hτ, hdecl, hlink⟩ := hf
  obtain ⟨hx, hb, hml, hown, hts, hlk, -, -, hWK, -⟩ := h
  obtain ⟨cell, q1, q2, q3, q4⟩ := (hR.2 a).2.1 c _ hK hc
  obtain ⟨hSl, hfc, kC, hkC, hkind⟩ := hWK.1.1 c _ hc
  obtain ⟨cf, kf, fi, f, hi, hsl⟩ := hSl k hk
  have hst := (u_facts hfc hkC (u_lays hts hin hk) hi).1
  have hap := va_apart (own := own) hts hin ty hty hnm2 hWK.1 hc
  have hlay := hts _ (hin _ (u_in_lay hk))
  unfold u_lay at hlay
  rw [if_pos hfin] at hlay
  have hcf : (xm x).cls = cf := by
    obtain ⟨_, _, c', _, _, _, -, -, hf', -, -, -, hown2, -⟩ := Cond.laysFinal_spec hlay
    have e1 : c' = cf := by have := hi.symm.trans hf'; simp at this; exact this.1.symm
    rw [hdecl] at hown2
    rw [← e1]; exact Option.some.inj (hown.symm.trans hown2)
  have h6 := u_fits hfc hkC hkind (Or.inr hlay) hi ((hty k hk).trans (by rw [hτ])) hn hfit
  dsimp only at q4 hi
  have hi2 : (xs x).fieldFound? own (T k).2.1 (T k).2.2.1 = some (cf, kf, fi, f) := by rw [← hdecl]; exact hi
  refine W.putFinK hx hb hown (hts _ hlink) hi2 hst hcf hnm (by rw [q2]; exact h6) q1 q3 (by rw [hsl]; exact k2_hasslot (q4 k hk)) rfl rfl hd fun H' e1 e2 e3 => ?_
  rw [hsl] at e1 ⊢
  refine kk hE H' _ ls (hR.upd e2 e3 hI hP (fun c2 q2' hc2 hq2 => ?_) (fun t ty' ht hq => ?_)) (hS.put e2 e3 ((hR.2 a).1 (fun h9 => ?_))) hl
  · have e4 : c2 = c := hc2.symm.trans hK
    subst e4
    have e5 : q2' = (C, T, N) := Option.some.inj (hq2.symm.trans hc)
    subst e5
    rw [hv]
    exact ⟨_, e1, q2, q3, t_set q4 hap hk v⟩
  · have := vCl_lt hc
    omega
  · have := vCl_lt hc
    omega
theorem v_putFi (h : Amb g x cc nL own d) {idx c k a : Nat} {v : Int32} (hnm : (xM x).name = "<init>") (hd : decode cc pc = .ok (.putfield idx, 3)) (hf : FieldF own idx c k .int) (hr : vRef c k = false) (hK : rK r a = c) (kk : V g x nL q (pc + 3) lv st (wI I a k v) r E) : V g x nL q pc lv (.int v :: .ref a :: st) I r E :=
  v_putFv (I' := wI I a k v) (P' := rP r) h hnm hd hf rfl rfl hK (fun b hb => wI_ne hb) (fun b hb => rfl) (fv_wI hr) kk
theorem v_putFr (h : Amb g x cc nL own d) {idx c k a : Nat} {τ : FieldType} {o : Option Nat} (hnm : (xM x).name = "<init>") (hd : decode cc pc = .ok (.putfield idx, 3)) (hf : FieldF own idx c k τ) (hn : narrow τ (va_rf o) = va_rf o) (hfit : fits τ (va_rf o) = true) (hr : vRef c k = true) (hK : rK r a = c) (kk : V g x nL q (pc + 3) lv st I (wP r a k o) E) : V g x nL q pc lv (va_rf o :: .ref a :: st) I r E :=
  v_putFv (I' := I) (P' := rP (wP r a k o)) h hnm hd hf hn hfit hK (fun b hb => rfl) (fun b hb => wP_ne hb) (fv_wP hr) kk
theorem v_runI (h : Amb g x cc nL own d) {idx maxL n d' b mc ms : Nat} {y : MethodName} {bytes : ByteArray} {As rest : List Value} {Qc : Array Value → State → Outcome → State → Prop} (hd : decode cc pc = .ok (.invokespecial idx, 3)) (hw : CallI own idx y bytes maxL n) (hM : Met (gl g) y (ws_ y bytes maxL none) (rmA d' mc ms) (va_Pc (.ref b :: As) (RS g I r)) Qc mc ms (gS g)) (hdd : d' + 1 ≤ d) (hn : As.length = n) (hroom : (rest.map fun v => v.category).sum ≤ 8) (hq : q.1 + mc ≤ (xR x).cells ∧ q.2 + ms ≤ (xR x).slots) {H : Heap} {locs : List Loc} {ls : Array Slot} (hR : Rp g I r H) (hS : va_S (gS g) (xs x).heap H locs) (hl : lv_has ls nL lv) :
    va_Run (xp x) (gl g) (xe x) (xR x) (xs x) (xm x) (xa x) (xb x) (xM x) (xc x) H locs q.1 q.2 mc ms (F0 (xm x) pc ls (As.reverse ++ .ref b :: rest)) rest (Qc (Value.ref b :: As).toArray) (gS g) := by
  obtain ⟨hx, hb, hml, hown, hts, hlk, hRf, hRl, hWK, hB⟩ := h
  obtain ⟨hw1, hw2, hw3, hw4, hw5, hw6, hw7⟩ := hw
  have hRR : (rmA d' mc ms).frames + 1 ≤ (xR x).frames ∧ 8 + (maxL + 11) + (rmA d' mc ms).locals ≤ (xR x).locals := ⟨by rw [hRf]; exact hdd, by rw [hRl]; show 8 + (maxL + 11) + 60 * d' ≤ 60 * d; omega⟩
  have hpre : PreS (xs x) H (va_Pc (.ref b :: As) (RS g I r)) (.ref b :: As) := ⟨rs_blind, fun U hU hW => ⟨rfl, by rw [hU]; exact hR, WK.warm hW hWK, HB.next hB hS hU hW⟩⟩
  rcases hw1 with hw1 | ⟨host, hw1⟩
  · exact va_runI (As := As) (rest := rest) ⟨hx, hb, hml, hown, hts⟩ hM (cwI n hts hw2 rfl rfl rfl (hts _ hw3) (hts _ hw1) (hts _ hw4) hw5 hw6 hRR) hpre rfl hn hl.1 rfl (lv_room hroom) hd hq
  · exact va_runIN (As := As) (rest := rest) ⟨hx, hb, hml, hown, hts⟩ hM ⟨va_cnB n hts hw2 rfl rfl rfl (hWK.2.1 _ hw1 rfl) (hts _ hw3) hw6 hRR, hw5, hts _ hw4⟩ hpre rfl hn hl.1 rfl (lv_room hroom) hd hq
/-- a constructor that makes no cells and changes ints at most -/
theorem v_initV (h : Amb g x cc nL own d) {idx maxL n d' b : Nat} {y : MethodName} {bytes : ByteArray} {As rest : List Value} {F : (MI → Prop) → Prop} {E1 : MI → Prop} (hd : decode cc pc = .ok (.invokespecial idx, 3)) (hw : CallI own idx y bytes maxL n) (hM : CtV g y bytes maxL d' (.ref b :: As) I r F) (hdd : d' + 1 ≤ d) (hn : As.length = n) (hst : st = As.reverse ++ .ref b :: rest) (hroom : (rest.map fun v => v.category).sum ≤ 8) (hq : q.1 ≤ (xR x).cells ∧ q.2 ≤ (xR x).slots)
    (kk : ∀ (I' : MI), V g x nL q (pc + 3) lv rest I' r (E1 I')) : V g x nL q pc lv st I r (F E1) := by
  intro hE H locs ls hR hS hl
  subst hst
  refine va_callv (v_runI h hd hw (mc := 0) (ms := 0) (hM E1 hE) hdd hn hroom hq hR hS hl) hS (fun q _ h => h) (fun q h => h) (fun u t H1 locs1 ht hvm hp hBt hz hk hS1 => ?_)
  exact kk u hp H1 locs1 ls (by rw [← ht]; exact hBt) hS1 hl
/-- .. and changes references -/
theorem v_initW (h : Amb g x cc nL own d) {idx maxL n d' b : Nat} {y : MethodName} {bytes : ByteArray} {As rest : List Value} {F : (MI → Rh → Prop) → Prop} {E1 : MI → Rh → Prop} (hd : decode cc pc = .ok (.invokespecial idx, 3)) (hw : CallI own idx y bytes maxL n) (hM : CtW g y bytes maxL d' 0 0 (.ref b :: As) I r F) (hdd : d' + 1 ≤ d) (hn : As.length = n) (hst : st = As.reverse ++ .ref b :: rest) (hroom : (rest.map fun v => v.category).sum ≤ 8) (hq : rN r - rN r0 ≤ (xR x).cells ∧ rS r - rS r0 ≤ (xR x).slots)
    (kk : ∀ (I' : MI) (r' : Rh), V g x nL (rN r' - rN r0, rS r' - rS r0) (pc + 3) lv rest I' r' (E1 I' r')) : V g x nL (rN r - rN r0, rS r - rS r0) pc lv st I r (F (fun I' r' => (rN r' = rN r ∧ rS r' = rS r) ∧ E1 I' r')) := by
  intro hE H locs ls hR hS hl
  subst hst
  refine va_callv (v_runI (q := (rN r - rN r0, rS r - rS r0)) h hd hw (mc := 0) (ms := 0) (hM _ hE) hdd hn hroom hq hR hS hl) hS (fun q _ h => h) (fun q h => h) (fun u t H1 locs1 ht hvm hp hBt hz hk hS1 => ?_)
  have hk := kk u.1 u.2 hp.2 H1 locs1 ls (by rw [← ht]; exact hBt) hS1 hl
  rw [hp.1.1, hp.1.2] at hk
  exact hk
/-- a constructor that makes cells -/
theorem v_initN (h : Amb g x cc nL own d) {idx maxL n d' b : Nat} {y : MethodName} {bytes : ByteArray} {As rest : List Value} {F : Nat → Nat → (MI → Rh → Prop) → Prop} {E1 : MI → Rh → Prop} (hd : decode cc pc = .ok (.invokespecial idx, 3)) (hw : CallI own idx y bytes maxL n) (hM : ∀ c1 c2, CtN g y bytes maxL d' c1 c2 (.ref b :: As) I r (F c1 c2)) (hdd : d' + 1 ≤ d) (hn : As.length = n) (hst : st = As.reverse ++ .ref b :: rest) (hroom : (rest.map fun v => v.category).sum ≤ 8) (hRm : RmN x (rN r0) (rS r0) cN cS) (hwt : Wt r0 r cN cS)
    (kk : ∀ (I' : MI) (r' : Rh), V g x nL (rN r' - rN r0, rS r' - rS r0) (pc + 3) lv rest I' r' (E1 I' r')) : V g x nL (rN r - rN r0, rS r - rS r0) pc lv st I r (∃ c1 c2, (rN r ≤ c1 ∧ c1 ≤ cN ∧ rS r ≤ c2 ∧ c2 ≤ cS) ∧ F c1 c2 E1) := by
  rintro ⟨c1, c2, ⟨g1, g2, g3, g4⟩, hE⟩ H locs ls hR hS hl
  subst hst
  obtain ⟨w1, w2, w3, w4⟩ := hwt
  refine va_callv (v_runI (q := (rN r - rN r0, rS r - rS r0)) h hd hw (hM c1 c2 E1 hE) hdd hn hroom (by rw [hRm.1, hRm.2]; show rN r - rN r0 + (c1 - rN r) ≤ cN - rN r0 ∧ rS r - rS r0 + (c2 - rS r) ≤ cS - rS r0; omega) hR hS hl) hS (fun q _ h => h) (fun q h => h) (fun u t H1 locs1 ht hvm hp hBt hz hk hS1 => ?_)
  have hk := kk u.1 u.2 hp.2.2 H1 locs1 ls (by rw [← ht]; exact hBt) hS1 hl
  rw [hp.1, hp.2.1] at hk
  have e1 : rN r - rN r0 + (c1 - rN r) = c1 - rN r0 := by omega
  have e2 : rS r - rS r0 + (c2 - rS r) = c2 - rS r0 := by omega
  show W _ _ _ _ _ _ _ _ _ _ _ _ (rN r - rN r0 + (c1 - rN r)) (rS r - rS r0 + (c2 - rS r)) _ _
  rw [e1, e2]
  exact hk
end VINIT
section VMULTI
theorem outer_arr (c : ClassId) (N h0 : Nat) : ∀ i, Jvm.Free.Multi.outerC c N h0 i = arrV c N (fun j => if j < i then .ref (h0 + 1 + j) else .null) := by
  intro i
  induction i with
  | zero => exact (arrV_new c N .null).trans (by congr 1)
  | succ i ih =>
    show (Jvm.Free.Multi.outerC c N h0 i).setSlot i (.ref (h0 + 1 + i)) = _
    rw [ih, arrV_store]
    congr 1
    funext j
    unfold updV
    by_cases h1 : j = i
    · subst h1
      simp
    · by_cases h2 : j < i
      · simp [h1, h2, show j < i + 1 by omega]
      · simp [h1, h2, show ¬ j < i + 1 by omega]
variable {g : Gl} {x : Cx} {cc : ByteArray} {nL : Nat} {own : String} {d : Nat} {pc : Nat} {lv : List (Nat × Value)} {st : List Value} {I : MI} {r : Rh} {E : Prop} {n0 s0 cN cS : Nat}
theorem v_multi (h : Amb g x cc nL own d) {n k : Int32} {idx N M : Nat} (hd : decode cc pc = .ok (.multianewarray idx 2, 4)) (hlk : Cond.classLink own idx "[[I" ∈ lw_all) (hn0 : ¬ n < 0) (hk0 : ¬ k < 0) (hN : n.toNatClampNeg = N) (hM : k.toNatClampNeg = M) (hb1 : N * 4 ≤ 536870912) (hb2 : M * 4 ≤ 536870912) (hRm : RmN x n0 s0 cN cS) (hn : n0 ≤ rN r) (hs : s0 ≤ rS r) (kk : V g x nL (rN (mR r N M) - n0, rS (mR r N M) - s0) (pc + 4) lv (.ref (rN r) :: st) (mI I r N) (mR r N M) E) : V g x nL (rN r - n0, rS r - s0) pc lv (.int k :: .int n :: st) I r ((rN r + (1 + N) ≤ cN ∧ rS r + (N + N * M) ≤ cS) ∧ E) := by
  intro hE H locs ls hR hS hl
  obtain ⟨hx, hb, hml, hown, hts, hlk0, -, -, hWK, hB⟩ := h
  have hrm := rm_ok (x := x) hRm hn hs hE.1.1 hE.1.2
  subst hN
  subst hM
  intro T hT X
  obtain ⟨vm₁, cA, comp, hW, hfA, hfC, hO, hI, X1, step⟩ := X.multianewarray2F hx (own := own) (index := idx) (ty := .int) hown (hts _ hlk) hWK.2.2.2.2.2.2.2 (hts _ q261) (g := F0 (xm x) pc ls (.int k :: .int n :: st)) rfl (by rw [hb]; exact hd) (n := n) (k := k) (rest := st) rfl hn0 hk0 hb1 (by exact hb2) (by omega) rfl rfl hrm.1 hrm.2
  obtain ⟨f1, f2, f3⟩ := Jvm.Free.Multi.fill_facts (T.setVm vm₁) cA comp n.toNatClampNeg k.toNatClampNeg (defaultValue .int) n.toNatClampNeg
  have f4 := Jvm.Free.Multi.fill_inner (T.setVm vm₁) cA comp n.toNatClampNeg k.toNatClampNeg (defaultValue .int) n.toNatClampNeg
  have f6 := fun (a : Nat) (ha : a < (T.setVm vm₁).heap.size) => Jvm.Free.Multi.fill_old (T.setVm vm₁) cA comp n.toNatClampNeg k.toNatClampNeg (defaultValue .int) ha n.toNatClampNeg
  have hTs : (T.setVm vm₁).heap = H := hT
  rw [hTs] at f1 f2 f4 f6
  have hz : H.size = rN r := hR.1
  have hcA : gA g 5 = cA := Option.some.inj (((hWK.1.2 5 _ (gT_at (ty := .array .int) rfl)).2).symm.trans hfA)
  have hcC : gA g 0 = comp := Option.some.inj (((hWK.1.2 0 _ (gT_at (ty := .int) rfl)).2).symm.trans hfC)
  generalize hH1 : (Jvm.Free.Multi.fill (T.setVm vm₁) cA comp n.toNatClampNeg k.toNatClampNeg (defaultValue .int) n.toNatClampNeg) = T1 at f1 f2 f4 f6 X1 step
  have o1 : ∀ q : Nat, q < H.size → T1.heap[q]? = H[q]? := f6
  have hR1 : Rp g (mI I r n.toNatClampNeg) (mR r n.toNatClampNeg k.toNatClampNeg) T1.heap := by
    refine hR.grow (Nat.le_trans hB.1 hS.1) (by rw [f1, hz]; rfl) o1 (fun b hb => ?_) (fun b hb => ?_) (fun b hb => ?_) (fun b hb => ?_) (fun a c' q ha hc' hq => ?_) (fun a t ty ha ht hq => ?_)
    · funext j; simp [mI, show ¬ (rN r ≤ b) by omega]
    · funext j
      show (if b = rN r then _ else if rN r < b ∧ _ then _ else rP r b j) = rP r b j
      rw [if_neg (by omega), if_neg (by omega)]
    · show (if b = rN r then 55 else if rN r < b ∧ b ≤ rN r + n.toNatClampNeg then 50 else rK r b) = rK r b
      rw [if_neg (by omega), if_neg (by omega)]
    · show (if b = rN r then _ else if rN r < b ∧ b ≤ rN r + n.toNatClampNeg then _ else rL r b) = rL r b
      rw [if_neg (by omega), if_neg (by omega)]
    · have h9 : (if a = rN r then 55 else if rN r < a ∧ a ≤ rN r + n.toNatClampNeg then 50 else rK r a) = c' := hc'
      have := vCl_lt hq
      by_cases e1 : a = rN r
      · rw [if_pos e1] at h9; omega
      · rw [if_neg e1] at h9
        by_cases e2 : rN r < a ∧ a ≤ rN r + n.toNatClampNeg
        · rw [if_pos e2] at h9; omega
        · rw [if_neg e2] at h9
          exact ((hR.above ha).1 c' q h9 hq).elim
    · have h9 : (if a = rN r then 55 else if rN r < a ∧ a ≤ rN r + n.toNatClampNeg then 50 else rK r a) = 50 + t := ht
      by_cases e1 : a = rN r
      · rw [if_pos e1] at h9
        have e : t = 5 := by omega
        subst e
        have e : ty = .array .int := (Option.some.inj hq).symm
        subst e
        subst e1
        have f2' : T1.heap[rN r]? = some (Jvm.Free.Multi.outerC cA n.toNatClampNeg (rN r) n.toNatClampNeg) := by rw [← hz]; exact f2
        rw [f2', outer_arr, ← hcA]
        show some (arrV (gA g 5) n.toNatClampNeg _) = some (arrV (gA g 5) (if rN r = rN r then n.toNatClampNeg else _) (fun j => if (FieldType.array .int).isReference = true then va_rf (if rN r = rN r then (if j < n.toNatClampNeg then some (rN r + 1 + j) else none) else _) else _))
        rw [if_pos rfl]
        congr 2
        funext j
        by_cases hj : j < n.toNatClampNeg
        · simp [hj, va_rf, FieldType.isReference]
        · simp [hj, va_rf, FieldType.isReference]
      · rw [if_neg e1] at h9
        by_cases e2 : rN r < a ∧ a ≤ rN r + n.toNatClampNeg
        · rw [if_pos e2] at h9
          have e : t = 0 := by omega
          subst e
          have e : ty = .int := (Option.some.inj hq).symm
          subst e
          have f5 := f4 (a - (rN r + 1)) (by omega)
          rw [hz, show rN r + 1 + (a - (rN r + 1)) = a by omega] at f5
          rw [f5]
          show some (Jvm.Free.Multi.innerC comp k.toNatClampNeg (defaultValue .int)) = some (arrV (gA g 0) (if a = rN r then _ else if rN r < a ∧ a ≤ rN r + n.toNatClampNeg then k.toNatClampNeg else rL r a) (fun j => if FieldType.int.isReference = true then _ else .int (if rN r ≤ a ∧ a ≤ rN r + n.toNatClampNeg then 0 else I a j)))
          rw [if_neg e1, if_pos e2, hcC]
          have e9 : Jvm.Free.Multi.innerC comp k.toNatClampNeg (defaultValue .int) = arrV comp k.toNatClampNeg (fun _ => .int 0) := arrV_new comp _ _
          rw [e9]
          congr 2
          funext j
          simp [FieldType.isReference, show rN r ≤ a ∧ a ≤ rN r + n.toNatClampNeg from ⟨by omega, e2.2⟩]
        · rw [if_neg e2] at h9
          exact ((hR.above ha).2 t ty h9 hq).elim
  have hS1 : va_S (gS g) (xs x).heap T1.heap locs := ⟨by have := hS.1; omega, fun q h1 h2 => (o1 q (by have := hS.1; omega)).trans (hS.2.1 q h1 h2), hS.2.2⟩
  have hk := kk hE.2 T1.heap locs ls hR1 hS1 hl
  have e1 : rN (mR r n.toNatClampNeg k.toNatClampNeg) - n0 = rN r - n0 + 1 + n.toNatClampNeg := by show rN r + 1 + n.toNatClampNeg - n0 = _; omega
  have e2 : rS (mR r n.toNatClampNeg k.toNatClampNeg) - s0 = rS r - s0 + n.toNatClampNeg + n.toNatClampNeg * k.toNatClampNeg := by show rS r + (n.toNatClampNeg + n.toNatClampNeg * k.toNatClampNeg) - s0 = _; omega
  rw [e1, e2] at hk
  obtain ⟨t, a1, b1⟩ := hk T1 rfl X1
  refine ⟨t, step t ?_, b1⟩
  rw [hT, hz]
  exact a1
end VMULTI
