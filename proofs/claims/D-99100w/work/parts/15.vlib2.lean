/-! V, fourth part: static calls, references that change, switches, casts, methods that make cells -/
set_option maxRecDepth 100000
theorem vp_lt {i : Int32} {n : Nat} (h : vp_in i n) : i.toNatClampNeg < n := Nat.not_le.mp fun q => h (Or.inr q)
section VLIB2
variable {g : Gl} {x : Cx} {cc : ByteArray} {nL : Nat} {own : String} {d : Nat} {q : Nat × Nat} {pc : Nat} {lv lv' : List (Nat × Value)} {st : List Value} {I : MI} {r : Rh} {E : Prop}
theorem v_ineg (h : Amb g x cc nL own d) {a : Int32} (hd : decode cc pc = .ok (.ineg, 1)) (k : V g x nL q (pc + 1) lv (.int (-a) :: st) I r E) : V g x nL q pc lv (.int a :: st) I r E :=
  fun hE H locs ls hR hS hl => lv_ineg h.1 h.2.1 hd (k hE H locs ls hR hS hl)
theorem v_null (h : Amb g x cc nL own d) (hd : decode cc pc = .ok (.aconst_null, 1)) (k : V g x nL q (pc + 1) lv (va_rf none :: st) I r E) : V g x nL q pc lv st I r E :=
  fun hE H locs ls hR hS hl => lv_null h.1 h.2.1 hd (k hE H locs ls hR hS hl)
theorem v_aload_nq (h : Amb g x cc nL own d) {n : Fin 4} {i : Nat} (hd : decode cc pc = .ok (.aload_n n, 1)) (p : Nat) (hi : (n : Nat) = i) {o : Option Nat} (hp : lv[p]? = some (i, va_rf o)) (k : V g x nL q (pc + 1) lv (va_rf o :: st) I r E) : V g x nL q pc lv st I r E := by
  cases o with
  | none => exact fun hE H locs ls hR hS hl => lv_aload_nN h.1 h.2.1 hd hi (lv_at hl p hp) (k hE H locs ls hR hS hl)
  | some b => exact fun hE H locs ls hR hS hl => lv_aload_n h.1 h.2.1 hd hi (lv_at hl p hp) (k hE H locs ls hR hS hl)
theorem v_aloadq (h : Amb g x cc nL own d) {i : Nat} (hd : decode cc pc = .ok (.aload i, 2)) (p : Nat) {o : Option Nat} (hp : lv[p]? = some (i, va_rf o)) (k : V g x nL q (pc + 2) lv (va_rf o :: st) I r E) : V g x nL q pc lv st I r E := by
  cases o with
  | none => exact fun hE H locs ls hR hS hl => lv_aloadN h.1 h.2.1 hd (lv_at hl p hp) (k hE H locs ls hR hS hl)
  | some b => exact fun hE H locs ls hR hS hl => lv_aload h.1 h.2.1 hd (lv_at hl p hp) (k hE H locs ls hR hS hl)
theorem v_ifnull (h : Amb g x cc nL own d) {o : Option Nat} {off : Int} {t : Nat} {E1 E2 : Prop} (hd : decode cc pc = .ok (.ifnull off, 3)) (ht : (pc : Int) + off = (t : Int)) (kt : o = none → V g x nL q t lv st I r E1) (kf : ¬ o = none → V g x nL q (pc + 3) lv st I r E2) : V g x nL q pc lv (va_rf o :: st) I r (if o = none then E1 else E2) := by
  intro hE H locs ls hR hS hl
  cases o with
  | none => exact lv_ifnullN h.1 h.2.1 hd ht (kt rfl (by rwa [if_pos rfl] at hE) H locs ls hR hS hl)
  | some b => exact lv_ifnull h.1 h.2.1 hd (kf (by simp) (by rwa [if_neg (by simp)] at hE) H locs ls hR hS hl)
/-- a table's jump: the case k; the default -/
theorem v_tswi (h : Amb g x cc nL own d) {dflt lo hi : Int} {offs : Array Int} {len t : Nat} {v k : Int32} {off : Int} (hd : decode cc pc = .ok (.tableswitch dflt lo hi offs, len)) (hv : v = k) (h1 : ¬ k.toInt < lo) (h2 : ¬ hi < k.toInt) (ho : offs[(k.toInt - lo).toNat]? = some off) (ht : (pc : Int) + off = (t : Int)) (kk : V g x nL q t lv st I r E) : V g x nL q pc lv (.int v :: st) I r E := by
  subst hv
  exact fun hE H locs ls hR hS hl => lv_tableIn h.1 h.2.1 hd h1 h2 ho ht (kk hE H locs ls hR hS hl)
theorem v_tswd (h : Amb g x cc nL own d) {dflt lo hi : Int} {offs : Array Int} {len t : Nat} {v : Int32} (hd : decode cc pc = .ok (.tableswitch dflt lo hi offs, len)) (hv : v.toInt < lo ∨ hi < v.toInt) (ht : (pc : Int) + dflt = (t : Int)) (kk : V g x nL q t lv st I r E) : V g x nL q pc lv (.int v :: st) I r E :=
  fun hE H locs ls hR hS hl => lv_tableOut h.1 h.2.1 hd hv ht (kk hE H locs ls hR hS hl)
theorem v_lsw (h : Amb g x cc nL own d) {dflt : Int} {ps : Array (Int × Int)} {len t : Nat} {v : Int32} {off : Int} (hd : decode cc pc = .ok (.lookupswitch dflt ps, len)) (hp : (ps.toList.zip (ps.toList.drop 1)).all (fun (a, next) => a.1 < next.1) = true) (ho : Op.lookupswitch.offset ps.toList dflt v.toInt = off) (ht : (pc : Int) + off = (t : Int)) (kk : V g x nL q t lv st I r E) : V g x nL q pc lv (.int v :: st) I r E :=
  fun hE H locs ls hR hS hl => lv_lookup h.1 h.2.1 hd hp ho ht (kk hE H locs ls hR hS hl)
theorem v_putr (h : Amb g x cc nL own d) {idx c k a : Nat} {τ : FieldType} {o : Option Nat} (hd : decode cc pc = .ok (.putfield idx, 3)) (hf : FieldT own idx c k false τ) (hn : narrow τ (va_rf o) = va_rf o) (hfit : fits τ (va_rf o) = true) (hr : vRef c k = true) (hK : rK r a = c) (kk : V g x nL q (pc + 3) lv st I (wP r a k o) E) : V g x nL q pc lv (va_rf o :: .ref a :: st) I r E :=
  v_putv (I' := I) (P' := rP (wP r a k o)) h hd hf hn hfit hK (fun b hb => rfl) (fun b hb => wP_ne hb) (fv_wP hr) kk
theorem v_bastK (h : Amb g x cc nL own d) {a n : Nat} {i v : Int32} (hd : decode cc pc = .ok (.bastore, 1)) (hK : rK r a = 51) (hL : rL r a = n) (hin : vp_in i n) (kk : V g x nL q (pc + 1) lv st (wI I a i.toNatClampNeg (vp_nar .byte v)) r E) : V g x nL q pc lv (.int v :: .int i :: .ref a :: st) I r E := by
  intro hE H locs ls hR hS hl
  subst hL
  refine W.bast h.1 h.2.1 ((hR.2 a).2.2 1 .byte hK rfl) ((h.2.2.2.2.2.2.2.2.1.1.2 1 _ (gT_at (ty := .byte) rfl)).1 _ _) (fun q => by cases q) (by unfold vc; rw [arrV_size]; exact hin) rfl rfl hd fun H' e1 e2 e3 => ?_
  refine kk hE H' _ ls (hR.upd (I' := wI I a i.toNatClampNeg (vp_nar .byte v)) (P' := rP r) e2 e3 (fun b hb => wI_ne hb) (fun b hb => rfl) (fun c q hc hq => ?_) (fun t ty ht hq => ?_)) (hS.put e2 e3 ((hR.2 a).1 (by omega))) hl
  · have := vCl_lt hq
    omega
  · have e : t = 1 := by omega
    subst e
    have e : ty = .byte := (Option.some.inj hq).symm
    subst e
    rw [vc_wI rfl]
    exact e1
theorem v_bast (h : Amb g x cc nL own d) {a n : Nat} {i v : Int32} (hd : decode cc pc = .ok (.bastore, 1)) (hK : rK r a = 51) (hL : rL r a = n) (kk : V g x nL q (pc + 1) lv st (wI I a i.toNatClampNeg (vp_nar .byte v)) r E) : V g x nL q pc lv (.int v :: .int i :: .ref a :: st) I r (vp_in i n ∧ E) :=
  fun hE => v_bastK h hd hK hL hE.1 kk hE.2
/-- an array's element is set to an object of its own class -/
theorem v_aastK (h : Amb g x cc nL own d) {a b t n c N : Nat} {C : String} {T : u_T} {i : Int32} (hd : decode cc pc = .ok (.aastore, 1)) (hK : rK r a = 50 + t) (ht : vTy[t]? = some (.object C)) (hc : vCl[c]? = some (C, T, N)) (hb : rK r b = c) (hL : rL r a = n) (hin : vp_in i n) (kk : V g x nL q (pc + 1) lv st I (wP r a i.toNatClampNeg (some b)) E) : V g x nL q pc lv (.ref b :: .int i :: .ref a :: st) I r E := by
  intro hE H locs ls hR hS hl
  subst hL
  have hWK := h.2.2.2.2.2.2.2.2.1
  have hlt := vp_lt hin
  have h0 : ¬ i < 0 := fun q => hin (Or.inl q)
  obtain ⟨cellV, g1, g2, g3, -⟩ := (hR.2 b).2.1 c _ hb hc
  have hcls := (hWK.1.1 c _ hc).2
  obtain ⟨kA, comp, k1, k2, k3, -⟩ := (hWK.1.2 t _ (gT_at ht)).2
  have hcomp : comp = (gD g).1 c := Option.some.inj (k3.symm.trans hcls.1)
  subst hcomp
  obtain ⟨kC, hkC, -⟩ := hcls.2
  refine W.aast h.1 h.2.1 ((hR.2 a).2.2 t _ hK ht) (fun q h => by cases h) (fun h => by cases h) k1 k2 rfl hkC ⟨h0, by unfold vc; rw [arrV_size]; exact hlt⟩ g1 (fun q h => by rw [g3] at h; cases h) (by rw [g2]; exact hkC) (by rw [g2]; exact va_assign hcls) rfl rfl hd fun H' e1 e2 e3 => ?_
  refine kk hE H' _ ls (hR.upd (I' := I) (P' := rP (wP r a i.toNatClampNeg (some b))) e2 e3 (fun b hb => rfl) (fun b hb => wP_ne hb) (fun c q hc hq => ?_) (fun t' ty ht' hq => ?_)) (hS.put e2 e3 ((hR.2 a).1 (by have := vTy_lt ht; omega))) hl
  · have := vCl_lt hq
    have := vTy_lt ht
    omega
  · have e : t' = t := by omega
    subst e
    have e : ty = .object C := Option.some.inj (hq.symm.trans ht)
    subst e
    rw [vc_wP rfl]
    exact e1
theorem v_aast (h : Amb g x cc nL own d) {a b t n c N : Nat} {C : String} {T : u_T} {i : Int32} (hd : decode cc pc = .ok (.aastore, 1)) (hK : rK r a = 50 + t) (ht : vTy[t]? = some (.object C)) (hc : vCl[c]? = some (C, T, N)) (hb : rK r b = c) (hL : rL r a = n) (kk : V g x nL q (pc + 1) lv st I (wP r a i.toNatClampNeg (some b)) E) : V g x nL q pc lv (.ref b :: .int i :: .ref a :: st) I r (vp_in i n ∧ E) :=
  fun hE => v_aastK h hd hK ht hc hb hL hE.1 kk hE.2
theorem v_cast (h : Amb g x cc nL own d) {idx b c N : Nat} {C : String} {T : u_T} (hd : decode cc pc = .ok (.checkcast idx, 3)) (hlk : Cond.classLink own idx C ∈ lw_all) (hc : vCl[c]? = some (C, T, N)) (hb : rK r b = c) (kk : V g x nL q (pc + 3) lv (.ref b :: st) I r E) : V g x nL q pc lv (.ref b :: st) I r E :=
  fun hE H locs ls hR hS hl => va_castS h.1 h.2.1 h.2.2.2.1 (h.2.2.2.2.1 _ hlk) (h.2.2.2.2.2.2.2.2.1.1.1 c _ hc).2 (rs_recv h.2.2.2.2.2.2.2.2.1 hR hc hb) hd (kk hE H locs ls hR hS hl)
/-- an element, and the index is known to be within -/
theorem v_aaldk (h : Amb g x cc nL own d) {a t n b : Nat} {ty : FieldType} {i : Int32} (hd : decode cc pc = .ok (.aaload, 1)) (hK : rK r a = 50 + t) (ht : vTy[t]? = some ty) (hty : ty.isReference = true) (hL : rL r a = n) (hp : vp_in i n → rP r a i.toNatClampNeg = some b) (kk : vp_in i n → V g x nL q (pc + 1) lv (.ref b :: st) I r E) : V g x nL q pc lv (.int i :: .ref a :: st) I r (vp_in i n ∧ E) :=
  fun hE => v_aald h hd hK ht hty hL hE.1 (by rw [hp hE.1]; exact kk hE.1) hE.2
theorem v_aaldL (h : Amb g x cc nL own d) {a t n b k : Nat} {ty : FieldType} {i : Int32} (hd : decode cc pc = .ok (.aaload, 1)) (hK : rK r a = 50 + t) (ht : vTy[t]? = some ty) (hty : ty.isReference = true) (hL : rL r a = n) (hin : vp_in i n) (hk : i.toNatClampNeg = k) (hp : rP r a k = some b) (kk : V g x nL q (pc + 1) lv (.ref b :: st) I r E) : V g x nL q pc lv (.int i :: .ref a :: st) I r E := by
  subst hk
  exact v_aald h hd hK ht hty hL hin (by rw [hp]; exact kk)
theorem v_nmr {k : Rh → Prop} (h : ∀ s, V g x nL q pc lv st I s (k s)) : V g x nL q pc lv st I r (nm r k) := h r
/-! calls -/
def CallS (own : String) (idx : Nat) (y : MethodName) (bytes : ByteArray) (maxL : Nat) (ret : Option FieldType) (n : Nat) : Prop :=
  (GoodIn lw_all (va_wsS own idx y (ws_ y bytes maxL ret)) ∨ ((∃ host, Cond.methodLinkNest own idx y host ∈ lw_tbl) ∧ GoodIn lw_all (ws_ y bytes maxL ret) ∧ Cond.initialized y.cls ∈ lw_all ∧ Cond.static y ∈ lw_all)) ∧ (y.cls ≠ "java/lang/invoke/MethodHandle" ∧ y.cls ≠ "java/lang/invoke/VarHandle" ∧ (parseMethodDescriptor y.desc).map (fun d => d.parameters.length) = some n) ∧ maxL ≤ 41
def rmA (d mc ms : Nat) : Room := { frames := d, cells := mc, slots := ms, locals := 60 * d }
theorem v_runV (h : Amb g x cc nL own d) {C : String} {T : u_T} {N idx maxL n d' c b mc ms : Nat} {y : MethodName} {bytes : ByteArray} {ret : Option FieldType} {As rest : List Value} {Qc : Array Value → State → Outcome → State → Prop} (hd : decode cc pc = .ok (.invokevirtual idx, 3)) (hw : CallT own idx C y bytes maxL ret n) (hc : vCl[c]? = some (C, T, N)) (hK : rK r b = c) (hM : Met (gl g) y (ws_ y bytes maxL ret) (rmA d' mc ms) (va_Pc (.ref b :: As) (RS g I r)) Qc mc ms (gS g)) (hdd : d' + 1 ≤ d) (hn : As.length = n) (hroom : (rest.map fun v => v.category).sum ≤ 8) (hq : q.1 + mc ≤ (xR x).cells ∧ q.2 + ms ≤ (xR x).slots) {H : Heap} {locs : List Loc} {ls : Array Slot} (hR : Rp g I r H) (hS : va_S (gS g) (xs x).heap H locs) (hl : lv_has ls nL lv) :
    va_Run (xp x) (gl g) (xe x) (xR x) (xs x) (xm x) (xa x) (xb x) (xM x) (xc x) H locs q.1 q.2 mc ms (F0 (xm x) pc ls (As.reverse ++ .ref b :: rest)) rest (Qc (Value.ref b :: As).toArray) (gS g) := by
  obtain ⟨hx, hb, hml, hown, hts, hlk, hRf, hRl, hWK, hB⟩ := h
  exact va_runV (As := As) (rest := rest) ⟨hx, hb, hml, hown, hts⟩ hM (cwV n hts hw.1 rfl rfl rfl hw.2.1 ⟨by rw [hRf]; exact hdd, by rw [hRl]; show 8 + (maxL + 11) + 60 * d' ≤ 60 * d; have := hw.2.2; omega⟩) ⟨rs_blind, rs_recv hWK hR hc hK, fun U hU hW => ⟨rfl, by rw [hU]; exact hR, WK.warm hW hWK, HB.next hB hS hU hW⟩⟩ rfl hn hl.1 rfl (lv_room hroom) hd hq
theorem v_runS (h : Amb g x cc nL own d) {idx maxL n d' mc ms : Nat} {y : MethodName} {bytes : ByteArray} {ret : Option FieldType} {As rest : List Value} {Qc : Array Value → State → Outcome → State → Prop} (hd : decode cc pc = .ok (.invokestatic idx, 3)) (hw : CallS own idx y bytes maxL ret n) (hM : Met (gl g) y (ws_ y bytes maxL ret) (rmA d' mc ms) (va_Pc As (RS g I r)) Qc mc ms (gS g)) (hdd : d' + 1 ≤ d) (hn : As.length = n) (hroom : (rest.map fun v => v.category).sum ≤ 8) (hq : q.1 + mc ≤ (xR x).cells ∧ q.2 + ms ≤ (xR x).slots) {H : Heap} {locs : List Loc} {ls : Array Slot} (hR : Rp g I r H) (hS : va_S (gS g) (xs x).heap H locs) (hl : lv_has ls nL lv) :
    va_Run (xp x) (gl g) (xe x) (xR x) (xs x) (xm x) (xa x) (xb x) (xM x) (xc x) H locs q.1 q.2 mc ms (F0 (xm x) pc ls (As.reverse ++ rest)) rest (Qc As.toArray) (gS g) := by
  obtain ⟨hx, hb, hml, hown, hts, hlk, hRf, hRl, hWK, hB⟩ := h
  obtain ⟨hw1, hw2, hw3⟩ := hw
  have hRR : (rmA d' mc ms).frames + 1 ≤ (xR x).frames ∧ 8 + (maxL + 11) + (rmA d' mc ms).locals ≤ (xR x).locals := ⟨by rw [hRf]; exact hdd, by rw [hRl]; show 8 + (maxL + 11) + 60 * d' ≤ 60 * d; omega⟩
  have hpre : PreS (xs x) H (va_Pc As (RS g I r)) As := ⟨rs_blind, fun U hU hW => ⟨rfl, by rw [hU]; exact hR, WK.warm hW hWK, HB.next hB hS hU hW⟩⟩
  rcases hw1 with hw1 | ⟨⟨host, hw1⟩, hw4, hw5, hw6⟩
  · exact va_runS (As := As) (rest := rest) ⟨hx, hb, hml, hown, hts⟩ hM (va_cwS n hts hw1 rfl rfl rfl hw2 hRR) hpre rfl hn hl.1 rfl (lv_room hroom) hd hq
  · exact va_runSN (As := As) (rest := rest) ⟨hx, hb, hml, hown, hts⟩ hM ⟨va_cnB n hts hw4 rfl rfl rfl (hWK.2.1 _ hw1 rfl) (hts _ hw5) hw2 hRR, hts _ hw6, trivial⟩ hpre rfl hn hl.1 rfl (lv_room hroom) hd hq
/-- a static method that changes nothing and returns an int -/
theorem v_callsp (h : Amb g x cc nL own d) {idx maxL n d' : Nat} {y : MethodName} {bytes : ByteArray} {ret : Option FieldType} {As rest : List Value} {F : (Int32 → Prop) → Prop} {E1 : Int32 → Prop} (hd : decode cc pc = .ok (.invokestatic idx, 3)) (hw : CallS own idx y bytes maxL ret n) (hM : CtP g y bytes maxL ret d' As I r F) (hdd : d' + 1 ≤ d) (hn : As.length = n) (hst : st = As.reverse ++ rest) (hroom : (rest.map fun v => v.category).sum ≤ 8) (hq : q.1 ≤ (xR x).cells ∧ q.2 ≤ (xR x).slots)
    (kk : ∀ (v : Int32), V g x nL q (pc + 3) lv (.int v :: rest) I r (E1 v)) : V g x nL q pc lv st I r (F E1) := by
  intro hE H locs ls hR hS hl
  subst hst
  refine va_calli (v_runS h hd hw (mc := 0) (ms := 0) (hM E1 hE) hdd hn hroom hq hR hS hl) hS (fun q _ h => h) (fun q h => h) (fun v u t H1 locs1 ht hvm hp hBt hz hk hS1 => ?_)
  exact kk v hp H1 locs1 ls (by rw [← ht]; exact hBt) hS1 hl
theorem v_callP (h : Amb g x cc nL own d) {C : String} {T : u_T} {N idx maxL n d' c b : Nat} {y : MethodName} {bytes : ByteArray} {ret : Option FieldType} {As rest : List Value} {F : (Int32 → Prop) → Prop} {E1 : Int32 → Prop} (hd : decode cc pc = .ok (.invokevirtual idx, 3)) (hw : CallT own idx C y bytes maxL ret n) (hc : vCl[c]? = some (C, T, N)) (hK : rK r b = c) (hM : CtP g y bytes maxL ret d' (.ref b :: As) I r F) (hdd : d' + 1 ≤ d) (hn : As.length = n) (hst : st = As.reverse ++ .ref b :: rest) (hroom : (rest.map fun v => v.category).sum ≤ 8) (hq : q.1 ≤ (xR x).cells ∧ q.2 ≤ (xR x).slots)
    (kk : ∀ (v : Int32), V g x nL q (pc + 3) lv (.int v :: rest) I r (E1 v)) : V g x nL q pc lv st I r (F E1) := by
  intro hE H locs ls hR hS hl
  subst hst
  refine va_calli (v_runV h hd hw hc hK (mc := 0) (ms := 0) (hM E1 hE) hdd hn hroom hq hR hS hl) hS (fun q _ h => h) (fun q h => h) (fun v u t H1 locs1 ht hvm hp hBt hz hk hS1 => ?_)
  exact kk v hp H1 locs1 ls (by rw [← ht]; exact hBt) hS1 hl
theorem v_callI (h : Amb g x cc nL own d) {C : String} {T : u_T} {N idx maxL n d' c b : Nat} {y : MethodName} {bytes : ByteArray} {ret : Option FieldType} {As rest : List Value} {F : (Int32 → MI → Prop) → Prop} {E1 : Int32 → MI → Prop} (hd : decode cc pc = .ok (.invokevirtual idx, 3)) (hw : CallT own idx C y bytes maxL ret n) (hc : vCl[c]? = some (C, T, N)) (hK : rK r b = c) (hM : CtI g y bytes maxL ret d' (.ref b :: As) I r F) (hdd : d' + 1 ≤ d) (hn : As.length = n) (hst : st = As.reverse ++ .ref b :: rest) (hroom : (rest.map fun v => v.category).sum ≤ 8) (hq : q.1 ≤ (xR x).cells ∧ q.2 ≤ (xR x).slots)
    (kk : ∀ (v : Int32) (I' : MI), V g x nL q (pc + 3) lv (.int v :: rest) I' r (E1 v I')) : V g x nL q pc lv st I r (F E1) := by
  intro hE H locs ls hR hS hl
  subst hst
  refine va_calli (v_runV h hd hw hc hK (mc := 0) (ms := 0) (hM E1 hE) hdd hn hroom hq hR hS hl) hS (fun q _ h => h) (fun q h => h) (fun v u t H1 locs1 ht hvm hp hBt hz hk hS1 => ?_)
  exact kk v u hp H1 locs1 ls (by rw [← ht]; exact hBt) hS1 hl
theorem v_callV (h : Amb g x cc nL own d) {C : String} {T : u_T} {N idx maxL n d' c b : Nat} {y : MethodName} {bytes : ByteArray} {As rest : List Value} {F : (MI → Prop) → Prop} {E1 : MI → Prop} (hd : decode cc pc = .ok (.invokevirtual idx, 3)) (hw : CallT own idx C y bytes maxL none n) (hc : vCl[c]? = some (C, T, N)) (hK : rK r b = c) (hM : CtV g y bytes maxL d' (.ref b :: As) I r F) (hdd : d' + 1 ≤ d) (hn : As.length = n) (hst : st = As.reverse ++ .ref b :: rest) (hroom : (rest.map fun v => v.category).sum ≤ 8) (hq : q.1 ≤ (xR x).cells ∧ q.2 ≤ (xR x).slots)
    (kk : ∀ (I' : MI), V g x nL q (pc + 3) lv rest I' r (E1 I')) : V g x nL q pc lv st I r (F E1) := by
  intro hE H locs ls hR hS hl
  subst hst
  refine va_callv (v_runV h hd hw hc hK (mc := 0) (ms := 0) (hM E1 hE) hdd hn hroom hq hR hS hl) hS (fun q _ h => h) (fun q h => h) (fun u t H1 locs1 ht hvm hp hBt hz hk hS1 => ?_)
  exact kk u hp H1 locs1 ls (by rw [← ht]; exact hBt) hS1 hl
/-! contracts whose references may change, too: R returns an int, W nothing; A returns a reference and changes nothing -/
def CtR (g : Gl) (y : MethodName) (bytes : ByteArray) (maxL : Nat) (ret : Option FieldType) (d mc ms : Nat) (av : List Value) (I : MI) (r : Rh) (F : (Int32 → MI → Rh → Prop) → Prop) : Prop :=
  ∀ Q : Int32 → MI → Rh → Prop, F Q → Met (gl g) y (ws_ y bytes maxL ret) (rmA d mc ms) (va_Pc av (RS g I r)) (va_Qi (S := MI × Rh) (fun v u => Q v u.1 u.2) (fun u t => Rp g u.1 u.2 t.heap) (gS g)) mc ms (gS g)
def CtW (g : Gl) (y : MethodName) (bytes : ByteArray) (maxL : Nat) (d mc ms : Nat) (av : List Value) (I : MI) (r : Rh) (F : (MI → Rh → Prop) → Prop) : Prop :=
  ∀ Q : MI → Rh → Prop, F Q → Met (gl g) y (ws_ y bytes maxL none) (rmA d mc ms) (va_Pc av (RS g I r)) (va_Qv (S := MI × Rh) (fun u => Q u.1 u.2) (fun u t => Rp g u.1 u.2 t.heap) (gS g)) mc ms (gS g)
def CtA (g : Gl) (y : MethodName) (bytes : ByteArray) (maxL : Nat) (ret : Option FieldType) (d : Nat) (av : List Value) (I : MI) (r : Rh) (F : (Nat → Prop) → Prop) : Prop :=
  ∀ Q : Nat → Prop, F Q → Met (gl g) y (ws_ y bytes maxL ret) (rmA d 0 0) (va_Pc av (RS g I r)) (va_Qr (S := Unit) (fun _ => True) (fun _ a t => Q a ∧ Rp g I r t.heap) (gS g)) 0 0 (gS g)
def RtR (g : Gl) (x : Cx) (ret : Option FieldType) (mc ms : Nat) (Q : Int32 → MI → Rh → Prop) : Prop := xQ x = MQ (xb x) (va_Qi (S := MI × Rh) (fun v u => Q v u.1 u.2) (fun u t => Rp g u.1 u.2 t.heap) (gS g)) (xa x) (xs x) mc ms (gS g) ∧ (xM x).sig.returnType = ret ∧ (xR x).cells = mc ∧ (xR x).slots = ms
def RtW (g : Gl) (x : Cx) (mc ms : Nat) (Q : MI → Rh → Prop) : Prop := xQ x = MQ (xb x) (va_Qv (S := MI × Rh) (fun u => Q u.1 u.2) (fun u t => Rp g u.1 u.2 t.heap) (gS g)) (xa x) (xs x) mc ms (gS g) ∧ (xM x).sig.returnType = none ∧ (xR x).cells = mc ∧ (xR x).slots = ms ∧ (xM x).name = (xM x).name
def RtA (g : Gl) (x : Cx) (r : Rh) (I : MI) (ret : Option FieldType) (Q : Nat → Prop) : Prop := xQ x = MQ (xb x) (va_Qr (S := Unit) (fun _ => True) (fun _ a t => Q a ∧ Rp g I r t.heap) (gS g)) (xa x) (xs x) 0 0 (gS g) ∧ (xM x).sig.returnType = ret
theorem CtR.mk {y : MethodName} {bytes : ByteArray} {maxL mc ms : Nat} {ret : Option FieldType} {av : List Value} {F : (Int32 → MI → Rh → Prop) → Prop} (hy : plainName y.cls = true) (hlen : (lg_sl av).length ≤ maxL) (hlv : lv_args 0 av = lv)
    (body : ∀ (x : Cx) (Q : Int32 → MI → Rh → Prop), Amb g x bytes maxL y.cls d → RtR g x ret mc ms Q → V g x maxL (0, 0) 0 lv [] I r (F Q)) : CtR g y bytes maxL ret d mc ms av I r F := by
  intro Q hF
  refine Met.ofW (cc := bytes) (maxL := maxL) (ret := ret) hy rfl ?_
  intro p e s m args below meth c s₁ B hml hv
  obtain ⟨rfl, hR, hW, hb0⟩ := hv
  have hts := atoms_spec (ws := ws_ y bytes maxL ret) B.pre
  have hts : ∀ w ∈ lw_all, w.before _ s = true := fun w h => hts w (List.mem_cons_of_mem _ h)
  have hl := lv_entry av (n := maxL) hlen
  rw [lg_entry_eq]
  exact body (p, e, (headSpec (ws_ y bytes maxL ret) (rmA d mc ms)).room, s, m, av.toArray, below, meth, c, MQ below (va_Qi (S := MI × Rh) (fun v u => Q v u.1 u.2) (fun u t => Rp g u.1 u.2 t.heap) (gS g)) av.toArray s mc ms (gS g)) Q ⟨B.exec, B.bytes, hml, findClass_of_methodNamed B.named, hts, B.notSynchronized, rfl, rfl, hW, hb0⟩ ⟨rfl, B.returns, rfl, rfl⟩ hF s.heap [] _ hR va_S.rf (hlv ▸ hl)
theorem CtW.mk {y : MethodName} {bytes : ByteArray} {maxL mc ms : Nat} {av : List Value} {F : (MI → Rh → Prop) → Prop} (hy : plainName y.cls = true) (hlen : (lg_sl av).length ≤ maxL) (hlv : lv_args 0 av = lv)
    (body : ∀ (x : Cx) (Q : MI → Rh → Prop), Amb g x bytes maxL y.cls d → RtW g x mc ms Q → (xM x).name = y.name → V g x maxL (0, 0) 0 lv [] I r (F Q)) : CtW g y bytes maxL d mc ms av I r F := by
  intro Q hF
  refine Met.ofW (cc := bytes) (maxL := maxL) (ret := none) hy rfl ?_
  intro p e s m args below meth c s₁ B hml hv
  obtain ⟨rfl, hR, hW, hb0⟩ := hv
  have hts := atoms_spec (ws := ws_ y bytes maxL none) B.pre
  have hts : ∀ w ∈ lw_all, w.before _ s = true := fun w h => hts w (List.mem_cons_of_mem _ h)
  have hl := lv_entry av (n := maxL) hlen
  rw [lg_entry_eq]
  exact body (p, e, (headSpec (ws_ y bytes maxL none) (rmA d mc ms)).room, s, m, av.toArray, below, meth, c, MQ below (va_Qv (S := MI × Rh) (fun u => Q u.1 u.2) (fun u t => Rp g u.1 u.2 t.heap) (gS g)) av.toArray s mc ms (gS g)) Q ⟨B.exec, B.bytes, hml, findClass_of_methodNamed B.named, hts, B.notSynchronized, rfl, rfl, hW, hb0⟩ ⟨rfl, B.returns, rfl, rfl, rfl⟩ (name_of_methodNamed B.named B.method).1 hF s.heap [] _ hR va_S.rf (hlv ▸ hl)
theorem CtA.mk {y : MethodName} {bytes : ByteArray} {maxL : Nat} {ret : Option FieldType} {av : List Value} {F : (Nat → Prop) → Prop} (hy : plainName y.cls = true) (hlen : (lg_sl av).length ≤ maxL) (hlv : lv_args 0 av = lv)
    (body : ∀ (x : Cx) (Q : Nat → Prop), Amb g x bytes maxL y.cls d → RtA g x r I ret Q → V g x maxL (0, 0) 0 lv [] I r (F Q)) : CtA g y bytes maxL ret d av I r F := by
  intro Q hF
  refine Met.ofW (cc := bytes) (maxL := maxL) (ret := ret) hy rfl ?_
  intro p e s m args below meth c s₁ B hml hv
  obtain ⟨rfl, hR, hW, hb0⟩ := hv
  have hts := atoms_spec (ws := ws_ y bytes maxL ret) B.pre
  have hts : ∀ w ∈ lw_all, w.before _ s = true := fun w h => hts w (List.mem_cons_of_mem _ h)
  have hl := lv_entry av (n := maxL) hlen
  rw [lg_entry_eq]
  exact body (p, e, (headSpec (ws_ y bytes maxL ret) (rmA d 0 0)).room, s, m, av.toArray, below, meth, c, MQ below (va_Qr (S := Unit) (fun _ => True) (fun _ a t => Q a ∧ Rp g I r t.heap) (gS g)) av.toArray s 0 0 (gS g)) Q ⟨B.exec, B.bytes, hml, findClass_of_methodNamed B.named, hts, B.notSynchronized, rfl, rfl, hW, hb0⟩ ⟨rfl, B.returns⟩ hF s.heap [] _ hR va_S.rf (hlv ▸ hl)
theorem v_iretR (h : Amb g x cc nL own d) {mc ms : Nat} {Q : Int32 → MI → Rh → Prop} {v : Int32} (hr : RtR g x (some .int) mc ms Q) (hq : q.1 ≤ mc ∧ q.2 ≤ ms) (hd : decode cc pc = .ok (.ireturn, 1)) : V g x nL q pc lv [.int v] I r (Q v I r) := by
  intro hE H locs ls hR hS hl
  rw [hr.1]
  refine W.widen hq.1 hq.2 ?_
  exact W.iret h.1 h.2.1 hr.2.1 (fun t ht hW => ⟨⟨v, (I, r), rfl, hE, by show Rp g I r t.heap; rw [ht]; exact hR⟩, hS.F ht⟩) hS.2.2 hd h.2.2.2.2.2.1
theorem v_zretR (h : Amb g x cc nL own d) {mc ms : Nat} {Q : Int32 → MI → Rh → Prop} {v : Int32} (hr : RtR g x (some .boolean) mc ms Q) (hv : v = 0 ∨ v = 1) (hq : q.1 ≤ mc ∧ q.2 ≤ ms) (hd : decode cc pc = .ok (.ireturn, 1)) : V g x nL q pc lv [.int v] I r (Q v I r) := by
  intro hE H locs ls hR hS hl
  rw [hr.1]
  refine W.widen hq.1 hq.2 ?_
  exact W.zret h.1 h.2.1 hr.2.1 (by rcases hv with rfl | rfl <;> rfl) (fun t ht hW => ⟨⟨v, (I, r), rfl, hE, by show Rp g I r t.heap; rw [ht]; exact hR⟩, hS.F ht⟩) hS.2.2 hd h.2.2.2.2.2.1
theorem v_zretRE (h : Amb g x cc nL own d) {mc ms : Nat} {Q : Int32 → MI → Rh → Prop} {v : Int32} (hr : RtR g x (some .boolean) mc ms Q) (hq : q.1 ≤ mc ∧ q.2 ≤ ms) (hd : decode cc pc = .ok (.ireturn, 1)) : V g x nL q pc lv [.int v] I r ((v = 0 ∨ v = 1) ∧ Q v I r) :=
  fun hE => v_zretR h hr hE.1 hq hd hE.2
theorem v_vretW (h : Amb g x cc nL own d) {mc ms : Nat} {Q : MI → Rh → Prop} (hr : RtW g x mc ms Q) (hq : q.1 ≤ mc ∧ q.2 ≤ ms) (hd : decode cc pc = .ok (.return_, 1)) : V g x nL q pc lv [] I r (Q I r) := by
  intro hE H locs ls hR hS hl
  rw [hr.1]
  refine W.widen hq.1 hq.2 ?_
  exact W.vret h.1 h.2.1 hr.2.1 (fun t ht hW => ⟨⟨(I, r), rfl, hE, by show Rp g I r t.heap; rw [ht]; exact hR⟩, hS.F ht⟩) hS.2.2 hd h.2.2.2.2.2.1
theorem v_aretA (h : Amb g x cc nL own d) {Q : Nat → Prop} {a : Nat} {rt : FieldType} (hr : RtA g x r I (some rt) Q) (hrt : (∃ n, rt = .object n) ∨ ∃ t, rt = .array t) (hd : decode cc pc = .ok (.areturn, 1)) : V g x nL (0, 0) pc lv [.ref a] I r (Q a) := by
  intro hE H locs ls hR hS hl
  rw [hr.1]
  exact W.aret h.1 h.2.1 hr.2 hrt (Or.inr ⟨a, rfl⟩) (fun t ht hW => ⟨⟨(), a, rfl, trivial, hE, by show Rp g I r t.heap; rw [ht]; exact hR⟩, hS.F ht⟩) hS.2.2 hd h.2.2.2.2.2.1
theorem v_callR (h : Amb g x cc nL own d) {C : String} {T : u_T} {N idx maxL n d' c b mc ms : Nat} {y : MethodName} {bytes : ByteArray} {ret : Option FieldType} {As rest : List Value} {F : (Int32 → MI → Rh → Prop) → Prop} {E1 : Int32 → MI → Rh → Prop} (hd : decode cc pc = .ok (.invokevirtual idx, 3)) (hw : CallT own idx C y bytes maxL ret n) (hc : vCl[c]? = some (C, T, N)) (hK : rK r b = c) (hM : CtR g y bytes maxL ret d' mc ms (.ref b :: As) I r F) (hdd : d' + 1 ≤ d) (hn : As.length = n) (hst : st = As.reverse ++ .ref b :: rest) (hroom : (rest.map fun v => v.category).sum ≤ 8) (hq : q.1 + mc ≤ (xR x).cells ∧ q.2 + ms ≤ (xR x).slots)
    (kk : ∀ (v : Int32) (I' : MI) (r' : Rh), V g x nL (q.1 + mc, q.2 + ms) (pc + 3) lv (.int v :: rest) I' r' (E1 v I' r')) : V g x nL q pc lv st I r (F E1) := by
  intro hE H locs ls hR hS hl
  subst hst
  refine va_calli (v_runV h hd hw hc hK (hM E1 hE) hdd hn hroom hq hR hS hl) hS (fun q _ h => h) (fun q h => h) (fun v u t H1 locs1 ht hvm hp hBt hz hk hS1 => ?_)
  exact kk v u.1 u.2 hp H1 locs1 ls (by rw [← ht]; exact hBt) hS1 hl
theorem v_callW (h : Amb g x cc nL own d) {C : String} {T : u_T} {N idx maxL n d' c b mc ms : Nat} {y : MethodName} {bytes : ByteArray} {As rest : List Value} {F : (MI → Rh → Prop) → Prop} {E1 : MI → Rh → Prop} (hd : decode cc pc = .ok (.invokevirtual idx, 3)) (hw : CallT own idx C y bytes maxL none n) (hc : vCl[c]? = some (C, T, N)) (hK : rK r b = c) (hM : CtW g y bytes maxL d' mc ms (.ref b :: As) I r F) (hdd : d' + 1 ≤ d) (hn : As.length = n) (hst : st = As.reverse ++ .ref b :: rest) (hroom : (rest.map fun v => v.category).sum ≤ 8) (hq : q.1 + mc ≤ (xR x).cells ∧ q.2 + ms ≤ (xR x).slots)
    (kk : ∀ (I' : MI) (r' : Rh), V g x nL (q.1 + mc, q.2 + ms) (pc + 3) lv rest I' r' (E1 I' r')) : V g x nL q pc lv st I r (F E1) := by
  intro hE H locs ls hR hS hl
  subst hst
  refine va_callv (v_runV h hd hw hc hK (hM E1 hE) hdd hn hroom hq hR hS hl) hS (fun q _ h => h) (fun q h => h) (fun u t H1 locs1 ht hvm hp hBt hz hk hS1 => ?_)
  exact kk u.1 u.2 hp H1 locs1 ls (by rw [← ht]; exact hBt) hS1 hl
theorem v_callA (h : Amb g x cc nL own d) {C : String} {T : u_T} {N idx maxL n d' c b : Nat} {y : MethodName} {bytes : ByteArray} {ret : Option FieldType} {As rest : List Value} {F : (Nat → Prop) → Prop} {E1 : Nat → Prop} (hd : decode cc pc = .ok (.invokevirtual idx, 3)) (hw : CallT own idx C y bytes maxL ret n) (hc : vCl[c]? = some (C, T, N)) (hK : rK r b = c) (hM : CtA g y bytes maxL ret d' (.ref b :: As) I r F) (hdd : d' + 1 ≤ d) (hn : As.length = n) (hst : st = As.reverse ++ .ref b :: rest) (hroom : (rest.map fun v => v.category).sum ≤ 8) (hq : q.1 ≤ (xR x).cells ∧ q.2 ≤ (xR x).slots)
    (kk : ∀ (a : Nat), V g x nL q (pc + 3) lv (.ref a :: rest) I r (E1 a)) : V g x nL q pc lv st I r (F E1) := by
  intro hE H locs ls hR hS hl
  subst hst
  refine va_callr (v_runV h hd hw hc hK (mc := 0) (ms := 0) (hM E1 hE) hdd hn hroom hq hR hS hl) hS (fun q _ h => h) (fun q h => h) (fun u a t H1 locs1 ht hvm hp hBt hz hk hS1 => ?_)
  exact kk a hBt.1 H1 locs1 ls (by rw [← ht]; exact hBt.2) hS1 hl
end VLIB2
def imx (a b : Int32) : Int32 := if a < b then b else a
def imn (a b : Int32) : Int32 := if b < a then b else a
section VMATH
variable {g : Gl} {x : Cx} {cc : ByteArray} {nL : Nat} {own : String} {d : Nat} {q : Nat × Nat} {pc : Nat} {lv : List (Nat × Value)} {st : List Value} {I : MI} {r : Rh} {E : Prop}
theorem v_mmax (h : Amb g x cc nL own d) {idx : Nat} {a b : Int32} (hd : decode cc pc = .ok (.invokestatic idx, 3)) (hlk : Cond.methodLink own idx Lib.Math.max.name ∈ lw_all) (hd1 : 1 ≤ d) (hroom : (st.map fun v => v.category).sum ≤ 8) (hq : q.1 ≤ (xR x).cells ∧ q.2 ≤ (xR x).slots) (kk : V g x nL q (pc + 3) lv (.int (imx a b) :: st) I r E) : V g x nL q pc lv (.int b :: .int a :: st) I r E := by
  intro hE H locs ls hR hS hl
  obtain ⟨hx, hb, hml, hown, hts, hlk0, hRf, hRl, hWK, hB⟩ := h
  exact va_mmax hx hb (by rw [hml, hl.1]) hown (hts _ hlk) (hts _ q866) (hts _ q155) (hts _ q867) (by rw [hRf]; exact hd1) (by rw [hRl]; omega) hq.1 hq.2 hd (kk hE H locs ls hR hS hl)
theorem v_mmin (h : Amb g x cc nL own d) {idx : Nat} {a b : Int32} (hd : decode cc pc = .ok (.invokestatic idx, 3)) (hlk : Cond.methodLink own idx Lib.Math.min.name ∈ lw_all) (hd1 : 1 ≤ d) (hroom : (st.map fun v => v.category).sum ≤ 8) (hq : q.1 ≤ (xR x).cells ∧ q.2 ≤ (xR x).slots) (kk : V g x nL q (pc + 3) lv (.int (imn a b) :: st) I r E) : V g x nL q pc lv (.int b :: .int a :: st) I r E := by
  intro hE H locs ls hR hS hl
  obtain ⟨hx, hb, hml, hown, hts, hlk0, hRf, hRl, hWK, hB⟩ := h
  exact va_mmin hx hb (by rw [hml, hl.1]) hown (hts _ hlk) (hts _ q902) (hts _ q155) (hts _ q903) (by rw [hRf]; exact hd1) (by rw [hRl]; omega) hq.1 hq.2 hd (kk hE H locs ls hR hS hl)
end VMATH
