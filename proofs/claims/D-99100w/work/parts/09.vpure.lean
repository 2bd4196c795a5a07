/-! V, third part: methods that change nothing, names for values -/
set_option maxRecDepth 100000
def nm {α : Type} (a : α) (k : α → Prop) : Prop := k a
theorem nm_i {α : Type} {a : α} {k : α → Prop} (h : ∀ v, v = a → k v) : nm a k := h a rfl
def CtP (g : Gl) (y : MethodName) (bytes : ByteArray) (maxL : Nat) (ret : Option FieldType) (d : Nat) (av : List Value) (I : MI) (r : Rh) (F : (Int32 → Prop) → Prop) : Prop :=
  ∀ Q : Int32 → Prop, F Q → Met (gl g) y (ws_ y bytes maxL ret) { frames := d, cells := 0, slots := 0, locals := 60 * d } (va_Pc av (RS g I r)) (va_Qi (S := Unit) (fun v _ => Q v) (fun _ t => Rp g I r t.heap) (gS g)) 0 0 (gS g)
def RtP (g : Gl) (x : Cx) (r : Rh) (I : MI) (ret : Option FieldType) (Q : Int32 → Prop) : Prop := xQ x = MQ (xb x) (va_Qi (S := Unit) (fun v _ => Q v) (fun _ t => Rp g I r t.heap) (gS g)) (xa x) (xs x) 0 0 (gS g) ∧ (xM x).sig.returnType = ret
section VPURE
variable {g : Gl} {x : Cx} {cc : ByteArray} {nL : Nat} {own : String} {d : Nat} {q : Nat × Nat} {pc : Nat} {lv : List (Nat × Value)} {st : List Value} {I : MI} {r : Rh} {E : Prop}
theorem v_nmI {k : MI → Prop} (h : ∀ J, V g x nL q pc lv st J r (k J)) : V g x nL q pc lv st I r (nm I k) := h I
theorem v_nmi {v : Int32} {k : Int32 → Prop} (h : ∀ u, V g x nL q pc lv (.int u :: st) I r (k u)) : V g x nL q pc lv (.int v :: st) I r (nm v k) := h v
theorem CtP.mk {y : MethodName} {bytes : ByteArray} {maxL : Nat} {ret : Option FieldType} {av : List Value} {F : (Int32 → Prop) → Prop} (hy : plainName y.cls = true) (hlen : (lg_sl av).length ≤ maxL) (hlv : lv_args 0 av = lv)
    (body : ∀ (x : Cx) (Q : Int32 → Prop), Amb g x bytes maxL y.cls d → RtP g x r I ret Q → V g x maxL (0, 0) 0 lv [] I r (F Q)) : CtP g y bytes maxL ret d av I r F := by
  intro Q hF
  refine Met.ofW (cc := bytes) (maxL := maxL) (ret := ret) hy rfl ?_
  intro p e s m args below meth c s₁ B hml hv
  obtain ⟨rfl, hR, hW, hb0⟩ := hv
  have hts := atoms_spec (ws := ws_ y bytes maxL ret) B.pre
  have hts : ∀ w ∈ lw_all, w.before _ s = true := fun w h => hts w (List.mem_cons_of_mem _ h)
  have hl := lv_entry av (n := maxL) hlen
  rw [lg_entry_eq]
  exact body (p, e, (headSpec (ws_ y bytes maxL ret) { frames := d, cells := 0, slots := 0, locals := 60 * d }).room, s, m, av.toArray, below, meth, c, MQ below (va_Qi (S := Unit) (fun v _ => Q v) (fun _ t => Rp g I r t.heap) (gS g)) av.toArray s 0 0 (gS g)) Q ⟨B.exec, B.bytes, hml, findClass_of_methodNamed B.named, hts, B.notSynchronized, rfl, rfl, hW, hb0⟩ ⟨rfl, B.returns⟩ hF s.heap [] _ hR va_S.rf (hlv ▸ hl)
theorem v_iretP (h : Amb g x cc nL own d) {Q : Int32 → Prop} {v : Int32} (hr : RtP g x r I (some .int) Q) (hd : decode cc pc = .ok (.ireturn, 1)) : V g x nL (0, 0) pc lv [.int v] I r (Q v) := by
  intro hE H locs ls hR hS hl
  rw [hr.1]
  exact W.iret h.1 h.2.1 hr.2 (fun t ht hW => ⟨⟨v, (), rfl, hE, by show Rp g I r t.heap; rw [ht]; exact hR⟩, hS.F ht⟩) hS.2.2 hd h.2.2.2.2.2.1
theorem v_zretP (h : Amb g x cc nL own d) {Q : Int32 → Prop} {v : Int32} (hr : RtP g x r I (some .boolean) Q) (hv : v = 0 ∨ v = 1) (hd : decode cc pc = .ok (.ireturn, 1)) : V g x nL (0, 0) pc lv [.int v] I r (Q v) := by
  intro hE H locs ls hR hS hl
  rw [hr.1]
  exact W.zret h.1 h.2.1 hr.2 (by rcases hv with rfl | rfl <;> rfl) (fun t ht hW => ⟨⟨v, (), rfl, hE, by show Rp g I r t.heap; rw [ht]; exact hR⟩, hS.F ht⟩) hS.2.2 hd h.2.2.2.2.2.1
theorem v_zretPE (h : Amb g x cc nL own d) {Q : Int32 → Prop} {v : Int32} (hr : RtP g x r I (some .boolean) Q) (hd : decode cc pc = .ok (.ireturn, 1)) : V g x nL (0, 0) pc lv [.int v] I r ((v = 0 ∨ v = 1) ∧ Q v) :=
  fun hE => v_zretP h hr hE.1 hd hE.2
theorem v_callp (h : Amb g x cc nL own d) {C : String} {T : u_T} {N idx maxL n d' c b : Nat} {y : MethodName} {bytes : ByteArray} {ret : Option FieldType} {As rest : List Value} {F : (Int32 → Prop) → Prop} {E1 : Int32 → Prop} (hd : decode cc pc = .ok (.invokevirtual idx, 3)) (hw : CallT own idx C y bytes maxL ret n) (hc : vCl[c]? = some (C, T, N)) (hK : rK r b = c) (hM : CtP g y bytes maxL ret d' (.ref b :: As) I r F) (hdd : d' + 1 ≤ d) (hn : As.length = n) (hst : st = As.reverse ++ .ref b :: rest) (hroom : (rest.map fun v => v.category).sum ≤ 8) (hq : q = (0, 0))
    (kk : ∀ (v : Int32), V g x nL q (pc + 3) lv (.int v :: rest) I r (E1 v)) : V g x nL q pc lv st I r (F E1) := by
  intro hE H locs ls hR hS hl
  subst hst
  subst hq
  obtain ⟨hx, hb, hml, hown, hts, hlk, hRf, hRl, hWK, hB⟩ := h
  refine va_calli (va_runV (As := As) (rest := rest) ⟨hx, hb, hml, hown, hts⟩ (hM E1 hE) (cwV n hts hw.1 rfl rfl rfl hw.2.1 ⟨by rw [hRf]; exact hdd, by rw [hRl]; show 8 + (maxL + 11) + 60 * d' ≤ 60 * d; have := hw.2.2; omega⟩) ⟨rs_blind, rs_recv hWK hR hc hK, fun U hU hW => ⟨rfl, by rw [hU]; exact hR, WK.warm hW hWK, HB.next hB hS hU hW⟩⟩ rfl hn hl.1 rfl (lv_room hroom) hd ⟨Nat.zero_le _, Nat.zero_le _⟩) hS (fun q _ h => h) (fun q h => h) (fun v u t H1 locs1 ht hvm hp hBt hz hk hS1 => ?_)
  exact kk v hp H1 locs1 ls (by rw [← ht]; exact hBt) hS1 hl
theorem v_ialdL (h : Amb g x cc nL own d) {a n k : Nat} {i : Int32} (hd : decode cc pc = .ok (.iaload, 1)) (hK : rK r a = 50) (hL : rL r a = n) (hin : vp_in i n) (hk : i.toNatClampNeg = k) (kk : V g x nL q (pc + 1) lv (.int (I a k) :: st) I r E) : V g x nL q pc lv (.int i :: .ref a :: st) I r E := by
  subst hk
  exact v_ialdK h hd hK hL hin kk
theorem v_iastL (h : Amb g x cc nL own d) {a n k : Nat} {i v : Int32} (hd : decode cc pc = .ok (.iastore, 1)) (hK : rK r a = 50) (hL : rL r a = n) (hin : vp_in i n) (hk : i.toNatClampNeg = k) (kk : V g x nL q (pc + 1) lv st (wI I a k v) r E) : V g x nL q pc lv (.int v :: .int i :: .ref a :: st) I r E := by
  subst hk
  exact v_iastK h hd hK hL hin kk
theorem v_ite {c : Prop} [Decidable c] {E1 E2 : Prop} (k1 : c → V g x nL q pc lv st I r E1) (k2 : ¬ c → V g x nL q pc lv st I r E2) : V g x nL q pc lv st I r (if c then E1 else E2) := by
  intro hE
  by_cases hc : c
  · rw [if_pos hc] at hE
    exact k1 hc hE
  · rw [if_neg hc] at hE
    exact k2 hc hE
end VPURE
def jn0 (F : Prop → Prop) (k : Prop) : Prop := F k
theorem v_jn0 {F : Prop → Prop} {k : Prop} {g : Gl} {x : Cx} {nL : Nat} {q : Nat × Nat} {pc : Nat} {lv : List (Nat × Value)} {st : List Value} {I : MI} {r : Rh} (J : Prop → Prop) (hF : ∀ k' : Prop, J k' → V g x nL q pc lv st I r (F k')) (hk : J k) : V g x nL q pc lv st I r (jn0 F k) := hF k hk
def irm (a b : Int32) : Int32 := a - a / b * b
def sl (a b : Int32) : Int32 := a <<< (b &&& 31)
def sr (a b : Int32) : Int32 := a >>> (b &&& 31)
def us (a b : Int32) : Int32 := (a.toUInt32 >>> (b.toUInt32 &&& Int32.toUInt32 31)).toInt32
/-- the reference's object: its arrays stand behind it in the order in which they are made -/
def mTab : List (Nat × Nat × Nat) := [(1, 1, 174), (2, 2, 1044), (4, 3, 174), (7, 4, 12), (8, 5, 600), (9, 6, 400), (15, 7, 153), (16, 8, 2), (17, 9, 48), (18, 10, 48), (19, 11, 48), (20, 12, 48), (21, 13, 1200), (22, 14, 1200), (26, 15, 40), (33, 16, 128), (35, 17, 32), (37, 18, 288), (38, 19, 11), (39, 20, 420), (41, 21, 144), (43, 22, 12), (44, 23, 2048), (46, 24, 8), (47, 25, 256), (48, 26, 10025), (50, 27, 12), (51, 28, 4096), (52, 29, 26), (54, 30, 8), (56, 31, 49), (58, 32, 8), (59, 33, 8), (63, 34, 2300)]
def MStr (mo : Nat) (r : Rh) : Prop := rK r mo = 6 ∧ ∀ k o n, (k, o, n) ∈ mTab → rP r mo k = some (mo + o) ∧ rK r (mo + o) = 50 ∧ rL r (mo + o) = n
theorem mA_1 {mo : Nat} {r : Rh} (h : MStr mo r) : rP r mo 1 = some (mo + 1) ∧ rK r (mo + 1) = 50 ∧ rL r (mo + 1) = 174 := h.2 1 1 174 (by decide)
theorem mA_2 {mo : Nat} {r : Rh} (h : MStr mo r) : rP r mo 2 = some (mo + 2) ∧ rK r (mo + 2) = 50 ∧ rL r (mo + 2) = 1044 := h.2 2 2 1044 (by decide)
theorem mA_4 {mo : Nat} {r : Rh} (h : MStr mo r) : rP r mo 4 = some (mo + 3) ∧ rK r (mo + 3) = 50 ∧ rL r (mo + 3) = 174 := h.2 4 3 174 (by decide)
theorem mA_7 {mo : Nat} {r : Rh} (h : MStr mo r) : rP r mo 7 = some (mo + 4) ∧ rK r (mo + 4) = 50 ∧ rL r (mo + 4) = 12 := h.2 7 4 12 (by decide)
theorem mA_8 {mo : Nat} {r : Rh} (h : MStr mo r) : rP r mo 8 = some (mo + 5) ∧ rK r (mo + 5) = 50 ∧ rL r (mo + 5) = 600 := h.2 8 5 600 (by decide)
theorem mA_9 {mo : Nat} {r : Rh} (h : MStr mo r) : rP r mo 9 = some (mo + 6) ∧ rK r (mo + 6) = 50 ∧ rL r (mo + 6) = 400 := h.2 9 6 400 (by decide)
theorem mA_15 {mo : Nat} {r : Rh} (h : MStr mo r) : rP r mo 15 = some (mo + 7) ∧ rK r (mo + 7) = 50 ∧ rL r (mo + 7) = 153 := h.2 15 7 153 (by decide)
theorem mA_16 {mo : Nat} {r : Rh} (h : MStr mo r) : rP r mo 16 = some (mo + 8) ∧ rK r (mo + 8) = 50 ∧ rL r (mo + 8) = 2 := h.2 16 8 2 (by decide)
theorem mA_17 {mo : Nat} {r : Rh} (h : MStr mo r) : rP r mo 17 = some (mo + 9) ∧ rK r (mo + 9) = 50 ∧ rL r (mo + 9) = 48 := h.2 17 9 48 (by decide)
theorem mA_18 {mo : Nat} {r : Rh} (h : MStr mo r) : rP r mo 18 = some (mo + 10) ∧ rK r (mo + 10) = 50 ∧ rL r (mo + 10) = 48 := h.2 18 10 48 (by decide)
theorem mA_19 {mo : Nat} {r : Rh} (h : MStr mo r) : rP r mo 19 = some (mo + 11) ∧ rK r (mo + 11) = 50 ∧ rL r (mo + 11) = 48 := h.2 19 11 48 (by decide)
theorem mA_20 {mo : Nat} {r : Rh} (h : MStr mo r) : rP r mo 20 = some (mo + 12) ∧ rK r (mo + 12) = 50 ∧ rL r (mo + 12) = 48 := h.2 20 12 48 (by decide)
theorem mA_21 {mo : Nat} {r : Rh} (h : MStr mo r) : rP r mo 21 = some (mo + 13) ∧ rK r (mo + 13) = 50 ∧ rL r (mo + 13) = 1200 := h.2 21 13 1200 (by decide)
theorem mA_22 {mo : Nat} {r : Rh} (h : MStr mo r) : rP r mo 22 = some (mo + 14) ∧ rK r (mo + 14) = 50 ∧ rL r (mo + 14) = 1200 := h.2 22 14 1200 (by decide)
theorem mA_26 {mo : Nat} {r : Rh} (h : MStr mo r) : rP r mo 26 = some (mo + 15) ∧ rK r (mo + 15) = 50 ∧ rL r (mo + 15) = 40 := h.2 26 15 40 (by decide)
theorem mA_33 {mo : Nat} {r : Rh} (h : MStr mo r) : rP r mo 33 = some (mo + 16) ∧ rK r (mo + 16) = 50 ∧ rL r (mo + 16) = 128 := h.2 33 16 128 (by decide)
theorem mA_35 {mo : Nat} {r : Rh} (h : MStr mo r) : rP r mo 35 = some (mo + 17) ∧ rK r (mo + 17) = 50 ∧ rL r (mo + 17) = 32 := h.2 35 17 32 (by decide)
theorem mA_37 {mo : Nat} {r : Rh} (h : MStr mo r) : rP r mo 37 = some (mo + 18) ∧ rK r (mo + 18) = 50 ∧ rL r (mo + 18) = 288 := h.2 37 18 288 (by decide)
theorem mA_38 {mo : Nat} {r : Rh} (h : MStr mo r) : rP r mo 38 = some (mo + 19) ∧ rK r (mo + 19) = 50 ∧ rL r (mo + 19) = 11 := h.2 38 19 11 (by decide)
theorem mA_39 {mo : Nat} {r : Rh} (h : MStr mo r) : rP r mo 39 = some (mo + 20) ∧ rK r (mo + 20) = 50 ∧ rL r (mo + 20) = 420 := h.2 39 20 420 (by decide)
theorem mA_41 {mo : Nat} {r : Rh} (h : MStr mo r) : rP r mo 41 = some (mo + 21) ∧ rK r (mo + 21) = 50 ∧ rL r (mo + 21) = 144 := h.2 41 21 144 (by decide)
theorem mA_43 {mo : Nat} {r : Rh} (h : MStr mo r) : rP r mo 43 = some (mo + 22) ∧ rK r (mo + 22) = 50 ∧ rL r (mo + 22) = 12 := h.2 43 22 12 (by decide)
theorem mA_44 {mo : Nat} {r : Rh} (h : MStr mo r) : rP r mo 44 = some (mo + 23) ∧ rK r (mo + 23) = 50 ∧ rL r (mo + 23) = 2048 := h.2 44 23 2048 (by decide)
theorem mA_46 {mo : Nat} {r : Rh} (h : MStr mo r) : rP r mo 46 = some (mo + 24) ∧ rK r (mo + 24) = 50 ∧ rL r (mo + 24) = 8 := h.2 46 24 8 (by decide)
theorem mA_47 {mo : Nat} {r : Rh} (h : MStr mo r) : rP r mo 47 = some (mo + 25) ∧ rK r (mo + 25) = 50 ∧ rL r (mo + 25) = 256 := h.2 47 25 256 (by decide)
theorem mA_48 {mo : Nat} {r : Rh} (h : MStr mo r) : rP r mo 48 = some (mo + 26) ∧ rK r (mo + 26) = 50 ∧ rL r (mo + 26) = 10025 := h.2 48 26 10025 (by decide)
theorem mA_50 {mo : Nat} {r : Rh} (h : MStr mo r) : rP r mo 50 = some (mo + 27) ∧ rK r (mo + 27) = 50 ∧ rL r (mo + 27) = 12 := h.2 50 27 12 (by decide)
theorem mA_51 {mo : Nat} {r : Rh} (h : MStr mo r) : rP r mo 51 = some (mo + 28) ∧ rK r (mo + 28) = 50 ∧ rL r (mo + 28) = 4096 := h.2 51 28 4096 (by decide)
theorem mA_52 {mo : Nat} {r : Rh} (h : MStr mo r) : rP r mo 52 = some (mo + 29) ∧ rK r (mo + 29) = 50 ∧ rL r (mo + 29) = 26 := h.2 52 29 26 (by decide)
theorem mA_54 {mo : Nat} {r : Rh} (h : MStr mo r) : rP r mo 54 = some (mo + 30) ∧ rK r (mo + 30) = 50 ∧ rL r (mo + 30) = 8 := h.2 54 30 8 (by decide)
theorem mA_56 {mo : Nat} {r : Rh} (h : MStr mo r) : rP r mo 56 = some (mo + 31) ∧ rK r (mo + 31) = 50 ∧ rL r (mo + 31) = 49 := h.2 56 31 49 (by decide)
theorem mA_58 {mo : Nat} {r : Rh} (h : MStr mo r) : rP r mo 58 = some (mo + 32) ∧ rK r (mo + 32) = 50 ∧ rL r (mo + 32) = 8 := h.2 58 32 8 (by decide)
theorem mA_59 {mo : Nat} {r : Rh} (h : MStr mo r) : rP r mo 59 = some (mo + 33) ∧ rK r (mo + 33) = 50 ∧ rL r (mo + 33) = 8 := h.2 59 33 8 (by decide)
theorem mA_63 {mo : Nat} {r : Rh} (h : MStr mo r) : rP r mo 63 = some (mo + 34) ∧ rK r (mo + 34) = 50 ∧ rL r (mo + 34) = 2300 := h.2 63 34 2300 (by decide)

