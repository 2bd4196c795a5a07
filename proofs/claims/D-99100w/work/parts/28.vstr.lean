/-! strings that the code names: length and charAt -/
set_option maxRecDepth 100000
theorem strT_len {i k : Nat} {tx : String} {bs : List Int32} (h : strT[i]? = some (k, tx, bs)) : bs.length ≤ 10 := by
  have h1 : ∀ e ∈ strT, e.2.2.length ≤ 10 := by decide
  exact h1 _ (List.mem_of_getElem? h)
def CtU (g : Gl) (y : MethodName) (bytes : ByteArray) (maxL : Nat) (d : Nat) (av : List Value) (I : MI) (r : Rh) (F : Prop → Prop) : Prop :=
  ∀ Q : Prop, F Q → Met (gl g) y (ws_ y bytes maxL none) (rmA d 0 0) (va_Pc av (RS g I r)) (va_Qv (S := Unit) (fun _ => Q) (fun _ t => Rp g I r t.heap) (gS g)) 0 0 (gS g)
def RtU (g : Gl) (x : Cx) (r : Rh) (I : MI) (Q : Prop) : Prop := xQ x = MQ (xb x) (va_Qv (S := Unit) (fun _ => Q) (fun _ t => Rp g I r t.heap) (gS g)) (xa x) (xs x) 0 0 (gS g) ∧ (xM x).sig.returnType = none
section VSTRG
variable {g : Gl} {x : Cx} {cc : ByteArray} {nL : Nat} {own : String} {d : Nat} {q : Nat × Nat} {pc : Nat} {lv : List (Nat × Value)} {st : List Value} {I : MI} {r : Rh} {E : Prop} {i k : Nat} {tx : String} {bs : List Int32}
theorem xS_of (h : Amb g x cc nL own d) (hi : strT[i]? = some (k, tx, bs)) : xS g (xs x) i k tx bs := h.2.2.2.2.2.2.2.2.2.2.2.2.2.2.2 i k tx bs hi
theorem v_getsz (h : Amb g x cc nL own d) {idx : Nat} (hd : decode cc pc = .ok (.getstatic idx, 3)) (hlk : Cond.fieldLink own idx "java/lang/String" "COMPACT_STRINGS" "Z" ∈ lw_all) (kk : V g x nL q (pc + 3) lv (.int 1 :: st) I r E) : V g x nL q pc lv st I r E :=
  fun hE H locs ls hR hS hl => va_gets h.1 h.2.1 h.2.2.2.2.2.2.2.2.2.2.2.2.2.2.1.1 hS h.2.2.2.1 (h.2.2.2.2.1 _ hlk) (fun _ h9 => h9) hd (kk hE H locs ls hR hS hl)
theorem v_getsq (h : Amb g x cc nL own d) {idx : Nat} (hd : decode cc pc = .ok (.getstatic idx, 3)) (hlk : Cond.fieldLink own idx "jdk/internal/util/Preconditions" "SIOOBE_FORMATTER" "Ljava/util/function/BiFunction;" ∈ lw_all) (kk : ∀ o, V g x nL q (pc + 3) lv (va_rf o :: st) I r E) : V g x nL q pc lv st I r E := by
  intro hE H locs ls hR hS hl
  rcases h.2.2.2.2.2.2.2.2.2.2.2.2.2.2.1.2.1 with hz | ⟨t, hz⟩
  · exact va_gets h.1 h.2.1 hz hS h.2.2.2.1 (h.2.2.2.2.1 _ hlk) (fun _ h9 => h9) hd (kk none hE H locs ls hR hS hl)
  · exact va_gets h.1 h.2.1 hz hS h.2.2.2.1 (h.2.2.2.2.1 _ hlk) (fun _ h9 => h9) hd (kk (some t) hE H locs ls hR hS hl)
theorem v_getSv (h : Amb g x cc nL own d) (hi : strT[i]? = some (k, tx, bs)) {idx : Nat} (hd : decode cc pc = .ok (.getfield idx, 3)) (hlk : Cond.fieldLink own idx "java/lang/String" "value" "[B" ∈ lw_all) (kk : V g x nL q (pc + 3) lv (.ref (gX g (50 + i)) :: st) I r E) : V g x nL q pc lv (.ref (gX g (10 + i)) :: st) I r E :=
  fun hE H locs ls hR hS hl => vk_getf h.1 h.2.1 (xS_of h hi).2.2.2.1 hS h.2.2.2.1 (h.2.2.2.2.1 _ hlk) (fun _ h9 => h9) hd (kk hE H locs ls hR hS hl)
theorem v_getSc (h : Amb g x cc nL own d) (hi : strT[i]? = some (k, tx, bs)) {idx : Nat} (hd : decode cc pc = .ok (.getfield idx, 3)) (hlk : Cond.fieldLink own idx "java/lang/String" "coder" "B" ∈ lw_all) (kk : V g x nL q (pc + 3) lv (.int 0 :: st) I r E) : V g x nL q pc lv (.ref (gX g (10 + i)) :: st) I r E :=
  fun hE H locs ls hR hS hl => vk_getf h.1 h.2.1 (xS_of h hi).2.2.1 hS h.2.2.2.1 (h.2.2.2.2.1 _ hlk) (fun _ h9 => h9) hd (kk hE H locs ls hR hS hl)
theorem v_alenS (h : Amb g x cc nL own d) (hi : strT[i]? = some (k, tx, bs)) (hd : decode cc pc = .ok (.arraylength, 1)) (kk : V g x nL q (pc + 1) lv (.int (Int32.ofNat bs.length) :: st) I r E) : V g x nL q pc lv (.ref (gX g (50 + i)) :: st) I r E :=
  fun hE H locs ls hR hS hl => va_tlen h.1 h.2.1 (xS_of h hi).2.2.2.2 hS rfl hd (kk hE H locs ls hR hS hl)
theorem v_baldS (h : Amb g x cc nL own d) (hi : strT[i]? = some (k, tx, bs)) {j : Int32} (hj : vp_in j bs.length) (hd : decode cc pc = .ok (.baload, 1)) (kk : V g x nL q (pc + 1) lv (.int (bs.getD j.toNatClampNeg 0) :: st) I r E) : V g x nL q pc lv (.int j :: .ref (gX g (50 + i)) :: st) I r E :=
  fun hE H locs ls hR hS hl => va_tb h.1 h.2.1 (xS_of h hi).2.2.2.2 hS hj rfl hd (kk hE H locs ls hR hS hl)
theorem v_i2c (h : Amb g x cc nL own d) {a v : Int32} (hd : decode cc pc = .ok (.i2c, 1)) (hv : (a.toUInt32 % 65536).toInt32 = v) (kk : V g x nL q (pc + 1) lv (.int v :: st) I r E) : V g x nL q pc lv (.int a :: st) I r E :=
  fun hE H locs ls hR hS hl => lv_i2c h.1 h.2.1 hd hv (kk hE H locs ls hR hS hl)
/-- an end with an int of a small type -/
theorem v_tretP (h : Amb g x cc nL own d) {Q : Int32 → Prop} {v : Int32} {ty : FieldType} (hr : RtP g x r I (some ty) Q) (hn : narrow ty (.int v) = .int v) (hd : decode cc pc = .ok (.ireturn, 1)) : V g x nL (0, 0) pc lv [.int v] I r (Q v) := by
  intro hE H locs ls hR hS hl
  rw [hr.1]
  exact W.zret h.1 h.2.1 hr.2 hn (fun t ht hW => ⟨⟨v, (), rfl, hE, by show Rp g I r t.heap; rw [ht]; exact hR⟩, hS.F ht⟩) hS.2.2 hd h.2.2.2.2.2.1
/-- a string's method is called -/
theorem v_callStr (h : Amb g x cc nL own d) (hi : strT[i]? = some (k, tx, bs)) {idx maxL n d' : Nat} {y : MethodName} {bytes : ByteArray} {ret : Option FieldType} {As rest : List Value} {F : (Int32 → Prop) → Prop} {E1 : Int32 → Prop} (hd : decode cc pc = .ok (.invokevirtual idx, 3)) (hw : CallT own idx "java/lang/String" y bytes maxL ret n) (hM : CtP g y bytes maxL ret d' (.ref (gX g (10 + i)) :: As) I r F) (hdd : d' + 1 ≤ d) (hn : As.length = n) (hst : st = As.reverse ++ .ref (gX g (10 + i)) :: rest) (hroom : (rest.map fun v => v.category).sum ≤ 8) (hq : q.1 ≤ (xR x).cells ∧ q.2 ≤ (xR x).slots)
    (kk : ∀ (v : Int32), V g x nL q (pc + 3) lv (.int v :: rest) I r (E1 v)) : V g x nL q pc lv st I r (F E1) := by
  intro hE H locs ls hR hS hl
  subst hst
  have hO := (xS_of h hi).2.1.kept hS.2.1
  obtain ⟨hx, hb, hml, hown, hts, hlk, hRf, hRl, hWK, hB⟩ := h
  refine va_calli (va_runV (As := As) (rest := rest) ⟨hx, hb, hml, hown, hts⟩ (hM E1 hE) (cwV n hts hw.1 rfl rfl rfl hw.2.1 ⟨by rw [hRf]; exact hdd, by rw [hRl]; show 8 + (maxL + 11) + 60 * d' ≤ 60 * d; have := hw.2.2; omega⟩) ⟨rs_blind, (by obtain ⟨cell, h1, h2, h3, -⟩ := hO; exact ⟨cell, h1, h2, h3⟩), fun U hU hW => ⟨rfl, by rw [hU]; exact hR, WK.warm hW hWK, HB.next hB hS hU hW⟩⟩ rfl hn hl.1 rfl (lv_room hroom) hd hq) hS (fun q _ h => h) (fun q h => h) (fun v u t H1 locs1 ht hvm hp hBt hz hk hS1 => ?_)
  exact kk v hp H1 locs1 ls (by rw [← ht]; exact hBt) hS1 hl
/-- a static method that returns nothing and changes nothing -/
theorem v_callsu (h : Amb g x cc nL own d) {idx maxL n d' : Nat} {y : MethodName} {bytes : ByteArray} {As rest : List Value} {F : Prop → Prop} {E1 : Prop} (hd : decode cc pc = .ok (.invokestatic idx, 3)) (hw : CallS own idx y bytes maxL none n) (hM : CtU g y bytes maxL d' As I r F) (hdd : d' + 1 ≤ d) (hn : As.length = n) (hst : st = As.reverse ++ rest) (hroom : (rest.map fun v => v.category).sum ≤ 8) (hq : q.1 ≤ (xR x).cells ∧ q.2 ≤ (xR x).slots)
    (kk : V g x nL q (pc + 3) lv rest I r E1) : V g x nL q pc lv st I r (F E1) := by
  intro hE H locs ls hR hS hl
  subst hst
  refine va_callv (v_runS h hd hw (mc := 0) (ms := 0) (hM E1 hE) hdd hn hroom hq hR hS hl) hS (fun q _ h => h) (fun q h => h) (fun u t H1 locs1 ht hvm hp hBt hz hk hS1 => ?_)
  exact kk hp H1 locs1 ls (by rw [← ht]; exact hBt) hS1 hl
theorem CtU.mk {y : MethodName} {bytes : ByteArray} {maxL : Nat} {av : List Value} {F : Prop → Prop} (hy : plainName y.cls = true) (hlen : (lg_sl av).length ≤ maxL) (hlv : lv_args 0 av = lv)
    (body : ∀ (x : Cx) (Q : Prop), Amb g x bytes maxL y.cls d → RtU g x r I Q → V g x maxL (0, 0) 0 lv [] I r (F Q)) : CtU g y bytes maxL d av I r F := by
  intro Q hF
  refine Met.ofW (cc := bytes) (maxL := maxL) (ret := none) hy rfl ?_
  intro p e s m args below meth c s₁ B hml hv
  obtain ⟨rfl, hR, hW, hb0⟩ := hv
  have hts := atoms_spec (ws := ws_ y bytes maxL none) B.pre
  have hts : ∀ w ∈ lw_all, w.before _ s = true := fun w h => hts w (List.mem_cons_of_mem _ h)
  have hl := lv_entry av (n := maxL) hlen
  rw [lg_entry_eq]
  exact body (p, e, (headSpec (ws_ y bytes maxL none) (rmA d 0 0)).room, s, m, av.toArray, below, meth, c, MQ below (va_Qv (S := Unit) (fun _ => Q) (fun _ t => Rp g I r t.heap) (gS g)) av.toArray s 0 0 (gS g)) Q ⟨B.exec, B.bytes, hml, findClass_of_methodNamed B.named, hts, B.notSynchronized, rfl, rfl, hW, hb0⟩ ⟨rfl, B.returns⟩ hF s.heap [] _ hR va_S.rf (hlv ▸ hl)
theorem v_vretU (h : Amb g x cc nL own d) {Q : Prop} (hr : RtU g x r I Q) (hd : decode cc pc = .ok (.return_, 1)) : V g x nL (0, 0) pc lv [] I r Q := by
  intro hE H locs ls hR hS hl
  rw [hr.1]
  exact W.vret h.1 h.2.1 hr.2 (fun t ht hW => ⟨⟨(), rfl, hE, by show Rp g I r t.heap; rw [ht]; exact hR⟩, hS.F ht⟩) hS.2.2 hd h.2.2.2.2.2.1
end VSTRG
theorem kJ7_335 : CallT RJ7 335 "java/lang/String" yJ7_coder cJ7_coder 1 (some .byte) 0 := ⟨lw_V q586 q587 q588 q158 q589, by decide +kernel, by decide⟩
theorem kJ7_492 : CallT RJ7 492 "java/lang/String" yJ7_isLatin1 cJ7_isLatin1 1 (some .boolean) 0 := ⟨lw_V q596 q597 q598 q158 q599, by decide +kernel, by decide⟩
theorem kX7_47 : CallT RX7 47 "java/lang/String" yJ7_length cJ7_length 1 (some .int) 0 := ⟨lw_V q582 q583 q584 q158 q585, by decide +kernel, by decide⟩
theorem kX7_52 : CallT RX7 52 "java/lang/String" yJ7_charAt cJ7_charAt 2 (some .char) 1 := ⟨lw_V q592 q593 q594 q158 q595, by decide +kernel, by decide⟩
theorem sJ7_495 : CallS RJ7 495 yJ8_charAt cJ8_charAt 2 (some .char) 2 := ⟨Or.inl (lw_S q600 q601 q159 q602), by decide +kernel, by decide⟩
theorem sJ8_9 : CallS RJ8 9 yJ7_checkIndex cJ7_checkIndex 2 none 2 := ⟨Or.inl (lw_S q603 q604 q158 q605), by decide +kernel, by decide⟩
theorem sJ7_1059 : CallS RJ7 1059 yJ4_checkIndex cJ4_checkIndex 3 (some .int) 3 := ⟨Or.inl (lw_S q608 q609 q154 q610), by decide +kernel, by decide⟩
section STRM
variable {g : Gl} {i k : Nat} {tx : String} {bs : List Int32}
theorem tJ7_coder (hi : strT[i]? = some (k, tx, bs)) (I : MI) (r : Rh) : CtP g yJ7_coder cJ7_coder 1 (some .byte) 0 [.ref (gX g (10 + i))] I r (fun Q => Q 0) := by
  refine CtP.mk (lv := [(0, .ref (gX g (10 + i)))]) (by decide) (Nat.le_of_ble_eq_true rfl) rfl (fun x Q h hr => ?_)
  refine v_getsz (pc := 0) h dJ7_coder_0 q590 ?_
  refine v_eq (E' := if (1 : Int32) = 0 then False else Q 0) (by simp) ?_
  refine v_if_eq (pc := 3) (t := 13) h dJ7_coder_3 rfl (fun _ => v_false) (fun _ => ?_)
  refine v_aload_n (pc := 6) h dJ7_coder_6 0 rfl rfl ?_
  refine v_getSc (pc := 7) h hi dJ7_coder_7 q2103 ?_
  refine v_goto (pc := 10) (t := 14) h dJ7_coder_10 rfl ?_
  exact v_tretP (pc := 14) h hr rfl dJ7_coder_14
theorem tJ7_isLatin1 (hi : strT[i]? = some (k, tx, bs)) (I : MI) (r : Rh) : CtP g yJ7_isLatin1 cJ7_isLatin1 1 (some .boolean) 0 [.ref (gX g (10 + i))] I r (fun Q => Q 1) := by
  refine CtP.mk (lv := [(0, .ref (gX g (10 + i)))]) (by decide) (Nat.le_of_ble_eq_true rfl) rfl (fun x Q h hr => ?_)
  refine v_getsz (pc := 0) h dJ7_isLatin1_0 q590 ?_
  refine v_eq (E' := if (1 : Int32) = 0 then False else (if (0 : Int32) = 0 then Q 1 else False)) (by simp) ?_
  refine v_if_eq (pc := 3) (t := 17) h dJ7_isLatin1_3 rfl (fun _ => v_false) (fun _ => ?_)
  refine v_aload_n (pc := 6) h dJ7_isLatin1_6 0 rfl rfl ?_
  refine v_getSc (pc := 7) h hi dJ7_isLatin1_7 q2103 ?_
  refine v_if_ne (pc := 10) (t := 17) h dJ7_isLatin1_10 rfl (fun _ => v_false) (fun _ => ?_)
  refine v_iconst (pc := 13) h dJ7_isLatin1_13 (v := 1) rfl ?_
  refine v_goto (pc := 14) (t := 18) h dJ7_isLatin1_14 rfl ?_
  exact v_zretP (pc := 18) h hr (Or.inr rfl) dJ7_isLatin1_18
theorem tJ7_length (hi : strT[i]? = some (k, tx, bs)) (I : MI) (r : Rh) : CtP g yJ7_length cJ7_length 1 (some .int) 1 [.ref (gX g (10 + i))] I r (fun Q => Q (Int32.ofNat bs.length)) := by
  refine CtP.mk (lv := [(0, .ref (gX g (10 + i)))]) (by decide) (Nat.le_of_ble_eq_true rfl) rfl (fun x Q h hr => ?_)
  refine v_aload_n (pc := 0) h dJ7_length_0 0 rfl rfl ?_
  refine v_getSv (pc := 1) h hi dJ7_length_1 q2102 ?_
  refine v_alenS (pc := 4) h hi dJ7_length_4 ?_
  refine v_aload_n (pc := 5) h dJ7_length_5 0 rfl rfl ?_
  refine v_eq (E' := (fun Q' : Int32 → Prop => Q' 0) (fun v => Q (Int32.ofNat bs.length >>> (v &&& 31)))) (by show _ = Q _; rw [sb_shr0]) ?_
  refine v_callStr (pc := 6) h hi dJ7_length_6 kJ7_335 (tJ7_coder hi I r) (by decide) rfl rfl (Nat.le_of_ble_eq_true rfl) ⟨Nat.zero_le _, Nat.zero_le _⟩ (fun v => ?_)
  refine v_ishr (pc := 9) h dJ7_length_9 ?_
  exact v_iretP (pc := 10) h hr dJ7_length_10
theorem tJ7_checkIndex {a b : Int32} (hab : ¬ a < 0 ∧ a < b) (I : MI) (r : Rh) : CtU g yJ7_checkIndex cJ7_checkIndex 2 2 [.int a, .int b] I r (fun Q => Q) := by
  refine CtU.mk (lv := [(0, .int a), (1, .int b)]) (by decide) (Nat.le_of_ble_eq_true rfl) rfl (fun x Q h hr => ?_)
  refine v_iload_n (pc := 0) h dJ7_checkIndex_0 0 rfl rfl ?_
  refine v_iload_n (pc := 1) h dJ7_checkIndex_1 1 rfl rfl ?_
  refine v_getsq (pc := 2) h dJ7_checkIndex_2 q606 (fun o => ?_)
  refine v_eq (E' := pJ4_checkIndex a b o I r (fun _ => Q)) (by simp [pJ4_checkIndex, jn0, hab.1, hab.2]) ?_
  refine v_callsp (pc := 5) h dJ7_checkIndex_5 sJ7_1059 (tJ4_checkIndex a b o I r) (by decide) rfl rfl (Nat.le_of_ble_eq_true rfl) ⟨Nat.zero_le _, Nat.zero_le _⟩ (fun v => ?_)
  refine v_pop (pc := 8) h dJ7_checkIndex_8 rfl ?_
  exact v_vretU (pc := 9) h hr dJ7_checkIndex_9
theorem vp_in_lt {j : Int32} {n : Nat} (h : vp_in j n) (hn : n < 2 ^ 31) : ¬ j < 0 ∧ j < Int32.ofNat n := by
  obtain ⟨m, hm, e⟩ := vp_in_of h hn
  subst e
  exact ⟨nI_pos (by omega), nI_lt hm hn⟩
theorem tJ8_charAt (hi : strT[i]? = some (k, tx, bs)) {j : Int32} (hj : vp_in j bs.length) (I : MI) (r : Rh) : CtP g yJ8_charAt cJ8_charAt 2 (some .char) 3 [.ref (gX g (50 + i)), .int j] I r (fun Q => Q (bs.getD j.toNatClampNeg 0 &&& 255)) := by
  have hl := strT_len hi
  refine CtP.mk (lv := [(0, .ref (gX g (50 + i))), (1, .int j)]) (by decide) (Nat.le_of_ble_eq_true rfl) rfl (fun x Q h hr => ?_)
  refine v_iload_n (pc := 0) h dJ8_charAt_0 1 rfl rfl ?_
  refine v_aload_n (pc := 1) h dJ8_charAt_1 0 rfl rfl ?_
  refine v_alenS (pc := 2) h hi dJ8_charAt_2 ?_
  refine v_callsu (F := fun Q => Q) (pc := 3) h dJ8_charAt_3 sJ8_9 (tJ7_checkIndex (vp_in_lt hj (by omega)) I r) (by decide) rfl rfl (Nat.le_of_ble_eq_true rfl) ⟨Nat.zero_le _, Nat.zero_le _⟩ ?_
  refine v_aload_n (pc := 6) h dJ8_charAt_6 0 rfl rfl ?_
  refine v_iload_n (pc := 7) h dJ8_charAt_7 1 rfl rfl ?_
  refine v_baldS (pc := 8) h hi hj dJ8_charAt_8 ?_
  refine v_sipush (pc := 9) h dJ8_charAt_9 (v := 255) rfl ?_
  refine v_iand (pc := 12) h dJ8_charAt_12 ?_
  refine v_i2c (pc := 13) h dJ8_charAt_13 (sc_c2 _) ?_
  exact v_tretP (pc := 14) h hr (sc_nar _) dJ8_charAt_14
theorem tJ7_charAt (hi : strT[i]? = some (k, tx, bs)) {j : Int32} (hj : vp_in j bs.length) (I : MI) (r : Rh) : CtP g yJ7_charAt cJ7_charAt 2 (some .char) 4 [.ref (gX g (10 + i)), .int j] I r (fun Q => Q (bs.getD j.toNatClampNeg 0 &&& 255)) := by
  refine CtP.mk (lv := [(0, .ref (gX g (10 + i))), (1, .int j)]) (by decide) (Nat.le_of_ble_eq_true rfl) rfl (fun x Q h hr => ?_)
  refine v_aload_n (pc := 0) h dJ7_charAt_0 0 rfl rfl ?_
  refine v_eq (E' := (fun Q' : Int32 → Prop => Q' 1) (fun v => if v = 0 then False else (fun Q' : Int32 → Prop => Q' (bs.getD j.toNatClampNeg 0 &&& 255)) Q)) (by simp) ?_
  refine v_callStr (pc := 1) h hi dJ7_charAt_1 kJ7_492 (tJ7_isLatin1 hi I r) (by decide) rfl rfl (Nat.le_of_ble_eq_true rfl) ⟨Nat.zero_le _, Nat.zero_le _⟩ (fun v => ?_)
  refine v_if_eq (pc := 4) (t := 16) h dJ7_charAt_4 rfl (fun _ => v_false) (fun _ => ?_)
  refine v_aload_n (pc := 7) h dJ7_charAt_7 0 rfl rfl ?_
  refine v_getSv (pc := 8) h hi dJ7_charAt_8 q2102 ?_
  refine v_iload_n (pc := 11) h dJ7_charAt_11 1 rfl rfl ?_
  refine v_eq (E' := (fun Q' : Int32 → Prop => Q' (bs.getD j.toNatClampNeg 0 &&& 255)) (fun v => narrow .char (.int v) = .int v ∧ Q v)) (by simp [sc_nar]) ?_
  refine v_callsp (pc := 12) h dJ7_charAt_12 sJ7_495 (tJ8_charAt hi hj I r) (by decide) rfl rfl (Nat.le_of_ble_eq_true rfl) ⟨Nat.zero_le _, Nat.zero_le _⟩ (fun v => ?_)
  exact v_and (fun hv => v_tretP (pc := 15) h hr hv dJ7_charAt_15)
end STRM
