/-! the reader: methods that throw nothing -/
set_option maxRecDepth 100000
def pX7_see (o : Nat) (n_o : Nat) (I : MI) (r : Rh) (Q : Int32 → Prop) : Prop :=
if (I n_o 1) ≤ (I o 3) then
(Q (-1 : Int32))
else
(vp_in (I o 3) 400 ∧ (Q ((I (n_o + 1) (I o 3).toNatClampNeg) &&& (255 : Int32))))
def pX7_isLetter (o : Nat) (n_o : Nat) (I : MI) (r : Rh) (Q : Int32 → Prop) : Prop :=
pX7_see o n_o I r (fun r1 =>
pX0_isIn r1 (97 : Int32) (122 : Int32) I r (fun r2 =>
jn0 (fun k3 =>
if r2 = 0 then
(pX7_see o n_o I r (fun r4 =>
pX0_isIn r4 (65 : Int32) (90 : Int32) I r (fun r5 =>
if r5 = 0 then
(Q (0 : Int32))
else
(k3))))
else
(k3)) (
Q (1 : Int32))))
def pX7_isDigit (o : Nat) (n_o : Nat) (I : MI) (r : Rh) (Q : Int32 → Prop) : Prop :=
pX7_see o n_o I r (fun r1 =>
pX0_isIn r1 (48 : Int32) (57 : Int32) I r (fun r2 =>
(r2 = 0 ∨ r2 = 1) ∧ Q r2))
def pX7_is (o : Nat) (n_o : Nat) (a1 : List Int32) (I : MI) (r : Rh) (Q : Int32 → Prop) : Prop :=
jn1 (fun k2 =>
if ((I o 3) - (I o 4)) = (Int32.ofNat a1.length) then
(k2 (1 : Int32))
else
(k2 (0 : Int32))) (fun t1 =>
L2 (fun X5 i2_3 i3_4 =>
jn0 (fun k6 =>
if (Int32.ofNat a1.length) ≤ i3_4 then
(k6)
else
(if i2_3 = 0 then
(k6)
else
(vp_in ((I o 4) + i3_4) 400 ∧ (vp_in i3_4 a1.length ∧ (jn1 (fun k8 =>
if (I (n_o + 1) ((I o 4) + i3_4).toNatClampNeg) = (a1.getD i3_4.toNatClampNeg 0 &&& 255) then
(k8 (1 : Int32))
else
(k8 (0 : Int32))) (fun t7 =>
X5 t7 (i3_4 + (1 : Int32)))))))) (
(i2_3 = 0 ∨ i2_3 = 1) ∧ Q i2_3)) t1 (0 : Int32))
def pX7_asked (o : Nat) (n_o : Nat) (I : MI) (r : Rh) (Q : Int32 → Prop) : Prop :=
pX7_is o n_o [107, 105, 110, 100] I r (fun r1 =>
if r1 = 0 then
(pX7_is o n_o [109, 117, 99, 104] I r (fun r2 =>
if r2 = 0 then
(pX7_is o n_o [97, 103, 101] I r (fun r3 =>
if r3 = 0 then
(pX7_is o n_o [102, 97, 99, 101] I r (fun r4 =>
if r4 = 0 then
(pX7_is o n_o [108, 111, 118, 101] I r (fun r5 =>
if r5 = 0 then
(pX7_is o n_o [112, 117, 114, 115, 101] I r (fun r6 =>
if r6 = 0 then
(pX7_is o n_o [104, 101, 97, 108, 116, 104] I r (fun r7 =>
if r7 = 0 then
(pX7_is o n_o [104, 117, 110, 103, 101, 114] I r (fun r8 =>
if r8 = 0 then
(pX7_is o n_o [104, 111, 117, 114] I r (fun r9 =>
if r9 = 0 then
(pX7_is o n_o [114, 97, 105, 110] I r (fun r10 =>
if r10 = 0 then
(pX7_is o n_o [100, 97, 121] I r (fun r11 =>
if r11 = 0 then
(Q (1 : Int32))
else
(Q (190 : Int32))))
else
(Q (189 : Int32))))
else
(Q (188 : Int32))))
else
(Q (187 : Int32))))
else
(Q (186 : Int32))))
else
(Q (185 : Int32))))
else
(Q (184 : Int32))))
else
(Q (183 : Int32))))
else
(Q (182 : Int32))))
else
(Q (181 : Int32))))
else
(Q (180 : Int32)))
def pX7_lawWord (o : Nat) (n_o : Nat) (I : MI) (r : Rh) (Q : Int32 → Prop) : Prop :=
pX7_is o n_o [119, 104, 101, 110] I r (fun r1 =>
if r1 = 0 then
(pX7_is o n_o [111, 114] I r (fun r2 =>
if r2 = 0 then
(pX7_is o n_o [97, 110, 100] I r (fun r3 =>
if r3 = 0 then
(pX7_is o n_o [110, 111, 116] I r (fun r4 =>
if r4 = 0 then
(pX7_is o n_o [111, 112, 101, 110, 115] I r (fun r5 =>
if r5 = 0 then
(pX7_is o n_o [103, 105, 118, 101, 115] I r (fun r6 =>
if r6 = 0 then
(pX7_is o n_o [116, 105, 114, 101, 115] I r (fun r7 =>
if r7 = 0 then
(pX7_asked o n_o I r (fun r8 =>
Q r8))
else
(Q (9 : Int32))))
else
(Q (8 : Int32))))
else
(Q (7 : Int32))))
else
(Q (6 : Int32))))
else
(Q (5 : Int32))))
else
(Q (4 : Int32))))
else
(Q (3 : Int32)))
def pX7_postWord (o : Nat) (n_o : Nat) (I : MI) (r : Rh) (Q : Int32 → Prop) : Prop :=
pX7_is o n_o [111, 110] I r (fun r1 =>
if r1 = 0 then
(pX7_is o n_o [116, 111] I r (fun r2 =>
if r2 = 0 then
(pX7_is o n_o [110, 101, 119, 115] I r (fun r3 =>
if r3 = 0 then
(pX7_is o n_o [98, 105, 108, 108] I r (fun r4 =>
if r4 = 0 then
(pX7_is o n_o [107, 105, 115, 115] I r (fun r5 =>
if r5 = 0 then
(pX7_is o n_o [97, 110, 103, 101, 114] I r (fun r6 =>
if r6 = 0 then
(pX7_is o n_o [105, 110, 118, 105, 116, 97, 116, 105, 111, 110] I r (fun r7 =>
if r7 = 0 then
(pX7_is o n_o [116, 101, 120, 116] I r (fun r8 =>
if r8 = 0 then
(pX7_is o n_o [106, 111, 107, 101] I r (fun r9 =>
if r9 = 0 then
(Q (1 : Int32))
else
(Q (26 : Int32))))
else
(Q (25 : Int32))))
else
(Q (24 : Int32))))
else
(Q (23 : Int32))))
else
(Q (22 : Int32))))
else
(Q (21 : Int32))))
else
(Q (20 : Int32))))
else
(Q (11 : Int32))))
else
(Q (10 : Int32)))
def pX7_keyword (o : Nat) (n_o : Nat) (I : MI) (r : Rh) (Q : Int32 → Prop) : Prop :=
if (I o 0) = (0 : Int32) then
(pX7_lawWord o n_o I r (fun r2 =>
Q r2))
else
(if (I o 0) = (1 : Int32) then
(pX7_postWord o n_o I r (fun r4 =>
Q r4))
else
(if (I o 0) = (2 : Int32) then
(pX7_is o n_o [119, 97, 108, 107] I r (fun r6 =>
if r6 = 0 then
(Q (1 : Int32))
else
(Q (12 : Int32))))
else
(pX7_is o n_o [115, 116, 114, 101, 101, 116] I r (fun r7 =>
if r7 = 0 then
(Q (1 : Int32))
else
(Q (13 : Int32))))))
def pX7_isMark (o : Nat) (n_o : Nat) (a1 : Int32) (I : MI) (r : Rh) (Q : Int32 → Prop) : Prop :=
jn0 (fun k1 =>
if a1 = (59 : Int32) then
(k1)
else
(if a1 = (43 : Int32) then
(k1)
else
(if a1 = (45 : Int32) then
(k1)
else
(if a1 = (42 : Int32) then
(k1)
else
(if a1 = (47 : Int32) then
(k1)
else
(if a1 = (40 : Int32) then
(k1)
else
(if a1 = (41 : Int32) then
(k1)
else
(if a1 = (60 : Int32) then
(k1)
else
(if a1 = (61 : Int32) then
(k1)
else
(if a1 = (62 : Int32) then
(k1)
else
(Q (0 : Int32)))))))))))) (
Q (1 : Int32))
def pX7_next (o : Nat) (n_o : Nat) (I : MI) (r : Rh) (Q : MI → Prop) : Prop :=
L1 (fun X2 I1 =>
pX7_see o n_o I1 r (fun r3 =>
jn0 (fun k4 =>
if r3 = (32 : Int32) then
(k4)
else
(pX7_see o n_o I1 r (fun r5 =>
if r5 = (10 : Int32) then
(k4)
else
(nm (wI I1 o 4 (I1 o 3)) (fun I6 =>
pX7_see o n_o I6 r (fun r7 =>
if r7 = (-1 : Int32) then
(nm (wI I6 o 5 (0 : Int32)) (fun I35 =>
Q I35))
else
(pX7_isLetter o n_o I6 r (fun r8 =>
if r8 = 0 then
(pX7_isDigit o n_o I6 r (fun r9 =>
if r9 = 0 then
(pX7_see o n_o I6 r (fun r10 =>
pX7_isMark o n_o r10 I6 r (fun r11 =>
jn1 (fun k13 =>
if r11 = 0 then
(k13 (1 : Int32))
else
(pX7_see o n_o I6 r (fun r14 =>
k13 r14))) (fun t12 =>
nm (wI I6 o 5 t12) (fun I15 =>
nm (wI I15 o 3 ((I15 o 3) + (1 : Int32))) (fun I16 =>
Q I16))))))
else
(nm (wI I6 o 6 (0 : Int32)) (fun I17 =>
L1 (fun X19 I18 =>
pX7_isDigit o n_o I18 r (fun r20 =>
if r20 = 0 then
(jn1 (fun k22 =>
if (5 : Int32) ≤ ((I18 o 3) - (I18 o 4)) then
(k22 (1 : Int32))
else
(k22 (2 : Int32))) (fun t21 =>
nm (wI I18 o 5 t21) (fun I23 =>
Q I23)))
else
(jn1 (fun k25 =>
if ((I18 o 4) + (4 : Int32)) ≤ (I18 o 3) then
(k25 I18)
else
(pX7_see o n_o I18 r (fun r26 =>
nm (wI I18 o 6 ((((10 : Int32) * (I18 o 6)) + r26) - (48 : Int32))) (fun I27 =>
k25 I27)))) (fun I24 =>
nm (wI I24 o 3 ((I24 o 3) + (1 : Int32))) (fun I28 =>
X19 I28))))) I17))))
else
(L1 (fun X30 I29 =>
pX7_isLetter o n_o I29 r (fun r31 =>
if r31 = 0 then
(pX7_keyword o n_o I29 r (fun r32 =>
nm (wI I29 o 5 r32) (fun I33 =>
Q I33)))
else
(nm (wI I29 o 3 ((I29 o 3) + (1 : Int32))) (fun I34 =>
X30 I34)))) I6))))))))) (
nm (wI I1 o 3 ((I1 o 3) + (1 : Int32))) (fun I36 =>
X2 I36)))) I
def pX7_lays (o : Nat) (n_o : Nat) (a1 : Int32) (a2 : Int32) (a3 : Int32) (I : MI) (r : Rh) (Q : MI → Prop) : Prop :=
vp_in (((12 : Int32) * a1) + a2) 144 ∧ (jn1 (fun k2 =>
if (I (o + 2) (((12 : Int32) * a1) + a2).toNatClampNeg) = (-1 : Int32) then
(k2 a3)
else
(vp_in (((12 : Int32) * a1) + a2) 144 ∧ (k2 (imn a3 (I (o + 2) (((12 : Int32) * a1) + a2).toNatClampNeg))))) (fun t1 =>
vp_in (((12 : Int32) * a1) + a2) 144 ∧ (nm (wI I (o + 2) ((((12 : Int32) * a1) + a2).toNatClampNeg) t1) (fun I3 =>
Q I3))))
set_option maxHeartbeats 4000000 in
theorem tX7_see {g : Gl}  (o : Nat) (n_o : Nat) (I : MI) (r : Rh) (h_o : RdS o n_o r) : CtP g yX7_see cX7_see 1 (some .int) 1 [.ref o] I r (pX7_see o n_o I r) := by
  refine CtP.mk (lv := [(0, .ref o)]) (by decide) (Nat.le_of_ble_eq_true rfl) rfl (fun x Q h hr => ?_)
  unfold pX7_see
  refine v_aload_n (pc := 0) h dX7_see_0 0 rfl rfl ?_
  refine v_geti (pc := 1) h dX7_see_1 fX7_26 rfl h_o.1 ?_
  refine v_aload_n (pc := 4) h dX7_see_4 0 rfl rfl ?_
  refine v_getp (pc := 5) h dX7_see_5 fX7_3 rfl h_o.1 h_o.2.1 ?_
  refine v_geti (pc := 8) h dX7_see_8 fX7_29 rfl (KpS.c h_o.2.2.1) ?_
  refine v_icmp_ge (pc := 11) (t := 33) h dX7_see_11 rfl (fun _ => ?_) (fun _ => ?_)
  · refine v_iconst (pc := 33) h dX7_see_33 (v := (-1)) rfl ?_
    exact v_iretP (pc := 34) h hr dX7_see_34
  · refine v_aload_n (pc := 14) h dX7_see_14 0 rfl rfl ?_
    refine v_getp (pc := 15) h dX7_see_15 fX7_3 rfl h_o.1 h_o.2.1 ?_
    refine v_getp (pc := 18) h dX7_see_18 fX7_32 rfl (KpS.c h_o.2.2.1) (KpS.tape h_o.2.2.1).1 ?_
    refine v_aload_n (pc := 21) h dX7_see_21 0 rfl rfl ?_
    refine v_geti (pc := 22) h dX7_see_22 fX7_26 rfl h_o.1 ?_
    refine v_bald (pc := 25) h dX7_see_25 (KpS.tape h_o.2.2.1).2.1 (KpS.tape h_o.2.2.1).2.2 ?_
    refine v_sipush (pc := 26) h dX7_see_26 (v := 255) rfl ?_
    refine v_iand (pc := 29) h dX7_see_29 ?_
    refine v_goto (pc := 30) (t := 34) h dX7_see_30 rfl ?_
    exact v_iretP (pc := 34) h hr dX7_see_34
set_option maxHeartbeats 4000000 in
theorem tX7_isLetter {g : Gl}  (o : Nat) (n_o : Nat) (I : MI) (r : Rh) (h_o : RdS o n_o r) : CtP g yX7_isLetter cX7_isLetter 1 (some .boolean) 2 [.ref o] I r (pX7_isLetter o n_o I r) := by
  refine CtP.mk (lv := [(0, .ref o)]) (by decide) (Nat.le_of_ble_eq_true rfl) rfl (fun x Q h hr => ?_)
  unfold pX7_isLetter
  refine v_aload_n (pc := 0) h dX7_isLetter_0 0 rfl rfl ?_
  refine v_callP (pc := 1) h dX7_isLetter_1 kX7_36 rfl h_o.1 (tX7_see o n_o I r h_o) (by decide) rfl rfl (Nat.le_of_ble_eq_true rfl) ⟨Nat.zero_le _, Nat.zero_le _⟩ (fun r1 => ?_)
  refine v_bipush (pc := 4) h dX7_isLetter_4 (v := 97) rfl ?_
  refine v_bipush (pc := 6) h dX7_isLetter_6 (v := 122) rfl ?_
  refine v_callsp (pc := 8) h dX7_isLetter_8 sX7_40 (tX0_isIn r1 (97 : Int32) (122 : Int32) I r ) (by decide) rfl rfl (Nat.le_of_ble_eq_true rfl) ⟨Nat.zero_le _, Nat.zero_le _⟩ (fun r2 => ?_)
  refine v_jn0 (V g x 1 (0, 0) 28 [] [] I r) (fun k3 hk3 => ?_) ?_
  · refine v_if_ne (pc := 11) (t := 28) h dX7_isLetter_11 rfl (fun _ => ?_) (fun _ => ?_)
    · refine v_sub [] rfl ?_
      exact hk3
    · refine v_aload_n (pc := 14) h dX7_isLetter_14 0 rfl rfl ?_
      refine v_callP (pc := 15) h dX7_isLetter_15 kX7_36 rfl h_o.1 (tX7_see o n_o I r h_o) (by decide) rfl rfl (Nat.le_of_ble_eq_true rfl) ⟨Nat.zero_le _, Nat.zero_le _⟩ (fun r4 => ?_)
      refine v_bipush (pc := 18) h dX7_isLetter_18 (v := 65) rfl ?_
      refine v_bipush (pc := 20) h dX7_isLetter_20 (v := 90) rfl ?_
      refine v_callsp (pc := 22) h dX7_isLetter_22 sX7_40 (tX0_isIn r4 (65 : Int32) (90 : Int32) I r ) (by decide) rfl rfl (Nat.le_of_ble_eq_true rfl) ⟨Nat.zero_le _, Nat.zero_le _⟩ (fun r5 => ?_)
      refine v_if_eq (pc := 25) (t := 32) h dX7_isLetter_25 rfl (fun _ => ?_) (fun _ => ?_)
      · refine v_iconst (pc := 32) h dX7_isLetter_32 (v := 0) rfl ?_
        exact v_zretP (pc := 33) h hr (Or.inl rfl) dX7_isLetter_33
      · refine v_sub [] rfl ?_
        exact hk3
  · refine v_iconst (pc := 28) h dX7_isLetter_28 (v := 1) rfl ?_
    refine v_goto (pc := 29) (t := 33) h dX7_isLetter_29 rfl ?_
    exact v_zretP (pc := 33) h hr (Or.inr rfl) dX7_isLetter_33
set_option maxHeartbeats 4000000 in
theorem tX7_isDigit {g : Gl}  (o : Nat) (n_o : Nat) (I : MI) (r : Rh) (h_o : RdS o n_o r) : CtP g yX7_isDigit cX7_isDigit 1 (some .boolean) 2 [.ref o] I r (pX7_isDigit o n_o I r) := by
  refine CtP.mk (lv := [(0, .ref o)]) (by decide) (Nat.le_of_ble_eq_true rfl) rfl (fun x Q h hr => ?_)
  unfold pX7_isDigit
  refine v_aload_n (pc := 0) h dX7_isDigit_0 0 rfl rfl ?_
  refine v_callP (pc := 1) h dX7_isDigit_1 kX7_36 rfl h_o.1 (tX7_see o n_o I r h_o) (by decide) rfl rfl (Nat.le_of_ble_eq_true rfl) ⟨Nat.zero_le _, Nat.zero_le _⟩ (fun r1 => ?_)
  refine v_bipush (pc := 4) h dX7_isDigit_4 (v := 48) rfl ?_
  refine v_bipush (pc := 6) h dX7_isDigit_6 (v := 57) rfl ?_
  refine v_callsp (pc := 8) h dX7_isDigit_8 sX7_40 (tX0_isIn r1 (48 : Int32) (57 : Int32) I r ) (by decide) rfl rfl (Nat.le_of_ble_eq_true rfl) ⟨Nat.zero_le _, Nat.zero_le _⟩ (fun r2 => ?_)
  exact v_zretPE (pc := 11) h hr dX7_isDigit_11
set_option maxHeartbeats 4000000 in
theorem tX7_is {g : Gl} {i_a1 k_a1 : Nat} {t_a1 : String} (o : Nat) (n_o : Nat) (a1 : List Int32) (I : MI) (r : Rh) (h_o : RdS o n_o r) (h_a1 : strT[i_a1]? = some (k_a1, t_a1, a1)) : CtP g yX7_is cX7_is 4 (some .boolean) 5 [.ref o, .ref (gX g (10 + i_a1))] I r (pX7_is o n_o a1 I r) := by
  refine CtP.mk (lv := [(0, .ref o), (1, .ref (gX g (10 + i_a1)))]) (by decide) (Nat.le_of_ble_eq_true rfl) rfl (fun x Q h hr => ?_)
  unfold pX7_is
  refine v_aload_n (pc := 0) h dX7_is_0 0 rfl rfl ?_
  refine v_geti (pc := 1) h dX7_is_1 fX7_26 rfl h_o.1 ?_
  refine v_aload_n (pc := 4) h dX7_is_4 0 rfl rfl ?_
  refine v_geti (pc := 5) h dX7_is_5 fX7_44 rfl h_o.1 ?_
  refine v_isub (pc := 8) h dX7_is_8 ?_
  refine v_aload_n (pc := 9) h dX7_is_9 1 rfl rfl ?_
  refine v_slen (pc := 10) h h_a1 dX7_is_10 (by decide) (Nat.le_of_ble_eq_true rfl) ⟨Nat.zero_le _, Nat.zero_le _⟩ ?_
  refine v_jn1 (fun t1 => V g x 4 (0, 0) 21 [(0, .ref o), (1, .ref (gX g (10 + i_a1)))] [.int t1] I r) (fun k2 hk2 => ?_) (fun t1 => ?_)
  · refine v_icmp_ne (pc := 13) (t := 20) h dX7_is_13 rfl (fun _ => ?_) (fun _ => ?_)
    · refine v_iconst (pc := 20) h dX7_is_20 (v := 0) rfl ?_
      exact hk2 (0 : Int32)
    · refine v_iconst (pc := 16) h dX7_is_16 (v := 1) rfl ?_
      refine v_goto (pc := 17) (t := 21) h dX7_is_17 rfl ?_
      exact hk2 (1 : Int32)
  · refine v_istore_n (pc := 21) h dX7_is_21 rfl (by decide) (lv' := [(2, .int t1), (0, .ref o), (1, .ref (gX g (10 + i_a1)))]) rfl ?_
    refine v_iconst (pc := 22) h dX7_is_22 (v := 0) rfl ?_
    refine v_istore_n (pc := 23) h dX7_is_23 rfl (by decide) (lv' := [(3, .int (0 : Int32)), (2, .int t1), (0, .ref o), (1, .ref (gX g (10 + i_a1)))]) rfl ?_
    refine v_sub [2, 3, 1, 0] rfl ?_
    refine L2.run (lv := fun i2_3 i3_4 => [(0, .ref o), (1, .ref (gX g (10 + i_a1))), (2, .int i2_3), (3, .int i3_4)]) (st := fun i2_3 i3_4 => []) (Im := fun i2_3 i3_4 => I) (r := fun i2_3 i3_4 => r) (fun X5 hX5 i2_3 i3_4 => ?_) t1 (0 : Int32)
    refine v_iload_n (pc := 24) h dX7_is_24 3 rfl rfl ?_
    refine v_aload_n (pc := 25) h dX7_is_25 1 rfl rfl ?_
    refine v_slen (pc := 26) h h_a1 dX7_is_26 (by decide) (Nat.le_of_ble_eq_true rfl) ⟨Nat.zero_le _, Nat.zero_le _⟩ ?_
    refine v_jn0 (V g x 4 (0, 0) 70 [(2, .int i2_3)] [] I r) (fun k6 hk6 => ?_) ?_
    · refine v_icmp_ge (pc := 29) (t := 70) h dX7_is_29 rfl (fun _ => ?_) (fun _ => ?_)
      · refine v_sub [2] rfl ?_
        exact hk6
      · refine v_iload_n (pc := 32) h dX7_is_32 2 rfl rfl ?_
        refine v_if_eq (pc := 33) (t := 70) h dX7_is_33 rfl (fun _ => ?_) (fun _ => ?_)
        · refine v_sub [2] rfl ?_
          exact hk6
        · refine v_aload_n (pc := 36) h dX7_is_36 0 rfl rfl ?_
          refine v_getp (pc := 37) h dX7_is_37 fX7_3 rfl h_o.1 h_o.2.1 ?_
          refine v_getp (pc := 40) h dX7_is_40 fX7_32 rfl (KpS.c h_o.2.2.1) (KpS.tape h_o.2.2.1).1 ?_
          refine v_aload_n (pc := 43) h dX7_is_43 0 rfl rfl ?_
          refine v_geti (pc := 44) h dX7_is_44 fX7_44 rfl h_o.1 ?_
          refine v_iload_n (pc := 47) h dX7_is_47 3 rfl rfl ?_
          refine v_iadd (pc := 48) h dX7_is_48 ?_
          refine v_bald (pc := 49) h dX7_is_49 (KpS.tape h_o.2.2.1).2.1 (KpS.tape h_o.2.2.1).2.2 ?_
          refine v_aload_n (pc := 50) h dX7_is_50 1 rfl rfl ?_
          refine v_iload_n (pc := 51) h dX7_is_51 3 rfl rfl ?_
          refine v_schr (pc := 52) h h_a1 dX7_is_52 (by decide) (Nat.le_of_ble_eq_true rfl) ⟨Nat.zero_le _, Nat.zero_le _⟩ ?_
          refine v_jn1 (fun t7 => V g x 4 (0, 0) 63 [(0, .ref o), (1, .ref (gX g (10 + i_a1))), (3, .int i3_4)] [.int t7] I r) (fun k8 hk8 => ?_) (fun t7 => ?_)
          · refine v_icmp_ne (pc := 55) (t := 62) h dX7_is_55 rfl (fun _ => ?_) (fun _ => ?_)
            · refine v_iconst (pc := 62) h dX7_is_62 (v := 0) rfl ?_
              refine v_sub [0, 1, 3] rfl ?_
              exact hk8 (0 : Int32)
            · refine v_iconst (pc := 58) h dX7_is_58 (v := 1) rfl ?_
              refine v_goto (pc := 59) (t := 63) h dX7_is_59 rfl ?_
              refine v_sub [0, 1, 3] rfl ?_
              exact hk8 (1 : Int32)
          · refine v_istore_n (pc := 63) h dX7_is_63 rfl (by decide) (lv' := [(2, .int t7), (0, .ref o), (1, .ref (gX g (10 + i_a1))), (3, .int i3_4)]) rfl ?_
            refine v_iinc (pc := 64) h dX7_is_64 3 rfl (w := (i3_4 + (1 : Int32))) rfl (by decide) (lv' := [(3, .int (i3_4 + (1 : Int32))), (2, .int t7), (0, .ref o), (1, .ref (gX g (10 + i_a1)))]) rfl ?_
            refine v_goto (pc := 67) (t := 24) h dX7_is_67 rfl ?_
            refine v_sub [2, 3, 1, 0] rfl ?_
            exact hX5 t7 (i3_4 + (1 : Int32))
    · refine v_iload_n (pc := 70) h dX7_is_70 0 rfl rfl ?_
      exact v_zretPE (pc := 71) h hr dX7_is_71
set_option maxHeartbeats 4000000 in
theorem tX7_asked {g : Gl}  (o : Nat) (n_o : Nat) (I : MI) (r : Rh) (h_o : RdS o n_o r) : CtP g yX7_asked cX7_asked 1 (some .int) 6 [.ref o] I r (pX7_asked o n_o I r) := by
  refine CtP.mk (lv := [(0, .ref o)]) (by decide) (Nat.le_of_ble_eq_true rfl) rfl (fun x Q h hr => ?_)
  unfold pX7_asked
  refine v_aload_n (pc := 0) h dX7_asked_0 0 rfl rfl ?_
  refine v_ldcS (pc := 1) h (show strT[0]? = some (56, "kind", [107, 105, 110, 100]) from rfl) dX7_asked_1 ?_
  refine v_callP (pc := 3) h dX7_asked_3 kX7_58 rfl h_o.1 (tX7_is o n_o [107, 105, 110, 100] I r h_o (show strT[0]? = some (56, "kind", [107, 105, 110, 100]) from rfl)) (by decide) rfl rfl (Nat.le_of_ble_eq_true rfl) ⟨Nat.zero_le _, Nat.zero_le _⟩ (fun r1 => ?_)
  refine v_if_eq (pc := 6) (t := 13) h dX7_asked_6 rfl (fun _ => ?_) (fun _ => ?_)
  · refine v_aload_n (pc := 13) h dX7_asked_13 0 rfl rfl ?_
    refine v_ldcS (pc := 14) h (show strT[1]? = some (62, "much", [109, 117, 99, 104]) from rfl) dX7_asked_14 ?_
    refine v_callP (pc := 16) h dX7_asked_16 kX7_58 rfl h_o.1 (tX7_is o n_o [109, 117, 99, 104] I r h_o (show strT[1]? = some (62, "much", [109, 117, 99, 104]) from rfl)) (by decide) rfl rfl (Nat.le_of_ble_eq_true rfl) ⟨Nat.zero_le _, Nat.zero_le _⟩ (fun r2 => ?_)
    refine v_if_eq (pc := 19) (t := 26) h dX7_asked_19 rfl (fun _ => ?_) (fun _ => ?_)
    · refine v_aload_n (pc := 26) h dX7_asked_26 0 rfl rfl ?_
      refine v_ldcS (pc := 27) h (show strT[2]? = some (64, "age", [97, 103, 101]) from rfl) dX7_asked_27 ?_
      refine v_callP (pc := 29) h dX7_asked_29 kX7_58 rfl h_o.1 (tX7_is o n_o [97, 103, 101] I r h_o (show strT[2]? = some (64, "age", [97, 103, 101]) from rfl)) (by decide) rfl rfl (Nat.le_of_ble_eq_true rfl) ⟨Nat.zero_le _, Nat.zero_le _⟩ (fun r3 => ?_)
      refine v_if_eq (pc := 32) (t := 39) h dX7_asked_32 rfl (fun _ => ?_) (fun _ => ?_)
      · refine v_aload_n (pc := 39) h dX7_asked_39 0 rfl rfl ?_
        refine v_ldcS (pc := 40) h (show strT[3]? = some (66, "face", [102, 97, 99, 101]) from rfl) dX7_asked_40 ?_
        refine v_callP (pc := 42) h dX7_asked_42 kX7_58 rfl h_o.1 (tX7_is o n_o [102, 97, 99, 101] I r h_o (show strT[3]? = some (66, "face", [102, 97, 99, 101]) from rfl)) (by decide) rfl rfl (Nat.le_of_ble_eq_true rfl) ⟨Nat.zero_le _, Nat.zero_le _⟩ (fun r4 => ?_)
        refine v_if_eq (pc := 45) (t := 52) h dX7_asked_45 rfl (fun _ => ?_) (fun _ => ?_)
        · refine v_aload_n (pc := 52) h dX7_asked_52 0 rfl rfl ?_
          refine v_ldcS (pc := 53) h (show strT[4]? = some (68, "love", [108, 111, 118, 101]) from rfl) dX7_asked_53 ?_
          refine v_callP (pc := 55) h dX7_asked_55 kX7_58 rfl h_o.1 (tX7_is o n_o [108, 111, 118, 101] I r h_o (show strT[4]? = some (68, "love", [108, 111, 118, 101]) from rfl)) (by decide) rfl rfl (Nat.le_of_ble_eq_true rfl) ⟨Nat.zero_le _, Nat.zero_le _⟩ (fun r5 => ?_)
          refine v_if_eq (pc := 58) (t := 65) h dX7_asked_58 rfl (fun _ => ?_) (fun _ => ?_)
          · refine v_aload_n (pc := 65) h dX7_asked_65 0 rfl rfl ?_
            refine v_ldcS (pc := 66) h (show strT[5]? = some (70, "purse", [112, 117, 114, 115, 101]) from rfl) dX7_asked_66 ?_
            refine v_callP (pc := 68) h dX7_asked_68 kX7_58 rfl h_o.1 (tX7_is o n_o [112, 117, 114, 115, 101] I r h_o (show strT[5]? = some (70, "purse", [112, 117, 114, 115, 101]) from rfl)) (by decide) rfl rfl (Nat.le_of_ble_eq_true rfl) ⟨Nat.zero_le _, Nat.zero_le _⟩ (fun r6 => ?_)
            refine v_if_eq (pc := 71) (t := 78) h dX7_asked_71 rfl (fun _ => ?_) (fun _ => ?_)
            · refine v_aload_n (pc := 78) h dX7_asked_78 0 rfl rfl ?_
              refine v_ldcS (pc := 79) h (show strT[6]? = some (72, "health", [104, 101, 97, 108, 116, 104]) from rfl) dX7_asked_79 ?_
              refine v_callP (pc := 81) h dX7_asked_81 kX7_58 rfl h_o.1 (tX7_is o n_o [104, 101, 97, 108, 116, 104] I r h_o (show strT[6]? = some (72, "health", [104, 101, 97, 108, 116, 104]) from rfl)) (by decide) rfl rfl (Nat.le_of_ble_eq_true rfl) ⟨Nat.zero_le _, Nat.zero_le _⟩ (fun r7 => ?_)
              refine v_if_eq (pc := 84) (t := 91) h dX7_asked_84 rfl (fun _ => ?_) (fun _ => ?_)
              · refine v_aload_n (pc := 91) h dX7_asked_91 0 rfl rfl ?_
                refine v_ldcS (pc := 92) h (show strT[7]? = some (74, "hunger", [104, 117, 110, 103, 101, 114]) from rfl) dX7_asked_92 ?_
                refine v_callP (pc := 94) h dX7_asked_94 kX7_58 rfl h_o.1 (tX7_is o n_o [104, 117, 110, 103, 101, 114] I r h_o (show strT[7]? = some (74, "hunger", [104, 117, 110, 103, 101, 114]) from rfl)) (by decide) rfl rfl (Nat.le_of_ble_eq_true rfl) ⟨Nat.zero_le _, Nat.zero_le _⟩ (fun r8 => ?_)
                refine v_if_eq (pc := 97) (t := 104) h dX7_asked_97 rfl (fun _ => ?_) (fun _ => ?_)
                · refine v_aload_n (pc := 104) h dX7_asked_104 0 rfl rfl ?_
                  refine v_ldcS (pc := 105) h (show strT[8]? = some (76, "hour", [104, 111, 117, 114]) from rfl) dX7_asked_105 ?_
                  refine v_callP (pc := 107) h dX7_asked_107 kX7_58 rfl h_o.1 (tX7_is o n_o [104, 111, 117, 114] I r h_o (show strT[8]? = some (76, "hour", [104, 111, 117, 114]) from rfl)) (by decide) rfl rfl (Nat.le_of_ble_eq_true rfl) ⟨Nat.zero_le _, Nat.zero_le _⟩ (fun r9 => ?_)
                  refine v_if_eq (pc := 110) (t := 117) h dX7_asked_110 rfl (fun _ => ?_) (fun _ => ?_)
                  · refine v_aload_n (pc := 117) h dX7_asked_117 0 rfl rfl ?_
                    refine v_ldcS (pc := 118) h (show strT[9]? = some (78, "rain", [114, 97, 105, 110]) from rfl) dX7_asked_118 ?_
                    refine v_callP (pc := 120) h dX7_asked_120 kX7_58 rfl h_o.1 (tX7_is o n_o [114, 97, 105, 110] I r h_o (show strT[9]? = some (78, "rain", [114, 97, 105, 110]) from rfl)) (by decide) rfl rfl (Nat.le_of_ble_eq_true rfl) ⟨Nat.zero_le _, Nat.zero_le _⟩ (fun r10 => ?_)
                    refine v_if_eq (pc := 123) (t := 130) h dX7_asked_123 rfl (fun _ => ?_) (fun _ => ?_)
                    · refine v_aload_n (pc := 130) h dX7_asked_130 0 rfl rfl ?_
                      refine v_ldcS (pc := 131) h (show strT[10]? = some (80, "day", [100, 97, 121]) from rfl) dX7_asked_131 ?_
                      refine v_callP (pc := 133) h dX7_asked_133 kX7_58 rfl h_o.1 (tX7_is o n_o [100, 97, 121] I r h_o (show strT[10]? = some (80, "day", [100, 97, 121]) from rfl)) (by decide) rfl rfl (Nat.le_of_ble_eq_true rfl) ⟨Nat.zero_le _, Nat.zero_le _⟩ (fun r11 => ?_)
                      refine v_if_eq (pc := 136) (t := 145) h dX7_asked_136 rfl (fun _ => ?_) (fun _ => ?_)
                      · refine v_iconst (pc := 145) h dX7_asked_145 (v := 1) rfl ?_
                        exact v_iretP (pc := 146) h hr dX7_asked_146
                      · refine v_sipush (pc := 139) h dX7_asked_139 (v := 190) rfl ?_
                        refine v_goto (pc := 142) (t := 146) h dX7_asked_142 rfl ?_
                        exact v_iretP (pc := 146) h hr dX7_asked_146
                    · refine v_sipush (pc := 126) h dX7_asked_126 (v := 189) rfl ?_
                      exact v_iretP (pc := 129) h hr dX7_asked_129
                  · refine v_sipush (pc := 113) h dX7_asked_113 (v := 188) rfl ?_
                    exact v_iretP (pc := 116) h hr dX7_asked_116
                · refine v_sipush (pc := 100) h dX7_asked_100 (v := 187) rfl ?_
                  exact v_iretP (pc := 103) h hr dX7_asked_103
              · refine v_sipush (pc := 87) h dX7_asked_87 (v := 186) rfl ?_
                exact v_iretP (pc := 90) h hr dX7_asked_90
            · refine v_sipush (pc := 74) h dX7_asked_74 (v := 185) rfl ?_
              exact v_iretP (pc := 77) h hr dX7_asked_77
          · refine v_sipush (pc := 61) h dX7_asked_61 (v := 184) rfl ?_
            exact v_iretP (pc := 64) h hr dX7_asked_64
        · refine v_sipush (pc := 48) h dX7_asked_48 (v := 183) rfl ?_
          exact v_iretP (pc := 51) h hr dX7_asked_51
      · refine v_sipush (pc := 35) h dX7_asked_35 (v := 182) rfl ?_
        exact v_iretP (pc := 38) h hr dX7_asked_38
    · refine v_sipush (pc := 22) h dX7_asked_22 (v := 181) rfl ?_
      exact v_iretP (pc := 25) h hr dX7_asked_25
  · refine v_sipush (pc := 9) h dX7_asked_9 (v := 180) rfl ?_
    exact v_iretP (pc := 12) h hr dX7_asked_12
set_option maxHeartbeats 4000000 in
theorem tX7_lawWord {g : Gl}  (o : Nat) (n_o : Nat) (I : MI) (r : Rh) (h_o : RdS o n_o r) : CtP g yX7_lawWord cX7_lawWord 1 (some .int) 7 [.ref o] I r (pX7_lawWord o n_o I r) := by
  refine CtP.mk (lv := [(0, .ref o)]) (by decide) (Nat.le_of_ble_eq_true rfl) rfl (fun x Q h hr => ?_)
  unfold pX7_lawWord
  refine v_aload_n (pc := 0) h dX7_lawWord_0 0 rfl rfl ?_
  refine v_ldcS (pc := 1) h (show strT[11]? = some (82, "when", [119, 104, 101, 110]) from rfl) dX7_lawWord_1 ?_
  refine v_callP (pc := 3) h dX7_lawWord_3 kX7_58 rfl h_o.1 (tX7_is o n_o [119, 104, 101, 110] I r h_o (show strT[11]? = some (82, "when", [119, 104, 101, 110]) from rfl)) (by decide) rfl rfl (Nat.le_of_ble_eq_true rfl) ⟨Nat.zero_le _, Nat.zero_le _⟩ (fun r1 => ?_)
  refine v_if_eq (pc := 6) (t := 11) h dX7_lawWord_6 rfl (fun _ => ?_) (fun _ => ?_)
  · refine v_aload_n (pc := 11) h dX7_lawWord_11 0 rfl rfl ?_
    refine v_ldcS (pc := 12) h (show strT[12]? = some (84, "or", [111, 114]) from rfl) dX7_lawWord_12 ?_
    refine v_callP (pc := 14) h dX7_lawWord_14 kX7_58 rfl h_o.1 (tX7_is o n_o [111, 114] I r h_o (show strT[12]? = some (84, "or", [111, 114]) from rfl)) (by decide) rfl rfl (Nat.le_of_ble_eq_true rfl) ⟨Nat.zero_le _, Nat.zero_le _⟩ (fun r2 => ?_)
    refine v_if_eq (pc := 17) (t := 22) h dX7_lawWord_17 rfl (fun _ => ?_) (fun _ => ?_)
    · refine v_aload_n (pc := 22) h dX7_lawWord_22 0 rfl rfl ?_
      refine v_ldcS (pc := 23) h (show strT[13]? = some (86, "and", [97, 110, 100]) from rfl) dX7_lawWord_23 ?_
      refine v_callP (pc := 25) h dX7_lawWord_25 kX7_58 rfl h_o.1 (tX7_is o n_o [97, 110, 100] I r h_o (show strT[13]? = some (86, "and", [97, 110, 100]) from rfl)) (by decide) rfl rfl (Nat.le_of_ble_eq_true rfl) ⟨Nat.zero_le _, Nat.zero_le _⟩ (fun r3 => ?_)
      refine v_if_eq (pc := 28) (t := 33) h dX7_lawWord_28 rfl (fun _ => ?_) (fun _ => ?_)
      · refine v_aload_n (pc := 33) h dX7_lawWord_33 0 rfl rfl ?_
        refine v_ldcS (pc := 34) h (show strT[14]? = some (88, "not", [110, 111, 116]) from rfl) dX7_lawWord_34 ?_
        refine v_callP (pc := 36) h dX7_lawWord_36 kX7_58 rfl h_o.1 (tX7_is o n_o [110, 111, 116] I r h_o (show strT[14]? = some (88, "not", [110, 111, 116]) from rfl)) (by decide) rfl rfl (Nat.le_of_ble_eq_true rfl) ⟨Nat.zero_le _, Nat.zero_le _⟩ (fun r4 => ?_)
        refine v_if_eq (pc := 39) (t := 45) h dX7_lawWord_39 rfl (fun _ => ?_) (fun _ => ?_)
        · refine v_aload_n (pc := 45) h dX7_lawWord_45 0 rfl rfl ?_
          refine v_ldcS (pc := 46) h (show strT[15]? = some (90, "opens", [111, 112, 101, 110, 115]) from rfl) dX7_lawWord_46 ?_
          refine v_callP (pc := 48) h dX7_lawWord_48 kX7_58 rfl h_o.1 (tX7_is o n_o [111, 112, 101, 110, 115] I r h_o (show strT[15]? = some (90, "opens", [111, 112, 101, 110, 115]) from rfl)) (by decide) rfl rfl (Nat.le_of_ble_eq_true rfl) ⟨Nat.zero_le _, Nat.zero_le _⟩ (fun r5 => ?_)
          refine v_if_eq (pc := 51) (t := 57) h dX7_lawWord_51 rfl (fun _ => ?_) (fun _ => ?_)
          · refine v_aload_n (pc := 57) h dX7_lawWord_57 0 rfl rfl ?_
            refine v_ldcS (pc := 58) h (show strT[16]? = some (92, "gives", [103, 105, 118, 101, 115]) from rfl) dX7_lawWord_58 ?_
            refine v_callP (pc := 60) h dX7_lawWord_60 kX7_58 rfl h_o.1 (tX7_is o n_o [103, 105, 118, 101, 115] I r h_o (show strT[16]? = some (92, "gives", [103, 105, 118, 101, 115]) from rfl)) (by decide) rfl rfl (Nat.le_of_ble_eq_true rfl) ⟨Nat.zero_le _, Nat.zero_le _⟩ (fun r6 => ?_)
            refine v_if_eq (pc := 63) (t := 69) h dX7_lawWord_63 rfl (fun _ => ?_) (fun _ => ?_)
            · refine v_aload_n (pc := 69) h dX7_lawWord_69 0 rfl rfl ?_
              refine v_ldcS (pc := 70) h (show strT[17]? = some (94, "tires", [116, 105, 114, 101, 115]) from rfl) dX7_lawWord_70 ?_
              refine v_callP (pc := 72) h dX7_lawWord_72 kX7_58 rfl h_o.1 (tX7_is o n_o [116, 105, 114, 101, 115] I r h_o (show strT[17]? = some (94, "tires", [116, 105, 114, 101, 115]) from rfl)) (by decide) rfl rfl (Nat.le_of_ble_eq_true rfl) ⟨Nat.zero_le _, Nat.zero_le _⟩ (fun r7 => ?_)
              refine v_if_eq (pc := 75) (t := 83) h dX7_lawWord_75 rfl (fun _ => ?_) (fun _ => ?_)
              · refine v_aload_n (pc := 83) h dX7_lawWord_83 0 rfl rfl ?_
                refine v_callP (pc := 84) h dX7_lawWord_84 kX7_96 rfl h_o.1 (tX7_asked o n_o I r h_o) (by decide) rfl rfl (Nat.le_of_ble_eq_true rfl) ⟨Nat.zero_le _, Nat.zero_le _⟩ (fun r8 => ?_)
                exact v_iretP (pc := 87) h hr dX7_lawWord_87
              · refine v_bipush (pc := 78) h dX7_lawWord_78 (v := 9) rfl ?_
                refine v_goto (pc := 80) (t := 87) h dX7_lawWord_80 rfl ?_
                exact v_iretP (pc := 87) h hr dX7_lawWord_87
            · refine v_bipush (pc := 66) h dX7_lawWord_66 (v := 8) rfl ?_
              exact v_iretP (pc := 68) h hr dX7_lawWord_68
          · refine v_bipush (pc := 54) h dX7_lawWord_54 (v := 7) rfl ?_
            exact v_iretP (pc := 56) h hr dX7_lawWord_56
        · refine v_bipush (pc := 42) h dX7_lawWord_42 (v := 6) rfl ?_
          exact v_iretP (pc := 44) h hr dX7_lawWord_44
      · refine v_iconst (pc := 31) h dX7_lawWord_31 (v := 5) rfl ?_
        exact v_iretP (pc := 32) h hr dX7_lawWord_32
    · refine v_iconst (pc := 20) h dX7_lawWord_20 (v := 4) rfl ?_
      exact v_iretP (pc := 21) h hr dX7_lawWord_21
  · refine v_iconst (pc := 9) h dX7_lawWord_9 (v := 3) rfl ?_
    exact v_iretP (pc := 10) h hr dX7_lawWord_10
set_option maxHeartbeats 4000000 in
theorem tX7_postWord {g : Gl}  (o : Nat) (n_o : Nat) (I : MI) (r : Rh) (h_o : RdS o n_o r) : CtP g yX7_postWord cX7_postWord 1 (some .int) 6 [.ref o] I r (pX7_postWord o n_o I r) := by
  refine CtP.mk (lv := [(0, .ref o)]) (by decide) (Nat.le_of_ble_eq_true rfl) rfl (fun x Q h hr => ?_)
  unfold pX7_postWord
  refine v_aload_n (pc := 0) h dX7_postWord_0 0 rfl rfl ?_
  refine v_ldcS (pc := 1) h (show strT[18]? = some (99, "on", [111, 110]) from rfl) dX7_postWord_1 ?_
  refine v_callP (pc := 3) h dX7_postWord_3 kX7_58 rfl h_o.1 (tX7_is o n_o [111, 110] I r h_o (show strT[18]? = some (99, "on", [111, 110]) from rfl)) (by decide) rfl rfl (Nat.le_of_ble_eq_true rfl) ⟨Nat.zero_le _, Nat.zero_le _⟩ (fun r1 => ?_)
  refine v_if_eq (pc := 6) (t := 12) h dX7_postWord_6 rfl (fun _ => ?_) (fun _ => ?_)
  · refine v_aload_n (pc := 12) h dX7_postWord_12 0 rfl rfl ?_
    refine v_ldcS (pc := 13) h (show strT[19]? = some (101, "to", [116, 111]) from rfl) dX7_postWord_13 ?_
    refine v_callP (pc := 15) h dX7_postWord_15 kX7_58 rfl h_o.1 (tX7_is o n_o [116, 111] I r h_o (show strT[19]? = some (101, "to", [116, 111]) from rfl)) (by decide) rfl rfl (Nat.le_of_ble_eq_true rfl) ⟨Nat.zero_le _, Nat.zero_le _⟩ (fun r2 => ?_)
    refine v_if_eq (pc := 18) (t := 24) h dX7_postWord_18 rfl (fun _ => ?_) (fun _ => ?_)
    · refine v_aload_n (pc := 24) h dX7_postWord_24 0 rfl rfl ?_
      refine v_ldcS (pc := 25) h (show strT[20]? = some (103, "news", [110, 101, 119, 115]) from rfl) dX7_postWord_25 ?_
      refine v_callP (pc := 27) h dX7_postWord_27 kX7_58 rfl h_o.1 (tX7_is o n_o [110, 101, 119, 115] I r h_o (show strT[20]? = some (103, "news", [110, 101, 119, 115]) from rfl)) (by decide) rfl rfl (Nat.le_of_ble_eq_true rfl) ⟨Nat.zero_le _, Nat.zero_le _⟩ (fun r3 => ?_)
      refine v_if_eq (pc := 30) (t := 36) h dX7_postWord_30 rfl (fun _ => ?_) (fun _ => ?_)
      · refine v_aload_n (pc := 36) h dX7_postWord_36 0 rfl rfl ?_
        refine v_ldcS (pc := 37) h (show strT[21]? = some (105, "bill", [98, 105, 108, 108]) from rfl) dX7_postWord_37 ?_
        refine v_callP (pc := 39) h dX7_postWord_39 kX7_58 rfl h_o.1 (tX7_is o n_o [98, 105, 108, 108] I r h_o (show strT[21]? = some (105, "bill", [98, 105, 108, 108]) from rfl)) (by decide) rfl rfl (Nat.le_of_ble_eq_true rfl) ⟨Nat.zero_le _, Nat.zero_le _⟩ (fun r4 => ?_)
        refine v_if_eq (pc := 42) (t := 48) h dX7_postWord_42 rfl (fun _ => ?_) (fun _ => ?_)
        · refine v_aload_n (pc := 48) h dX7_postWord_48 0 rfl rfl ?_
          refine v_ldcS (pc := 49) h (show strT[22]? = some (107, "kiss", [107, 105, 115, 115]) from rfl) dX7_postWord_49 ?_
          refine v_callP (pc := 51) h dX7_postWord_51 kX7_58 rfl h_o.1 (tX7_is o n_o [107, 105, 115, 115] I r h_o (show strT[22]? = some (107, "kiss", [107, 105, 115, 115]) from rfl)) (by decide) rfl rfl (Nat.le_of_ble_eq_true rfl) ⟨Nat.zero_le _, Nat.zero_le _⟩ (fun r5 => ?_)
          refine v_if_eq (pc := 54) (t := 60) h dX7_postWord_54 rfl (fun _ => ?_) (fun _ => ?_)
          · refine v_aload_n (pc := 60) h dX7_postWord_60 0 rfl rfl ?_
            refine v_ldcS (pc := 61) h (show strT[23]? = some (109, "anger", [97, 110, 103, 101, 114]) from rfl) dX7_postWord_61 ?_
            refine v_callP (pc := 63) h dX7_postWord_63 kX7_58 rfl h_o.1 (tX7_is o n_o [97, 110, 103, 101, 114] I r h_o (show strT[23]? = some (109, "anger", [97, 110, 103, 101, 114]) from rfl)) (by decide) rfl rfl (Nat.le_of_ble_eq_true rfl) ⟨Nat.zero_le _, Nat.zero_le _⟩ (fun r6 => ?_)
            refine v_if_eq (pc := 66) (t := 72) h dX7_postWord_66 rfl (fun _ => ?_) (fun _ => ?_)
            · refine v_aload_n (pc := 72) h dX7_postWord_72 0 rfl rfl ?_
              refine v_ldcS (pc := 73) h (show strT[24]? = some (111, "invitation", [105, 110, 118, 105, 116, 97, 116, 105, 111, 110]) from rfl) dX7_postWord_73 ?_
              refine v_callP (pc := 75) h dX7_postWord_75 kX7_58 rfl h_o.1 (tX7_is o n_o [105, 110, 118, 105, 116, 97, 116, 105, 111, 110] I r h_o (show strT[24]? = some (111, "invitation", [105, 110, 118, 105, 116, 97, 116, 105, 111, 110]) from rfl)) (by decide) rfl rfl (Nat.le_of_ble_eq_true rfl) ⟨Nat.zero_le _, Nat.zero_le _⟩ (fun r7 => ?_)
              refine v_if_eq (pc := 78) (t := 84) h dX7_postWord_78 rfl (fun _ => ?_) (fun _ => ?_)
              · refine v_aload_n (pc := 84) h dX7_postWord_84 0 rfl rfl ?_
                refine v_ldcS (pc := 85) h (show strT[25]? = some (113, "text", [116, 101, 120, 116]) from rfl) dX7_postWord_85 ?_
                refine v_callP (pc := 87) h dX7_postWord_87 kX7_58 rfl h_o.1 (tX7_is o n_o [116, 101, 120, 116] I r h_o (show strT[25]? = some (113, "text", [116, 101, 120, 116]) from rfl)) (by decide) rfl rfl (Nat.le_of_ble_eq_true rfl) ⟨Nat.zero_le _, Nat.zero_le _⟩ (fun r8 => ?_)
                refine v_if_eq (pc := 90) (t := 96) h dX7_postWord_90 rfl (fun _ => ?_) (fun _ => ?_)
                · refine v_aload_n (pc := 96) h dX7_postWord_96 0 rfl rfl ?_
                  refine v_ldcS (pc := 97) h (show strT[26]? = some (115, "joke", [106, 111, 107, 101]) from rfl) dX7_postWord_97 ?_
                  refine v_callP (pc := 99) h dX7_postWord_99 kX7_58 rfl h_o.1 (tX7_is o n_o [106, 111, 107, 101] I r h_o (show strT[26]? = some (115, "joke", [106, 111, 107, 101]) from rfl)) (by decide) rfl rfl (Nat.le_of_ble_eq_true rfl) ⟨Nat.zero_le _, Nat.zero_le _⟩ (fun r9 => ?_)
                  refine v_if_eq (pc := 102) (t := 110) h dX7_postWord_102 rfl (fun _ => ?_) (fun _ => ?_)
                  · refine v_iconst (pc := 110) h dX7_postWord_110 (v := 1) rfl ?_
                    exact v_iretP (pc := 111) h hr dX7_postWord_111
                  · refine v_bipush (pc := 105) h dX7_postWord_105 (v := 26) rfl ?_
                    refine v_goto (pc := 107) (t := 111) h dX7_postWord_107 rfl ?_
                    exact v_iretP (pc := 111) h hr dX7_postWord_111
                · refine v_bipush (pc := 93) h dX7_postWord_93 (v := 25) rfl ?_
                  exact v_iretP (pc := 95) h hr dX7_postWord_95
              · refine v_bipush (pc := 81) h dX7_postWord_81 (v := 24) rfl ?_
                exact v_iretP (pc := 83) h hr dX7_postWord_83
            · refine v_bipush (pc := 69) h dX7_postWord_69 (v := 23) rfl ?_
              exact v_iretP (pc := 71) h hr dX7_postWord_71
          · refine v_bipush (pc := 57) h dX7_postWord_57 (v := 22) rfl ?_
            exact v_iretP (pc := 59) h hr dX7_postWord_59
        · refine v_bipush (pc := 45) h dX7_postWord_45 (v := 21) rfl ?_
          exact v_iretP (pc := 47) h hr dX7_postWord_47
      · refine v_bipush (pc := 33) h dX7_postWord_33 (v := 20) rfl ?_
        exact v_iretP (pc := 35) h hr dX7_postWord_35
    · refine v_bipush (pc := 21) h dX7_postWord_21 (v := 11) rfl ?_
      exact v_iretP (pc := 23) h hr dX7_postWord_23
  · refine v_bipush (pc := 9) h dX7_postWord_9 (v := 10) rfl ?_
    exact v_iretP (pc := 11) h hr dX7_postWord_11
set_option maxHeartbeats 4000000 in
theorem tX7_keyword {g : Gl}  (o : Nat) (n_o : Nat) (I : MI) (r : Rh) (h_o : RdS o n_o r) : CtP g yX7_keyword cX7_keyword 1 (some .int) 8 [.ref o] I r (pX7_keyword o n_o I r) := by
  refine CtP.mk (lv := [(0, .ref o)]) (by decide) (Nat.le_of_ble_eq_true rfl) rfl (fun x Q h hr => ?_)
  unfold pX7_keyword
  refine v_aload_n (pc := 0) h dX7_keyword_0 0 rfl rfl ?_
  refine v_geti (pc := 1) h dX7_keyword_1 fX7_22 rfl h_o.1 ?_
  refine v_ite (fun hc1 => ?_) (fun hc1 => ?_)
  · refine v_tswi (pc := 4) (t := 32) h dX7_keyword_4 (k := 0) hc1 (by decide) (by decide) rfl rfl ?_
    refine v_aload_n (pc := 32) h dX7_keyword_32 0 rfl rfl ?_
    refine v_callP (pc := 33) h dX7_keyword_33 kX7_117 rfl h_o.1 (tX7_lawWord o n_o I r h_o) (by decide) rfl rfl (Nat.le_of_ble_eq_true rfl) ⟨Nat.zero_le _, Nat.zero_le _⟩ (fun r2 => ?_)
    exact v_iretP (pc := 36) h hr dX7_keyword_36
  · refine v_ite (fun hc3 => ?_) (fun hc3 => ?_)
    · refine v_tswi (pc := 4) (t := 37) h dX7_keyword_4 (k := 1) hc3 (by decide) (by decide) rfl rfl ?_
      refine v_aload_n (pc := 37) h dX7_keyword_37 0 rfl rfl ?_
      refine v_callP (pc := 38) h dX7_keyword_38 kX7_120 rfl h_o.1 (tX7_postWord o n_o I r h_o) (by decide) rfl rfl (Nat.le_of_ble_eq_true rfl) ⟨Nat.zero_le _, Nat.zero_le _⟩ (fun r4 => ?_)
      exact v_iretP (pc := 41) h hr dX7_keyword_41
    · refine v_ite (fun hc5 => ?_) (fun hc5 => ?_)
      · refine v_tswi (pc := 4) (t := 42) h dX7_keyword_4 (k := 2) hc5 (by decide) (by decide) rfl rfl ?_
        refine v_aload_n (pc := 42) h dX7_keyword_42 0 rfl rfl ?_
        refine v_ldcS (pc := 43) h (show strT[27]? = some (123, "walk", [119, 97, 108, 107]) from rfl) dX7_keyword_43 ?_
        refine v_callP (pc := 45) h dX7_keyword_45 kX7_58 rfl h_o.1 (tX7_is o n_o [119, 97, 108, 107] I r h_o (show strT[27]? = some (123, "walk", [119, 97, 108, 107]) from rfl)) (by decide) rfl rfl (Nat.le_of_ble_eq_true rfl) ⟨Nat.zero_le _, Nat.zero_le _⟩ (fun r6 => ?_)
        refine v_if_eq (pc := 48) (t := 56) h dX7_keyword_48 rfl (fun _ => ?_) (fun _ => ?_)
        · refine v_iconst (pc := 56) h dX7_keyword_56 (v := 1) rfl ?_
          exact v_iretP (pc := 57) h hr dX7_keyword_57
        · refine v_bipush (pc := 51) h dX7_keyword_51 (v := 12) rfl ?_
          refine v_goto (pc := 53) (t := 57) h dX7_keyword_53 rfl ?_
          exact v_iretP (pc := 57) h hr dX7_keyword_57
      · refine v_tswd (pc := 4) (t := 58) h dX7_keyword_4 (by have e0 := lv_neT hc1 (show (0 : Int32).toInt = 0 from rfl); have e1 := lv_neT hc3 (show (1 : Int32).toInt = 1 from rfl); have e2 := lv_neT hc5 (show (2 : Int32).toInt = 2 from rfl); omega) rfl ?_
        refine v_aload_n (pc := 58) h dX7_keyword_58 0 rfl rfl ?_
        refine v_ldcS (pc := 59) h (show strT[28]? = some (125, "street", [115, 116, 114, 101, 101, 116]) from rfl) dX7_keyword_59 ?_
        refine v_callP (pc := 61) h dX7_keyword_61 kX7_58 rfl h_o.1 (tX7_is o n_o [115, 116, 114, 101, 101, 116] I r h_o (show strT[28]? = some (125, "street", [115, 116, 114, 101, 101, 116]) from rfl)) (by decide) rfl rfl (Nat.le_of_ble_eq_true rfl) ⟨Nat.zero_le _, Nat.zero_le _⟩ (fun r7 => ?_)
        refine v_if_eq (pc := 64) (t := 72) h dX7_keyword_64 rfl (fun _ => ?_) (fun _ => ?_)
        · refine v_iconst (pc := 72) h dX7_keyword_72 (v := 1) rfl ?_
          exact v_iretP (pc := 73) h hr dX7_keyword_73
        · refine v_bipush (pc := 67) h dX7_keyword_67 (v := 13) rfl ?_
          refine v_goto (pc := 69) (t := 73) h dX7_keyword_69 rfl ?_
          exact v_iretP (pc := 73) h hr dX7_keyword_73
set_option maxHeartbeats 4000000 in
theorem tX7_isMark {g : Gl}  (o : Nat) (n_o : Nat) (a1 : Int32) (I : MI) (r : Rh) (h_o : RdS o n_o r) : CtP g yX7_isMark cX7_isMark 2 (some .boolean) 1 [.ref o, .int a1] I r (pX7_isMark o n_o a1 I r) := by
  refine CtP.mk (lv := [(0, .ref o), (1, .int a1)]) (by decide) (Nat.le_of_ble_eq_true rfl) rfl (fun x Q h hr => ?_)
  unfold pX7_isMark
  refine v_iload_n (pc := 0) h dX7_isMark_0 1 rfl rfl ?_
  refine v_bipush (pc := 1) h dX7_isMark_1 (v := 59) rfl ?_
  refine v_jn0 (V g x 2 (0, 0) 60 [] [] I r) (fun k1 hk1 => ?_) ?_
  · refine v_icmp_eq (pc := 3) (t := 60) h dX7_isMark_3 rfl (fun _ => ?_) (fun _ => ?_)
    · refine v_sub [] rfl ?_
      exact hk1
    · refine v_iload_n (pc := 6) h dX7_isMark_6 1 rfl rfl ?_
      refine v_bipush (pc := 7) h dX7_isMark_7 (v := 43) rfl ?_
      refine v_icmp_eq (pc := 9) (t := 60) h dX7_isMark_9 rfl (fun _ => ?_) (fun _ => ?_)
      · refine v_sub [] rfl ?_
        exact hk1
      · refine v_iload_n (pc := 12) h dX7_isMark_12 1 rfl rfl ?_
        refine v_bipush (pc := 13) h dX7_isMark_13 (v := 45) rfl ?_
        refine v_icmp_eq (pc := 15) (t := 60) h dX7_isMark_15 rfl (fun _ => ?_) (fun _ => ?_)
        · refine v_sub [] rfl ?_
          exact hk1
        · refine v_iload_n (pc := 18) h dX7_isMark_18 1 rfl rfl ?_
          refine v_bipush (pc := 19) h dX7_isMark_19 (v := 42) rfl ?_
          refine v_icmp_eq (pc := 21) (t := 60) h dX7_isMark_21 rfl (fun _ => ?_) (fun _ => ?_)
          · refine v_sub [] rfl ?_
            exact hk1
          · refine v_iload_n (pc := 24) h dX7_isMark_24 1 rfl rfl ?_
            refine v_bipush (pc := 25) h dX7_isMark_25 (v := 47) rfl ?_
            refine v_icmp_eq (pc := 27) (t := 60) h dX7_isMark_27 rfl (fun _ => ?_) (fun _ => ?_)
            · refine v_sub [] rfl ?_
              exact hk1
            · refine v_iload_n (pc := 30) h dX7_isMark_30 1 rfl rfl ?_
              refine v_bipush (pc := 31) h dX7_isMark_31 (v := 40) rfl ?_
              refine v_icmp_eq (pc := 33) (t := 60) h dX7_isMark_33 rfl (fun _ => ?_) (fun _ => ?_)
              · refine v_sub [] rfl ?_
                exact hk1
              · refine v_iload_n (pc := 36) h dX7_isMark_36 1 rfl rfl ?_
                refine v_bipush (pc := 37) h dX7_isMark_37 (v := 41) rfl ?_
                refine v_icmp_eq (pc := 39) (t := 60) h dX7_isMark_39 rfl (fun _ => ?_) (fun _ => ?_)
                · refine v_sub [] rfl ?_
                  exact hk1
                · refine v_iload_n (pc := 42) h dX7_isMark_42 1 rfl rfl ?_
                  refine v_bipush (pc := 43) h dX7_isMark_43 (v := 60) rfl ?_
                  refine v_icmp_eq (pc := 45) (t := 60) h dX7_isMark_45 rfl (fun _ => ?_) (fun _ => ?_)
                  · refine v_sub [] rfl ?_
                    exact hk1
                  · refine v_iload_n (pc := 48) h dX7_isMark_48 1 rfl rfl ?_
                    refine v_bipush (pc := 49) h dX7_isMark_49 (v := 61) rfl ?_
                    refine v_icmp_eq (pc := 51) (t := 60) h dX7_isMark_51 rfl (fun _ => ?_) (fun _ => ?_)
                    · refine v_sub [] rfl ?_
                      exact hk1
                    · refine v_iload_n (pc := 54) h dX7_isMark_54 1 rfl rfl ?_
                      refine v_bipush (pc := 55) h dX7_isMark_55 (v := 62) rfl ?_
                      refine v_icmp_ne (pc := 57) (t := 64) h dX7_isMark_57 rfl (fun _ => ?_) (fun _ => ?_)
                      · refine v_iconst (pc := 64) h dX7_isMark_64 (v := 0) rfl ?_
                        exact v_zretP (pc := 65) h hr (Or.inl rfl) dX7_isMark_65
                      · refine v_sub [] rfl ?_
                        exact hk1
  · refine v_iconst (pc := 60) h dX7_isMark_60 (v := 1) rfl ?_
    refine v_goto (pc := 61) (t := 65) h dX7_isMark_61 rfl ?_
    exact v_zretP (pc := 65) h hr (Or.inr rfl) dX7_isMark_65
set_option maxHeartbeats 4000000 in
theorem tX7_next {g : Gl}  (o : Nat) (n_o : Nat) (I : MI) (r : Rh) (h_o : RdS o n_o r) : CtV g yX7_next cX7_next 1 9 [.ref o] I r (pX7_next o n_o I r) := by
  refine CtV.mk (lv := [(0, .ref o)]) (by decide) (Nat.le_of_ble_eq_true rfl) rfl (fun x Q h hr => ?_)
  unfold pX7_next
  refine L1.run (lv := fun I1 => [(0, .ref o)]) (st := fun I1 => []) (Im := fun I1 => I1) (r := fun I1 => r) (fun X2 hX2 I1 => ?_) I
  refine v_aload_n (pc := 0) h dX7_next_0 0 rfl rfl ?_
  refine v_callP (pc := 1) h dX7_next_1 kX7_36 rfl h_o.1 (tX7_see o n_o I1 r h_o) (by decide) rfl rfl (Nat.le_of_ble_eq_true rfl) ⟨Nat.zero_le _, Nat.zero_le _⟩ (fun r3 => ?_)
  refine v_bipush (pc := 4) h dX7_next_4 (v := 32) rfl ?_
  refine v_jn0 (V g x 1 (0, 0) 18 [(0, .ref o)] [] I1 r) (fun k4 hk4 => ?_) ?_
  · refine v_icmp_eq (pc := 6) (t := 18) h dX7_next_6 rfl (fun _ => ?_) (fun _ => ?_)
    · exact hk4
    · refine v_aload_n (pc := 9) h dX7_next_9 0 rfl rfl ?_
      refine v_callP (pc := 10) h dX7_next_10 kX7_36 rfl h_o.1 (tX7_see o n_o I1 r h_o) (by decide) rfl rfl (Nat.le_of_ble_eq_true rfl) ⟨Nat.zero_le _, Nat.zero_le _⟩ (fun r5 => ?_)
      refine v_bipush (pc := 13) h dX7_next_13 (v := 10) rfl ?_
      refine v_icmp_ne (pc := 15) (t := 31) h dX7_next_15 rfl (fun _ => ?_) (fun _ => ?_)
      · refine v_aload_n (pc := 31) h dX7_next_31 0 rfl rfl ?_
        refine v_aload_n (pc := 32) h dX7_next_32 0 rfl rfl ?_
        refine v_geti (pc := 33) h dX7_next_33 fX7_26 rfl h_o.1 ?_
        refine v_puti (pc := 36) h dX7_next_36 fX7_44 rfl h_o.1 ?_
        refine v_nmI (fun I6 => ?_)
        refine v_aload_n (pc := 39) h dX7_next_39 0 rfl rfl ?_
        refine v_callP (pc := 40) h dX7_next_40 kX7_36 rfl h_o.1 (tX7_see o n_o I6 r h_o) (by decide) rfl rfl (Nat.le_of_ble_eq_true rfl) ⟨Nat.zero_le _, Nat.zero_le _⟩ (fun r7 => ?_)
        refine v_iconst (pc := 43) h dX7_next_43 (v := (-1)) rfl ?_
        refine v_icmp_ne (pc := 44) (t := 55) h dX7_next_44 rfl (fun _ => ?_) (fun _ => ?_)
        · refine v_aload_n (pc := 55) h dX7_next_55 0 rfl rfl ?_
          refine v_callP (pc := 56) h dX7_next_56 kX7_152 rfl h_o.1 (tX7_isLetter o n_o I6 r h_o) (by decide) rfl rfl (Nat.le_of_ble_eq_true rfl) ⟨Nat.zero_le _, Nat.zero_le _⟩ (fun r8 => ?_)
          refine v_if_eq (pc := 59) (t := 93) h dX7_next_59 rfl (fun _ => ?_) (fun _ => ?_)
          · refine v_aload_n (pc := 93) h dX7_next_93 0 rfl rfl ?_
            refine v_callP (pc := 94) h dX7_next_94 kX7_159 rfl h_o.1 (tX7_isDigit o n_o I6 r h_o) (by decide) rfl rfl (Nat.le_of_ble_eq_true rfl) ⟨Nat.zero_le _, Nat.zero_le _⟩ (fun r9 => ?_)
            refine v_if_eq (pc := 97) (t := 182) h dX7_next_97 rfl (fun _ => ?_) (fun _ => ?_)
            · refine v_aload_n (pc := 182) h dX7_next_182 0 rfl rfl ?_
              refine v_aload_n (pc := 183) h dX7_next_183 0 rfl rfl ?_
              refine v_aload_n (pc := 184) h dX7_next_184 0 rfl rfl ?_
              refine v_callP (pc := 185) h dX7_next_185 kX7_36 rfl h_o.1 (tX7_see o n_o I6 r h_o) (by decide) rfl rfl (Nat.le_of_ble_eq_true rfl) ⟨Nat.zero_le _, Nat.zero_le _⟩ (fun r10 => ?_)
              refine v_callP (pc := 188) h dX7_next_188 kX7_162 rfl h_o.1 (tX7_isMark o n_o r10 I6 r h_o) (by decide) rfl rfl (Nat.le_of_ble_eq_true rfl) ⟨Nat.zero_le _, Nat.zero_le _⟩ (fun r11 => ?_)
              refine v_jn1 (fun t12 => V g x 1 (0, 0) 202 [(0, .ref o)] [.int t12, .ref o] I6 r) (fun k13 hk13 => ?_) (fun t12 => ?_)
              · refine v_if_eq (pc := 191) (t := 201) h dX7_next_191 rfl (fun _ => ?_) (fun _ => ?_)
                · refine v_iconst (pc := 201) h dX7_next_201 (v := 1) rfl ?_
                  exact hk13 (1 : Int32)
                · refine v_aload_n (pc := 194) h dX7_next_194 0 rfl rfl ?_
                  refine v_callP (pc := 195) h dX7_next_195 kX7_36 rfl h_o.1 (tX7_see o n_o I6 r h_o) (by decide) rfl rfl (Nat.le_of_ble_eq_true rfl) ⟨Nat.zero_le _, Nat.zero_le _⟩ (fun r14 => ?_)
                  refine v_goto (pc := 198) (t := 202) h dX7_next_198 rfl ?_
                  exact hk13 r14
              · refine v_puti (pc := 202) h dX7_next_202 fX7_126 rfl h_o.1 ?_
                refine v_nmI (fun I15 => ?_)
                refine v_aload_n (pc := 205) h dX7_next_205 0 rfl rfl ?_
                refine v_dup (pc := 206) h dX7_next_206 rfl ?_
                refine v_geti (pc := 207) h dX7_next_207 fX7_26 rfl h_o.1 ?_
                refine v_iconst (pc := 210) h dX7_next_210 (v := 1) rfl ?_
                refine v_iadd (pc := 211) h dX7_next_211 ?_
                refine v_puti (pc := 212) h dX7_next_212 fX7_26 rfl h_o.1 ?_
                refine v_nmI (fun I16 => ?_)
                exact v_vret (pc := 215) h hr dX7_next_215
            · refine v_aload_n (pc := 100) h dX7_next_100 0 rfl rfl ?_
              refine v_iconst (pc := 101) h dX7_next_101 (v := 0) rfl ?_
              refine v_puti (pc := 102) h dX7_next_102 fX7_134 rfl h_o.1 ?_
              refine v_nmI (fun I17 => ?_)
              refine L1.run (lv := fun I18 => [(0, .ref o)]) (st := fun I18 => []) (Im := fun I18 => I18) (r := fun I18 => r) (fun X19 hX19 I18 => ?_) I17
              refine v_aload_n (pc := 105) h dX7_next_105 0 rfl rfl ?_
              refine v_callP (pc := 106) h dX7_next_106 kX7_159 rfl h_o.1 (tX7_isDigit o n_o I18 r h_o) (by decide) rfl rfl (Nat.le_of_ble_eq_true rfl) ⟨Nat.zero_le _, Nat.zero_le _⟩ (fun r20 => ?_)
              refine v_if_eq (pc := 109) (t := 157) h dX7_next_109 rfl (fun _ => ?_) (fun _ => ?_)
              · refine v_aload_n (pc := 157) h dX7_next_157 0 rfl rfl ?_
                refine v_aload_n (pc := 158) h dX7_next_158 0 rfl rfl ?_
                refine v_geti (pc := 159) h dX7_next_159 fX7_26 rfl h_o.1 ?_
                refine v_aload_n (pc := 162) h dX7_next_162 0 rfl rfl ?_
                refine v_geti (pc := 163) h dX7_next_163 fX7_44 rfl h_o.1 ?_
                refine v_isub (pc := 166) h dX7_next_166 ?_
                refine v_iconst (pc := 167) h dX7_next_167 (v := 5) rfl ?_
                refine v_jn1 (fun t21 => V g x 1 (0, 0) 176 [] [.int t21, .ref o] I18 r) (fun k22 hk22 => ?_) (fun t21 => ?_)
                · refine v_icmp_ge (pc := 168) (t := 175) h dX7_next_168 rfl (fun _ => ?_) (fun _ => ?_)
                  · refine v_iconst (pc := 175) h dX7_next_175 (v := 1) rfl ?_
                    refine v_sub [] rfl ?_
                    exact hk22 (1 : Int32)
                  · refine v_iconst (pc := 171) h dX7_next_171 (v := 2) rfl ?_
                    refine v_goto (pc := 172) (t := 176) h dX7_next_172 rfl ?_
                    refine v_sub [] rfl ?_
                    exact hk22 (2 : Int32)
                · refine v_puti (pc := 176) h dX7_next_176 fX7_126 rfl h_o.1 ?_
                  refine v_nmI (fun I23 => ?_)
                  refine v_goto (pc := 179) (t := 215) h dX7_next_179 rfl ?_
                  exact v_vret (pc := 215) h hr dX7_next_215
              · refine v_aload_n (pc := 112) h dX7_next_112 0 rfl rfl ?_
                refine v_geti (pc := 113) h dX7_next_113 fX7_26 rfl h_o.1 ?_
                refine v_aload_n (pc := 116) h dX7_next_116 0 rfl rfl ?_
                refine v_geti (pc := 117) h dX7_next_117 fX7_44 rfl h_o.1 ?_
                refine v_iconst (pc := 120) h dX7_next_120 (v := 4) rfl ?_
                refine v_iadd (pc := 121) h dX7_next_121 ?_
                refine v_jn1 (fun I24 => V g x 1 (0, 0) 144 [(0, .ref o)] [] I24 r) (fun k25 hk25 => ?_) (fun I24 => ?_)
                · refine v_icmp_ge (pc := 122) (t := 144) h dX7_next_122 rfl (fun _ => ?_) (fun _ => ?_)
                  · exact hk25 I18
                  · refine v_aload_n (pc := 125) h dX7_next_125 0 rfl rfl ?_
                    refine v_bipush (pc := 126) h dX7_next_126 (v := 10) rfl ?_
                    refine v_aload_n (pc := 128) h dX7_next_128 0 rfl rfl ?_
                    refine v_geti (pc := 129) h dX7_next_129 fX7_134 rfl h_o.1 ?_
                    refine v_imul (pc := 132) h dX7_next_132 ?_
                    refine v_aload_n (pc := 133) h dX7_next_133 0 rfl rfl ?_
                    refine v_callP (pc := 134) h dX7_next_134 kX7_36 rfl h_o.1 (tX7_see o n_o I18 r h_o) (by decide) rfl rfl (Nat.le_of_ble_eq_true rfl) ⟨Nat.zero_le _, Nat.zero_le _⟩ (fun r26 => ?_)
                    refine v_iadd (pc := 137) h dX7_next_137 ?_
                    refine v_bipush (pc := 138) h dX7_next_138 (v := 48) rfl ?_
                    refine v_isub (pc := 140) h dX7_next_140 ?_
                    refine v_puti (pc := 141) h dX7_next_141 fX7_134 rfl h_o.1 ?_
                    refine v_nmI (fun I27 => ?_)
                    exact hk25 I27
                · refine v_aload_n (pc := 144) h dX7_next_144 0 rfl rfl ?_
                  refine v_dup (pc := 145) h dX7_next_145 rfl ?_
                  refine v_geti (pc := 146) h dX7_next_146 fX7_26 rfl h_o.1 ?_
                  refine v_iconst (pc := 149) h dX7_next_149 (v := 1) rfl ?_
                  refine v_iadd (pc := 150) h dX7_next_150 ?_
                  refine v_puti (pc := 151) h dX7_next_151 fX7_26 rfl h_o.1 ?_
                  refine v_nmI (fun I28 => ?_)
                  refine v_goto (pc := 154) (t := 105) h dX7_next_154 rfl ?_
                  exact hX19 I28
          · refine L1.run (lv := fun I29 => [(0, .ref o)]) (st := fun I29 => []) (Im := fun I29 => I29) (r := fun I29 => r) (fun X30 hX30 I29 => ?_) I6
            refine v_aload_n (pc := 62) h dX7_next_62 0 rfl rfl ?_
            refine v_callP (pc := 63) h dX7_next_63 kX7_152 rfl h_o.1 (tX7_isLetter o n_o I29 r h_o) (by decide) rfl rfl (Nat.le_of_ble_eq_true rfl) ⟨Nat.zero_le _, Nat.zero_le _⟩ (fun r31 => ?_)
            refine v_if_eq (pc := 66) (t := 82) h dX7_next_66 rfl (fun _ => ?_) (fun _ => ?_)
            · refine v_aload_n (pc := 82) h dX7_next_82 0 rfl rfl ?_
              refine v_aload_n (pc := 83) h dX7_next_83 0 rfl rfl ?_
              refine v_callP (pc := 84) h dX7_next_84 kX7_156 rfl h_o.1 (tX7_keyword o n_o I29 r h_o) (by decide) rfl rfl (Nat.le_of_ble_eq_true rfl) ⟨Nat.zero_le _, Nat.zero_le _⟩ (fun r32 => ?_)
              refine v_puti (pc := 87) h dX7_next_87 fX7_126 rfl h_o.1 ?_
              refine v_nmI (fun I33 => ?_)
              refine v_goto (pc := 90) (t := 215) h dX7_next_90 rfl ?_
              exact v_vret (pc := 215) h hr dX7_next_215
            · refine v_aload_n (pc := 69) h dX7_next_69 0 rfl rfl ?_
              refine v_dup (pc := 70) h dX7_next_70 rfl ?_
              refine v_geti (pc := 71) h dX7_next_71 fX7_26 rfl h_o.1 ?_
              refine v_iconst (pc := 74) h dX7_next_74 (v := 1) rfl ?_
              refine v_iadd (pc := 75) h dX7_next_75 ?_
              refine v_puti (pc := 76) h dX7_next_76 fX7_26 rfl h_o.1 ?_
              refine v_nmI (fun I34 => ?_)
              refine v_goto (pc := 79) (t := 62) h dX7_next_79 rfl ?_
              exact hX30 I34
        · refine v_aload_n (pc := 47) h dX7_next_47 0 rfl rfl ?_
          refine v_iconst (pc := 48) h dX7_next_48 (v := 0) rfl ?_
          refine v_puti (pc := 49) h dX7_next_49 fX7_126 rfl h_o.1 ?_
          refine v_nmI (fun I35 => ?_)
          refine v_goto (pc := 52) (t := 215) h dX7_next_52 rfl ?_
          exact v_vret (pc := 215) h hr dX7_next_215
      · exact hk4
  · refine v_aload_n (pc := 18) h dX7_next_18 0 rfl rfl ?_
    refine v_dup (pc := 19) h dX7_next_19 rfl ?_
    refine v_geti (pc := 20) h dX7_next_20 fX7_26 rfl h_o.1 ?_
    refine v_iconst (pc := 23) h dX7_next_23 (v := 1) rfl ?_
    refine v_iadd (pc := 24) h dX7_next_24 ?_
    refine v_puti (pc := 25) h dX7_next_25 fX7_26 rfl h_o.1 ?_
    refine v_nmI (fun I36 => ?_)
    refine v_goto (pc := 28) (t := 0) h dX7_next_28 rfl ?_
    exact hX2 I36
set_option maxHeartbeats 4000000 in
theorem tX7_lays {g : Gl}  (o : Nat) (n_o : Nat) (a1 : Int32) (a2 : Int32) (a3 : Int32) (I : MI) (r : Rh) (h_o : RdS o n_o r) : CtV g yX7_lays cX7_lays 4 1 [.ref o, .int a1, .int a2, .int a3] I r (pX7_lays o n_o a1 a2 a3 I r) := by
  refine CtV.mk (lv := [(0, .ref o), (1, .int a1), (2, .int a2), (3, .int a3)]) (by decide) (Nat.le_of_ble_eq_true rfl) rfl (fun x Q h hr => ?_)
  unfold pX7_lays
  refine v_aload_n (pc := 0) h dX7_lays_0 0 rfl rfl ?_
  refine v_getp (pc := 1) h dX7_lays_1 fX7_19 rfl h_o.1 h_o.2.2.2.2.1 ?_
  refine v_bipush (pc := 4) h dX7_lays_4 (v := 12) rfl ?_
  refine v_iload_n (pc := 6) h dX7_lays_6 1 rfl rfl ?_
  refine v_imul (pc := 7) h dX7_lays_7 ?_
  refine v_iload_n (pc := 8) h dX7_lays_8 2 rfl rfl ?_
  refine v_iadd (pc := 9) h dX7_lays_9 ?_
  refine v_aload_n (pc := 10) h dX7_lays_10 0 rfl rfl ?_
  refine v_getp (pc := 11) h dX7_lays_11 fX7_19 rfl h_o.1 h_o.2.2.2.2.1 ?_
  refine v_bipush (pc := 14) h dX7_lays_14 (v := 12) rfl ?_
  refine v_iload_n (pc := 16) h dX7_lays_16 1 rfl rfl ?_
  refine v_imul (pc := 17) h dX7_lays_17 ?_
  refine v_iload_n (pc := 18) h dX7_lays_18 2 rfl rfl ?_
  refine v_iadd (pc := 19) h dX7_lays_19 ?_
  refine v_iald (pc := 20) h dX7_lays_20 h_o.2.2.2.2.2.1 h_o.2.2.2.2.2.2 ?_
  refine v_iconst (pc := 21) h dX7_lays_21 (v := (-1)) rfl ?_
  refine v_jn1 (fun t1 => V g x 4 (0, 0) 44 [] [.int t1, .int (((12 : Int32) * a1) + a2), .ref (o + 2)] I r) (fun k2 hk2 => ?_) (fun t1 => ?_)
  · refine v_icmp_ne (pc := 22) (t := 29) h dX7_lays_22 rfl (fun _ => ?_) (fun _ => ?_)
    · refine v_iload_n (pc := 29) h dX7_lays_29 3 rfl rfl ?_
      refine v_aload_n (pc := 30) h dX7_lays_30 0 rfl rfl ?_
      refine v_getp (pc := 31) h dX7_lays_31 fX7_19 rfl h_o.1 h_o.2.2.2.2.1 ?_
      refine v_bipush (pc := 34) h dX7_lays_34 (v := 12) rfl ?_
      refine v_iload_n (pc := 36) h dX7_lays_36 1 rfl rfl ?_
      refine v_imul (pc := 37) h dX7_lays_37 ?_
      refine v_iload_n (pc := 38) h dX7_lays_38 2 rfl rfl ?_
      refine v_iadd (pc := 39) h dX7_lays_39 ?_
      refine v_iald (pc := 40) h dX7_lays_40 h_o.2.2.2.2.2.1 h_o.2.2.2.2.2.2 ?_
      refine v_mmin (pc := 41) h dX7_lays_41 q957 (by decide) (Nat.le_of_ble_eq_true rfl) ⟨Nat.zero_le _, Nat.zero_le _⟩ ?_
      refine v_sub [] rfl ?_
      exact hk2 (imn a3 (I (o + 2) (((12 : Int32) * a1) + a2).toNatClampNeg))
    · refine v_iload_n (pc := 25) h dX7_lays_25 3 rfl rfl ?_
      refine v_goto (pc := 26) (t := 44) h dX7_lays_26 rfl ?_
      refine v_sub [] rfl ?_
      exact hk2 a3
  · refine v_iast (pc := 44) h dX7_lays_44 h_o.2.2.2.2.2.1 h_o.2.2.2.2.2.2 ?_
    refine v_nmI (fun I3 => ?_)
    exact v_vret (pc := 45) h hr dX7_lays_45
