/-! terms and what asks them: programs and walks, printed by a program out of the code -/
set_option maxRecDepth 100000
def pX10_of (o : Nat) (a1 : Nat) (I : MI) (r : Rh) (Q : Int32 → Prop) : Prop :=
Q (I o 0)
def pX11_of (o : Nat) (a1 : Nat) (I : MI) (r : Rh) (Q : Int32 → Prop) : Prop :=
pX1_fact a1 (I o 0) I r (fun r1 =>
Q r1)
def pX12_of (T : Nat → (Int32 → Prop) → Prop) (o : Nat) (a1 : Nat) (I : MI) (r : Rh) (Q : Int32 → Prop) : Prop :=
∃ b1, rP r o 0 = some b1 ∧ (T b1 (fun r3 =>
∃ b4, rP r o 1 = some b4 ∧ (T b4 (fun r6 =>
if (I o 2) = (5 : Int32) then
(Q (r3 &&& r6))
else
(if (I o 2) = (42 : Int32) then
(Q (r3 * r6))
else
(if (I o 2) = (43 : Int32) then
(Q (r3 + r6))
else
(if (I o 2) = (45 : Int32) then
(Q (r3 - r6))
else
(if (I o 2) = (47 : Int32) then
(r6 ≠ 0 ∧ (Q (r3 / r6)))
else
(if (I o 2) = (60 : Int32) then
(if r6 ≤ r3 then
(Q (0 : Int32))
else
(Q (1 : Int32)))
else
(if (I o 2) = (61 : Int32) then
(if r3 = r6 then
(Q (1 : Int32))
else
(Q (0 : Int32)))
else
(if (I o 2) = (62 : Int32) then
(if r3 ≤ r6 then
(Q (0 : Int32))
else
(Q (1 : Int32)))
else
(Q (r3 ||| r6)))))))))))))
def pX13_of (T : Nat → (Int32 → Prop) → Prop) (o : Nat) (a1 : Nat) (I : MI) (r : Rh) (Q : Int32 → Prop) : Prop :=
∃ b1, rP r o 0 = some b1 ∧ (T b1 (fun r3 =>
Q ((1 : Int32) - r3)))
/-- a term's value, by its depth -/
def pT_of : Nat → Nat → Nat → MI → Rh → (Int32 → Prop) → Prop
  | 0 => fun _ _ _ _ _ => False
  | d + 1 => fun b w I r Q => if rK r b = 10 then pX10_of b w I r Q else if rK r b = 11 then pX11_of b w I r Q else if rK r b = 12 then pX12_of (fun c => pT_of d c w I r) b w I r Q else if rK r b = 13 then pX13_of (fun c => pT_of d c w I r) b w I r Q else False
def pX1_tells (dp : Nat) (o : Nat) (a1 : Int32) (a2 : Nat) (a3 : Int32) (a4 : Int32) (I : MI) (r : Rh) (Q : Int32 → MI → Rh → Prop) : Prop :=
nm (wP r o 28 (some a2)) (fun r1 =>
WkS o r1 ∧ (rK r1 a2 = 3 ∧ (L1 (fun X5 i5_4 =>
∃ b6, rP r1 o 10 = some b6 ∧ (rK r1 b6 = 9 ∧ (pJ2_size b6 I r1 (fun r9 =>
if r9 ≤ i5_4 then
(pX0_held a3 (0 : Int32) a4 I r1 (fun r10 =>
Q r10 I r1))
else
(∃ b11, rP r1 o 10 = some b11 ∧ (rK r1 b11 = 9 ∧ (pJ2_get b11 i5_4 I r1 (fun b14 =>
rK r1 b14 = 14 ∧ (jn0 (fun k16 =>
if (I b14 0) = a1 then
(jn0 (fun k17 =>
if (rP r1 b14 2) = none then
(k17)
else
(∃ b18, rP r1 b14 2 = some b18 ∧ (pT_of dp b18 o I r1 (fun r20 =>
if r20 = (1 : Int32) then
(k17)
else
(k16))))) (
∃ b21, rP r1 b14 1 = some b21 ∧ (pT_of dp b21 o I r1 (fun r23 =>
pX0_held r23 (0 : Int32) a4 I r1 (fun r24 =>
Q r24 I r1)))))
else
(k16)) (
X5 (i5_4 + (1 : Int32)))))))))))) (0 : Int32))))
def pX1_opens (dp : Nat) (o : Nat) (a1 : Nat) (I : MI) (r : Rh) (Q : Int32 → MI → Rh → Prop) : Prop :=
vp_in (I a1 1) 12 ∧ (pX1_tells dp o (7 : Int32) a1 (((900 : Int32) - ((100 : Int32) * (I o 20))) + ((20 : Int32) * (I (o + 247 + (I a1 1).toNatClampNeg) 0))) (1000 : Int32) I r (fun r2 I3 s4 =>
WkS o s4 ∧ (rK s4 a1 = 3 ∧ (Q r2 I3 s4))))
def pX1_gives (dp : Nat) (o : Nat) (a1 : Nat) (I : MI) (r : Rh) (Q : Int32 → MI → Rh → Prop) : Prop :=
pX1_tells dp o (8 : Int32) a1 (I a1 3) (99 : Int32) I r (fun r1 I2 s3 =>
WkS o s3 ∧ (rK s3 a1 = 3 ∧ (Q r1 I2 s3)))
def pX1_tires (dp : Nat) (o : Nat) (a1 : Nat) (I : MI) (r : Rh) (Q : Int32 → MI → Rh → Prop) : Prop :=
pX1_tells dp o (9 : Int32) a1 (1 : Int32) (20 : Int32) I r (fun r1 I2 s3 =>
WkS o s3 ∧ (rK s3 a1 = 3 ∧ (Q r1 I2 s3)))
def pX1_brings (dp : Nat) (o : Nat) (a1 : Int32) (I : MI) (r : Rh) (Q : Int32 → MI → Rh → Prop) : Prop :=
vp_in a1 24 ∧ ∃ b1, rP r (o + 3) a1.toNatClampNeg = some b1 ∧ (pX1_opens dp o b1 I r (fun r4 I5 s6 =>
rK s6 b1 = 3 ∧ (WkS o s6 ∧ (jn2 (fun k11 =>
if (I5 o 27) = 0 then
(pX1_draw o (1000 : Int32) I5 s6 (fun r12 I13 =>
if r4 ≤ r12 then
(k11 (0 : Int32) I13)
else
(k11 (1 : Int32) I13)))
else
(if r4 < (500 : Int32) then
(k11 (0 : Int32) I5)
else
(k11 (1 : Int32) I5))) (fun t9 I10 =>
jn3 (fun k17 =>
if t9 = 0 then
(pX1_notes o (2 : Int32) (I10 b1 0) (I10 b1 1) I10 s6 (fun I20 =>
k17 (-1 : Int32) I20 s6))
else
(pX1_gives dp o b1 I10 s6 (fun r21 I22 s23 =>
WkS o s23 ∧ (rK s23 b1 = 3 ∧ (jn1 (fun k27 =>
if (I22 b1 2) = (1 : Int32) then
(vp_in (I22 b1 1) 12 ∧ (nm (imn r21 (I22 (o + 247 + (I22 b1 1).toNatClampNeg) 2)) (fun v29 =>
k27 v29)))
else
(k27 r21)) (fun v5_26 =>
vp_in (I22 b1 2) 7 ∧ (vp_in (I22 b1 2) 7 ∧ (nm (wI I22 (o + 28) ((I22 b1 2).toNatClampNeg) ((I22 (o + 28) (I22 b1 2).toNatClampNeg) + v5_26)) (fun I30 =>
pX1_does o b1 v5_26 I30 s23 (fun I31 =>
vp_in (I31 b1 1) 12 ∧ (nm (wI I31 (o + 247 + (I31 b1 1).toNatClampNeg) 3 ((I31 (o + 247 + (I31 b1 1).toNatClampNeg) 3) + (1 : Int32))) (fun I33 =>
pX1_notes o (1 : Int32) (I33 b1 0) v5_26 I33 s23 (fun I34 =>
k17 v5_26 I34 s23))))))))))))) (fun v5_14 I15 r16 =>
WkS o r16 ∧ (rK r16 b1 = 3 ∧ (pX1_tires dp o b1 I15 r16 (fun r35 I36 s37 =>
WkS o s37 ∧ (rK s37 b1 = 3 ∧ (nm (wI I36 o 19 (imn (99 : Int32) ((I15 o 19) + r35))) (fun I40 =>
jn2 (fun k43 =>
if t9 = 0 then
(k43 I40 s37)
else
(pX2_goes (o + 2) a1 I40 s37 (fun I44 s45 =>
WkS o s45 ∧ (rK s45 b1 = 3 ∧ (k43 I44 s45))))) (fun I41 r42 =>
Q v5_14 I41 r42)))))))))))))
def pX0_bring (dp : Nat) (o : Nat) (a1 : Int32) (I : MI) (r : Rh) (Q : Int32 → MI → Rh → Prop) : Prop :=
pX2_place (o + 4) a1 I r (fun r1 =>
jn0 (fun k2 =>
if r1 = (-1 : Int32) then
(k2)
else
(if (I (o + 2) 15) = 0 then
(k2)
else
(pX0_remembers o I r (fun I3 s4 =>
KpS o s4 ∧ (pX1_brings dp (o + 2) r1 I3 s4 (fun r6 I7 s8 =>
KpS o s8 ∧ (Q r6 I7 s8))))))) (
Q (-2 : Int32) I r))
def pX1_goesTo (dp : Nat) (o : Nat) (a1 : Int32) (I : MI) (r : Rh) (Q : Int32 → MI → Rh → Prop) : Prop :=
L4 (fun X5 i2_1 i3_2 I3 r4 =>
WkS o r4 ∧ (if (I3 (o + 2) 1) ≤ i3_2 then
(Q i2_1 I3 r4)
else
(vp_in i3_2 24 ∧ ∃ b7, rP r4 (o + 3) i3_2.toNatClampNeg = some b7 ∧ (jn3 (fun k13 =>
jn2 (fun k17 =>
if (I3 b7 1) = a1 then
(if (24 : Int32) ≤ (I3 o 19) then
(k17 I3 r4)
else
(if (I3 o 15) ≤ 0 then
(k17 I3 r4)
else
(pX1_brings dp o i3_2 I3 r4 (fun r19 I20 s21 =>
WkS o s21 ∧ (if r19 = (-1 : Int32) then
(k17 I20 s21)
else
(k13 (1 : Int32) I20 s21))))))
else
(k17 I3 r4)) (fun I15 r16 =>
WkS o r16 ∧ (k13 (0 : Int32) I15 r16))) (fun t10 I11 r12 =>
WkS o r12 ∧ (jn1 (fun k24 =>
if t10 = 0 then
(k24 (0 : Int32))
else
(k24 (1 : Int32))) (fun t23 =>
nm (i2_1 + t23) (fun v25 =>
jn1 (fun k27 =>
if t10 = 0 then
(k27 (1 : Int32))
else
(k27 (0 : Int32))) (fun t26 =>
nm (i3_2 + t26) (fun v28 =>
X5 v25 v28 I11 r12)))))))))) (0 : Int32) (0 : Int32) I r
def pX1_passes (dp : Nat) (o : Nat) (I : MI) (r : Rh) (Q : Int32 → MI → Rh → Prop) : Prop :=
nm (wI I o 19 (0 : Int32)) (fun I1 =>
pX1_isPosted o I1 r (fun I2 =>
L5 (fun X8 i1_3 i2_4 i3_5 I6 r7 =>
WkS o r7 ∧ (if (I6 o 25) ≤ i3_5 then
(pX1_ages o I6 r7 (fun I10 s11 =>
WkS o s11 ∧ (nm (wI I10 o 16 (imn (99 : Int32) ((I10 o 16) + (5 : Int32)))) (fun I13 =>
jn1 (fun k15 =>
if (I13 o 16) ≤ (50 : Int32) then
(k15 (3 : Int32))
else
(k15 (-5 : Int32))) (fun t14 =>
pX0_held ((I13 o 15) + t14) (0 : Int32) (99 : Int32) I13 s11 (fun r16 =>
nm (wI I13 o 15 r16) (fun I17 =>
L2 (fun X20 i3_18 I19 =>
if (I19 o 14) ≤ i3_18 then
(nm (wI I19 o 21 ((I19 o 21) + (1 : Int32))) (fun I21 =>
Q i1_3 I21 s11))
else
(jn1 (fun k23 =>
if ((sr i2_4 i3_18) &&& (1 : Int32)) = 0 then
(vp_in i3_18 12 ∧ (pX5_calms (o + 247 + i3_18.toNatClampNeg) I19 s11 (fun I25 =>
k23 I25)))
else
(k23 I19)) (fun I22 =>
X20 (i3_18 + (1 : Int32)) I22))) (0 : Int32) I17)))))))
else
(∃ b26, rP r7 o 12 = some b26 ∧ (rK r7 b26 = 50 ∧ (vp_in i3_5 (rL r7 b26) ∧ (pX1_goesTo dp o (I6 b26 i3_5.toNatClampNeg) I6 r7 (fun r29 I30 s31 =>
WkS o s31 ∧ (nm (i1_3 + r29) (fun v33 =>
jn1 (fun k35 =>
if r29 ≤ 0 then
(k35 (0 : Int32))
else
(∃ b36, rP s31 o 12 = some b36 ∧ (rK s31 b36 = 50 ∧ (vp_in i3_5 (rL s31 b36) ∧ (k35 (sl (1 : Int32) (I30 b36 i3_5.toNatClampNeg))))))) (fun t34 =>
nm (i2_4 ||| t34) (fun v39 =>
X8 v33 v39 (i3_5 + (1 : Int32)) I30 s31))))))))))) (0 : Int32) (0 : Int32) (0 : Int32) I2 r))
def pX0_days (dp : Nat) (o : Nat) (a1 : Int32) (I : MI) (r : Rh) (Q : Int32 → MI → Rh → Prop) : Prop :=
pX0_isIn a1 (1 : Int32) (60 : Int32) I r (fun r1 =>
if r1 = 0 then
(Q (-1 : Int32) I r)
else
(if ((I (o + 2) 21) + a1) ≤ (9999 : Int32) then
(L4 (fun X6 i2_2 i3_3 I4 r5 =>
KpS o r5 ∧ (if a1 ≤ i3_3 then
(Q i2_2 I4 r5)
else
(pX0_remembers o I4 r5 (fun I8 s9 =>
KpS o s9 ∧ (pX1_passes dp (o + 2) I8 s9 (fun r11 I12 s13 =>
KpS o s13 ∧ (nm (i2_2 + r11) (fun v15 =>
X6 v15 (i3_3 + (1 : Int32)) I12 s13)))))))) (0 : Int32) (0 : Int32) I r)
else
(Q (-1 : Int32) I r)))
def pX0_letter (dp : Nat) (o : Nat) (a1 : Int32) (a2 : Int32) (I : MI) (r : Rh) (Q : Int32 → MI → Rh → Prop) : Prop :=
pX0_isIn a1 (0 : Int32) ((I (o + 4) 1) - (1 : Int32)) I r (fun r1 =>
if r1 = 0 then
(Q (-1 : Int32) I r)
else
(vp_in a1 24 ∧ ∃ b2, rP r (o + 5) a1.toNatClampNeg = some b2 ∧ (if a2 = (0 : Int32) then
(Q (I b2 0) I r)
else
(if a2 = (1 : Int32) then
(Q (I b2 1) I r)
else
(if a2 = (2 : Int32) then
(Q (I b2 2) I r)
else
(if a2 = (3 : Int32) then
(Q (I b2 3) I r)
else
(if a2 = (4 : Int32) then
(Q (I b2 4) I r)
else
(if a2 = (5 : Int32) then
(pX1_opens dp (o + 2) b2 I r (fun r11 I12 s13 =>
rK s13 b2 = 3 ∧ (KpS o s13 ∧ (Q r11 I12 s13))))
else
(if a2 = (6 : Int32) then
(pX1_gives dp (o + 2) b2 I r (fun r17 I18 s19 =>
rK s19 b2 = 3 ∧ (KpS o s19 ∧ (Q r17 I18 s19))))
else
(if a2 = (7 : Int32) then
(pX1_tires dp (o + 2) b2 I r (fun r23 I24 s25 =>
rK s25 b2 = 3 ∧ (KpS o s25 ∧ (Q r23 I24 s25))))
else
(Q (-1 : Int32) I r)))))))))))
def pX0_goes (dp : Nat) (o : Nat) (a1 : Int32) (a2 : Int32) (I : MI) (r : Rh) (Q : Int32 → MI → Rh → Prop) : Prop :=
pX0_isIn a1 (1 : Int32) (60 : Int32) I r (fun r1 =>
if r1 = 0 then
(Q (-1 : Int32) I r)
else
(pX0_isIn a2 (0 : Int32) (3 : Int32) I r (fun r2 =>
if r2 = 0 then
(Q (-1 : Int32) I r)
else
(pX1_thinks (o + 520) (o + 2) I r (fun I3 s4 =>
KpS o s4 ∧ (L3 (fun X9 i3_6 I7 r8 =>
KpS o r8 ∧ (if a1 ≤ i3_6 then
(if a2 = 0 then
(Q (I7 (o + 520) 15) I7 r8)
else
(if a2 = (1 : Int32) then
(Q (I7 (o + 520) 16) I7 r8)
else
(if a2 = (2 : Int32) then
(Q (I7 (o + 522) 1) I7 r8)
else
(Q (I7 (o + 520) 18) I7 r8))))
else
(pX1_passes dp (o + 520) I7 r8 (fun r11 I12 s13 =>
KpS o s13 ∧ (X9 (i3_6 + (1 : Int32)) I12 s13))))) (0 : Int32) I3 s4))))))
set_option maxHeartbeats 4000000 in
theorem tX10_of {g : Gl}  (d : Nat) (o : Nat) (a1 : Nat) (I : MI) (r : Rh) (h_o : rK r o = 10) (h_a1 : WkS a1 r) : CtP g yX10_of cX10_of 2 (some .int) d [.ref o, .ref a1] I r (pX10_of o a1 I r) := by
  refine CtP.mk (lv := [(0, .ref o), (1, .ref a1)]) (by decide) (Nat.le_of_ble_eq_true rfl) rfl (fun x Q h hr => ?_)
  unfold pX10_of
  refine v_aload_n (pc := 0) h dX10_of_0 0 rfl rfl ?_
  refine v_geti (pc := 1) h dX10_of_1 fX10_7 rfl h_o ?_
  exact v_iretP (pc := 4) h hr dX10_of_4
set_option maxHeartbeats 4000000 in
theorem tX11_of {g : Gl}  (d : Nat) (o : Nat) (a1 : Nat) (I : MI) (r : Rh) (h_o : rK r o = 11) (h_a1 : WkS a1 r) (hd : 2 ≤ d) : CtP g yX11_of cX11_of 2 (some .int) d [.ref o, .ref a1] I r (pX11_of o a1 I r) := by
  refine CtP.mk (lv := [(0, .ref o), (1, .ref a1)]) (by decide) (Nat.le_of_ble_eq_true rfl) rfl (fun x Q h hr => ?_)
  unfold pX11_of
  refine v_aload_n (pc := 0) h dX11_of_0 1 rfl rfl ?_
  refine v_aload_n (pc := 1) h dX11_of_1 0 rfl rfl ?_
  refine v_geti (pc := 2) h dX11_of_2 fX11_7 rfl h_o ?_
  refine v_callFact (pc := 5) h dX11_of_5 q1086 h_a1 (tX1_fact a1 (I o 0) I r h_a1) hd (Nat.le_of_ble_eq_true rfl) ⟨Nat.zero_le _, Nat.zero_le _⟩ (fun r1 => ?_)
  exact v_iretP (pc := 10) h hr dX11_of_10
set_option maxHeartbeats 4000000 in
theorem tX12_of {g : Gl}  (d0 d : Nat) (T : Nat → (Int32 → Prop) → Prop) (o : Nat) (a1 : Nat) (I : MI) (r : Rh) (h_o : rK r o = 12) (h_a1 : WkS a1 r) (hT : ∀ c, OfC g d0 a1 I r c (T c)) (hd : d0 + 1 ≤ d) : CtP g yX12_of cX12_of 4 (some .int) d [.ref o, .ref a1] I r (pX12_of T o a1 I r) := by
  refine CtP.mk (lv := [(0, .ref o), (1, .ref a1)]) (by decide) (Nat.le_of_ble_eq_true rfl) rfl (fun x Q h hr => ?_)
  unfold pX12_of
  refine v_aload_n (pc := 0) h dX12_of_0 0 rfl rfl ?_
  refine v_getx (pc := 1) h dX12_of_1 fX12_9 rfl h_o (fun b1 h2 => ?_)
  refine v_aload_n (pc := 4) h dX12_of_4 1 rfl rfl ?_
  refine v_callOf (pc := 5) h dX12_of_5 q1082 (hT b1) hd (Nat.le_of_ble_eq_true rfl) ⟨Nat.zero_le _, Nat.zero_le _⟩ (fun r3 => ?_)
  refine v_istore_n (pc := 8) h dX12_of_8 rfl (by decide) (lv' := [(2, .int r3), (0, .ref o), (1, .ref a1)]) rfl ?_
  refine v_aload_n (pc := 9) h dX12_of_9 1 rfl rfl ?_
  refine v_getx (pc := 10) h dX12_of_10 fX12_19 rfl h_o (fun b4 h5 => ?_)
  refine v_aload_n (pc := 13) h dX12_of_13 2 rfl rfl ?_
  refine v_callOf (pc := 14) h dX12_of_14 q1082 (hT b4) hd (Nat.le_of_ble_eq_true rfl) ⟨Nat.zero_le _, Nat.zero_le _⟩ (fun r6 => ?_)
  refine v_istore_n (pc := 17) h dX12_of_17 rfl (by decide) (lv' := [(3, .int r6), (2, .int r3), (0, .ref o), (1, .ref a1)]) rfl ?_
  refine v_aload_n (pc := 18) h dX12_of_18 2 rfl rfl ?_
  refine v_geti (pc := 19) h dX12_of_19 fX12_15 rfl h_o ?_
  refine v_ite (fun hc7 => ?_) (fun hc7 => ?_)
  · refine v_lsw (pc := 22) (t := 145) h dX12_of_22 (by decide) (off := 123) (by rw [hc7]; rfl) rfl ?_
    refine v_iload_n (pc := 145) h dX12_of_145 1 rfl rfl ?_
    refine v_iload_n (pc := 146) h dX12_of_146 0 rfl rfl ?_
    refine v_iand (pc := 147) h dX12_of_147 ?_
    exact v_iretP (pc := 148) h hr dX12_of_148
  · refine v_ite (fun hc8 => ?_) (fun hc8 => ?_)
    · refine v_lsw (pc := 22) (t := 104) h dX12_of_22 (by decide) (off := 82) (by rw [hc8]; rfl) rfl ?_
      refine v_iload_n (pc := 104) h dX12_of_104 1 rfl rfl ?_
      refine v_iload_n (pc := 105) h dX12_of_105 0 rfl rfl ?_
      refine v_imul (pc := 106) h dX12_of_106 ?_
      exact v_iretP (pc := 107) h hr dX12_of_107
    · refine v_ite (fun hc9 => ?_) (fun hc9 => ?_)
      · refine v_lsw (pc := 22) (t := 96) h dX12_of_22 (by decide) (off := 74) (by rw [hc9]; rfl) rfl ?_
        refine v_iload_n (pc := 96) h dX12_of_96 1 rfl rfl ?_
        refine v_iload_n (pc := 97) h dX12_of_97 0 rfl rfl ?_
        refine v_iadd (pc := 98) h dX12_of_98 ?_
        exact v_iretP (pc := 99) h hr dX12_of_99
      · refine v_ite (fun hc10 => ?_) (fun hc10 => ?_)
        · refine v_lsw (pc := 22) (t := 100) h dX12_of_22 (by decide) (off := 78) (by rw [hc10]; rfl) rfl ?_
          refine v_iload_n (pc := 100) h dX12_of_100 1 rfl rfl ?_
          refine v_iload_n (pc := 101) h dX12_of_101 0 rfl rfl ?_
          refine v_isub (pc := 102) h dX12_of_102 ?_
          exact v_iretP (pc := 103) h hr dX12_of_103
        · refine v_ite (fun hc11 => ?_) (fun hc11 => ?_)
          · refine v_lsw (pc := 22) (t := 108) h dX12_of_22 (by decide) (off := 86) (by rw [hc11]; rfl) rfl ?_
            refine v_iload_n (pc := 108) h dX12_of_108 1 rfl rfl ?_
            refine v_iload_n (pc := 109) h dX12_of_109 0 rfl rfl ?_
            refine v_idiv (pc := 110) h dX12_of_110 ?_
            exact v_iretP (pc := 111) h hr dX12_of_111
          · refine v_ite (fun hc12 => ?_) (fun hc12 => ?_)
            · refine v_lsw (pc := 22) (t := 112) h dX12_of_22 (by decide) (off := 90) (by rw [hc12]; rfl) rfl ?_
              refine v_iload_n (pc := 112) h dX12_of_112 1 rfl rfl ?_
              refine v_iload_n (pc := 113) h dX12_of_113 0 rfl rfl ?_
              refine v_icmp_ge (pc := 114) (t := 121) h dX12_of_114 rfl (fun _ => ?_) (fun _ => ?_)
              · refine v_iconst (pc := 121) h dX12_of_121 (v := 0) rfl ?_
                exact v_iretP (pc := 122) h hr dX12_of_122
              · refine v_iconst (pc := 117) h dX12_of_117 (v := 1) rfl ?_
                refine v_goto (pc := 118) (t := 122) h dX12_of_118 rfl ?_
                exact v_iretP (pc := 122) h hr dX12_of_122
            · refine v_ite (fun hc13 => ?_) (fun hc13 => ?_)
              · refine v_lsw (pc := 22) (t := 123) h dX12_of_22 (by decide) (off := 101) (by rw [hc13]; rfl) rfl ?_
                refine v_iload_n (pc := 123) h dX12_of_123 1 rfl rfl ?_
                refine v_iload_n (pc := 124) h dX12_of_124 0 rfl rfl ?_
                refine v_icmp_ne (pc := 125) (t := 132) h dX12_of_125 rfl (fun _ => ?_) (fun _ => ?_)
                · refine v_iconst (pc := 132) h dX12_of_132 (v := 0) rfl ?_
                  exact v_iretP (pc := 133) h hr dX12_of_133
                · refine v_iconst (pc := 128) h dX12_of_128 (v := 1) rfl ?_
                  refine v_goto (pc := 129) (t := 133) h dX12_of_129 rfl ?_
                  exact v_iretP (pc := 133) h hr dX12_of_133
              · refine v_ite (fun hc14 => ?_) (fun hc14 => ?_)
                · refine v_lsw (pc := 22) (t := 134) h dX12_of_22 (by decide) (off := 112) (by rw [hc14]; rfl) rfl ?_
                  refine v_iload_n (pc := 134) h dX12_of_134 1 rfl rfl ?_
                  refine v_iload_n (pc := 135) h dX12_of_135 0 rfl rfl ?_
                  refine v_icmp_le (pc := 136) (t := 143) h dX12_of_136 rfl (fun _ => ?_) (fun _ => ?_)
                  · refine v_iconst (pc := 143) h dX12_of_143 (v := 0) rfl ?_
                    exact v_iretP (pc := 144) h hr dX12_of_144
                  · refine v_iconst (pc := 139) h dX12_of_139 (v := 1) rfl ?_
                    refine v_goto (pc := 140) (t := 144) h dX12_of_140 rfl ?_
                    exact v_iretP (pc := 144) h hr dX12_of_144
                · refine v_lsw (pc := 22) (t := 149) h dX12_of_22 (by decide) (off := 127) (by rw [lv_osw hc7 (show (5 : Int32).toInt = 5 from rfl)]; rw [lv_osw hc8 (show (42 : Int32).toInt = 42 from rfl)]; rw [lv_osw hc9 (show (43 : Int32).toInt = 43 from rfl)]; rw [lv_osw hc10 (show (45 : Int32).toInt = 45 from rfl)]; rw [lv_osw hc11 (show (47 : Int32).toInt = 47 from rfl)]; rw [lv_osw hc12 (show (60 : Int32).toInt = 60 from rfl)]; rw [lv_osw hc13 (show (61 : Int32).toInt = 61 from rfl)]; rw [lv_osw hc14 (show (62 : Int32).toInt = 62 from rfl)]; first | rfl | decide) rfl ?_
                  refine v_iload_n (pc := 149) h dX12_of_149 1 rfl rfl ?_
                  refine v_iload_n (pc := 150) h dX12_of_150 0 rfl rfl ?_
                  refine v_ior (pc := 151) h dX12_of_151 ?_
                  exact v_iretP (pc := 152) h hr dX12_of_152
set_option maxHeartbeats 4000000 in
theorem tX13_of {g : Gl}  (d0 d : Nat) (T : Nat → (Int32 → Prop) → Prop) (o : Nat) (a1 : Nat) (I : MI) (r : Rh) (h_o : rK r o = 13) (h_a1 : WkS a1 r) (hT : ∀ c, OfC g d0 a1 I r c (T c)) (hd : d0 + 1 ≤ d) : CtP g yX13_of cX13_of 2 (some .int) d [.ref o, .ref a1] I r (pX13_of T o a1 I r) := by
  refine CtP.mk (lv := [(0, .ref o), (1, .ref a1)]) (by decide) (Nat.le_of_ble_eq_true rfl) rfl (fun x Q h hr => ?_)
  unfold pX13_of
  refine v_iconst (pc := 0) h dX13_of_0 (v := 1) rfl ?_
  refine v_aload_n (pc := 1) h dX13_of_1 0 rfl rfl ?_
  refine v_getx (pc := 2) h dX13_of_2 fX13_7 rfl h_o (fun b1 h2 => ?_)
  refine v_aload_n (pc := 5) h dX13_of_5 1 rfl rfl ?_
  refine v_callOf (pc := 6) h dX13_of_6 q1097 (hT b1) hd (Nat.le_of_ble_eq_true rfl) ⟨Nat.zero_le _, Nat.zero_le _⟩ (fun r3 => ?_)
  refine v_isub (pc := 9) h dX13_of_9 ?_
  exact v_iretP (pc := 10) h hr dX13_of_10
theorem tT_of {g : Gl} (dp b w : Nat) (I : MI) (r : Rh) (hw : WkS w r) : OfC g (dp + 3) w I r b (pT_of dp b w I r) := by
  induction dp generalizing b with
  | zero => exact ⟨fun _ _ h => h.elim, fun _ _ h => h.elim, fun _ _ h => h.elim, fun _ _ h => h.elim, fun _ h => h.elim⟩
  | succ d ih =>
    refine ⟨fun e => ?_, fun e => ?_, fun e => ?_, fun e => ?_, fun Q h => ?_⟩
    · rw [show pT_of (d + 1) b w I r = pX10_of b w I r by funext Q; simp [pT_of, e]]
      exact tX10_of _ b w I r e hw
    · rw [show pT_of (d + 1) b w I r = pX11_of b w I r by funext Q; simp [pT_of, e]]
      exact tX11_of _ b w I r e hw (by omega)
    · rw [show pT_of (d + 1) b w I r = pX12_of (fun c => pT_of d c w I r) b w I r by funext Q; simp [pT_of, e]]
      exact tX12_of (d + 3) _ _ b w I r e hw (fun c => ih c) (by omega)
    · rw [show pT_of (d + 1) b w I r = pX13_of (fun c => pT_of d c w I r) b w I r by funext Q; simp [pT_of, e]]
      exact tX13_of (d + 3) _ _ b w I r e hw (fun c => ih c) (by omega)
    · by_cases h1 : rK r b = 10
      · exact Or.inl h1
      by_cases h2 : rK r b = 11
      · exact Or.inr (Or.inl h2)
      by_cases h3 : rK r b = 12
      · exact Or.inr (Or.inr (Or.inl h3))
      by_cases h4 : rK r b = 13
      · exact Or.inr (Or.inr (Or.inr h4))
      simp [pT_of, h1, h2, h3, h4] at h
set_option maxHeartbeats 4000000 in
theorem tX1_tells {g : Gl}  (dp : Nat) (o : Nat) (a1 : Int32) (a2 : Nat) (a3 : Int32) (a4 : Int32) (I : MI) (r : Rh) (h_o : WkS o r) (h_a2 : rK r a2 = 3) : CtR g yX1_tells cX1_tells 7 (some .int) (dp + 4) 0 0 [.ref o, .int a1, .ref a2, .int a3, .int a4] I r (pX1_tells dp o a1 a2 a3 a4 I r) := by
  refine CtR.mk (lv := [(0, .ref o), (1, .int a1), (2, .ref a2), (3, .int a3), (4, .int a4)]) (by decide) (Nat.le_of_ble_eq_true rfl) rfl (fun x Q h hr => ?_)
  unfold pX1_tells
  refine v_aload_n (pc := 0) h dX1_tells_0 0 rfl rfl ?_
  refine v_aload_n (pc := 1) h dX1_tells_1 2 rfl rfl ?_
  refine v_putr (pc := 2) (o := (some a2)) h dX1_tells_2 fX1_137 rfl rfl rfl (WkS.c h_o) ?_
  refine v_nmr (fun r1 => ?_)
  refine v_and (fun h2 => ?_)
  refine v_and (fun h3 => ?_)
  refine v_iconst (pc := 5) h dX1_tells_5 (v := 0) rfl ?_
  refine v_istore (pc := 6) h dX1_tells_6 (by decide) (lv' := [(5, .int (0 : Int32)), (0, .ref o), (1, .int a1), (2, .ref a2), (3, .int a3), (4, .int a4)]) rfl ?_
  refine v_sub [1, 2, 4, 5, 0] rfl ?_
  refine L1.run (lv := fun i5_4 => [(0, .ref o), (1, .int a1), (3, .int a3), (4, .int a4), (5, .int i5_4)]) (st := fun i5_4 => []) (Im := fun i5_4 => I) (r := fun i5_4 => r1) (fun X5 hX5 i5_4 => ?_) (0 : Int32)
  refine v_iload (pc := 8) h dX1_tells_8 4 rfl ?_
  refine v_aload_n (pc := 10) h dX1_tells_10 0 rfl rfl ?_
  refine v_getx (pc := 11) h dX1_tells_11 fX1_60 rfl (WkS.c h2) (fun b6 h7 => ?_)
  refine v_and (fun h8 => ?_)
  refine v_callP (pc := 14) h dX1_tells_14 kX1_163 rfl h8 (tJ2_size b6 I r1 h8) (by omega) rfl rfl (Nat.le_of_ble_eq_true rfl) ⟨Nat.zero_le _, Nat.zero_le _⟩ (fun r9 => ?_)
  refine v_icmp_ge (pc := 17) (t := 86) h dX1_tells_17 rfl (fun _ => ?_) (fun _ => ?_)
  · refine v_iload_n (pc := 86) h dX1_tells_86 2 rfl rfl ?_
    refine v_iconst (pc := 87) h dX1_tells_87 (v := 0) rfl ?_
    refine v_iload (pc := 88) h dX1_tells_88 3 rfl ?_
    refine v_callsp (pc := 90) h dX1_tells_90 sX1_188 (tX0_held a3 (0 : Int32) a4 I r1 ) (by omega) rfl rfl (Nat.le_of_ble_eq_true rfl) ⟨Nat.zero_le _, Nat.zero_le _⟩ (fun r10 => ?_)
    exact v_iretR (pc := 93) h hr ⟨Nat.zero_le _, Nat.zero_le _⟩ dX1_tells_93
  · refine v_aload_n (pc := 20) h dX1_tells_20 0 rfl rfl ?_
    refine v_getx (pc := 21) h dX1_tells_21 fX1_60 rfl (WkS.c h2) (fun b11 h12 => ?_)
    refine v_and (fun h13 => ?_)
    refine v_iload (pc := 24) h dX1_tells_24 4 rfl ?_
    refine v_callA (pc := 26) h dX1_tells_26 kX1_167 rfl h13 (tJ2_get b11 i5_4 I r1 h13) (by omega) rfl rfl (Nat.le_of_ble_eq_true rfl) ⟨Nat.zero_le _, Nat.zero_le _⟩ (fun b14 => ?_)
    refine v_and (fun h15 => ?_)
    refine v_cast (pc := 29) h dX1_tells_29 q1072 (c := 14) rfl h15 ?_
    refine v_astore (pc := 32) h dX1_tells_32 (by decide) (lv' := [(6, .ref b14), (0, .ref o), (1, .int a1), (3, .int a3), (4, .int a4), (5, .int i5_4)]) rfl ?_
    refine v_aload (pc := 34) h dX1_tells_34 0 rfl ?_
    refine v_geti (pc := 36) h dX1_tells_36 fX1_173 rfl h15 ?_
    refine v_iload_n (pc := 39) h dX1_tells_39 2 rfl rfl ?_
    refine v_jn0 (V g x 7 (0, 0) 80 [(0, .ref o), (1, .int a1), (3, .int a3), (4, .int a4), (5, .int i5_4)] [] I r1) (fun k16 hk16 => ?_) ?_
    · refine v_icmp_ne (pc := 40) (t := 80) h dX1_tells_40 rfl (fun _ => ?_) (fun _ => ?_)
      · refine v_sub [1, 2, 3, 4, 5] rfl ?_
        exact hk16
      · refine v_aload (pc := 43) h dX1_tells_43 0 rfl ?_
        refine v_get (pc := 45) h dX1_tells_45 fX1_175 h15 ?_
        refine v_jn0 (V g x 7 (0, 0) 64 [(0, .ref o), (4, .int a4), (6, .ref b14)] [] I r1) (fun k17 hk17 => ?_) ?_
        · refine v_ifnull (pc := 48) (t := 64) h dX1_tells_48 rfl (fun _ => ?_) (fun _ => ?_)
          · refine v_sub [1, 4, 0] rfl ?_
            exact hk17
          · refine v_aload (pc := 51) h dX1_tells_51 0 rfl ?_
            refine v_getx (pc := 53) h dX1_tells_53 fX1_175 rfl h15 (fun b18 h19 => ?_)
            refine v_aload_n (pc := 56) h dX1_tells_56 1 rfl rfl ?_
            refine v_callOf (pc := 57) h dX1_tells_57 q1073 (tT_of dp b18 o I r1 h2) (by omega) (Nat.le_of_ble_eq_true rfl) ⟨Nat.zero_le _, Nat.zero_le _⟩ (fun r20 => ?_)
            refine v_iconst (pc := 60) h dX1_tells_60 (v := 1) rfl ?_
            refine v_icmp_ne (pc := 61) (t := 80) h dX1_tells_61 rfl (fun _ => ?_) (fun _ => ?_)
            · refine v_sub [1, 2, 3, 4, 5] rfl ?_
              exact hk16
            · refine v_sub [1, 4, 0] rfl ?_
              exact hk17
        · refine v_aload (pc := 64) h dX1_tells_64 2 rfl ?_
          refine v_getx (pc := 66) h dX1_tells_66 fX1_185 rfl h15 (fun b21 h22 => ?_)
          refine v_aload_n (pc := 69) h dX1_tells_69 0 rfl rfl ?_
          refine v_callOf (pc := 70) h dX1_tells_70 q1073 (tT_of dp b21 o I r1 h2) (by omega) (Nat.le_of_ble_eq_true rfl) ⟨Nat.zero_le _, Nat.zero_le _⟩ (fun r23 => ?_)
          refine v_iconst (pc := 73) h dX1_tells_73 (v := 0) rfl ?_
          refine v_iload (pc := 74) h dX1_tells_74 1 rfl ?_
          refine v_callsp (pc := 76) h dX1_tells_76 sX1_188 (tX0_held r23 (0 : Int32) a4 I r1 ) (by omega) rfl rfl (Nat.le_of_ble_eq_true rfl) ⟨Nat.zero_le _, Nat.zero_le _⟩ (fun r24 => ?_)
          exact v_iretR (pc := 79) h hr ⟨Nat.zero_le _, Nat.zero_le _⟩ dX1_tells_79
    · refine v_iinc (pc := 80) h dX1_tells_80 4 rfl (w := (i5_4 + (1 : Int32))) rfl (by decide) (lv' := [(5, .int (i5_4 + (1 : Int32))), (0, .ref o), (1, .int a1), (3, .int a3), (4, .int a4)]) rfl ?_
      refine v_goto (pc := 83) (t := 8) h dX1_tells_83 rfl ?_
      refine v_sub [1, 2, 3, 4, 0] rfl ?_
      exact hX5 (i5_4 + (1 : Int32))
set_option maxHeartbeats 4000000 in
theorem tX1_opens {g : Gl}  (dp : Nat) (o : Nat) (a1 : Nat) (I : MI) (r : Rh) (h_o : WkS o r) (h_a1 : rK r a1 = 3) : CtR g yX1_opens cX1_opens 2 (some .int) (dp + 5) 0 0 [.ref o, .ref a1] I r (pX1_opens dp o a1 I r) := by
  refine CtR.mk (lv := [(0, .ref o), (1, .ref a1)]) (by decide) (Nat.le_of_ble_eq_true rfl) rfl (fun x Q h hr => ?_)
  unfold pX1_opens
  refine v_aload_n (pc := 0) h dX1_opens_0 0 rfl rfl ?_
  refine v_bipush (pc := 1) h dX1_opens_1 (v := 7) rfl ?_
  refine v_aload_n (pc := 3) h dX1_opens_3 1 rfl rfl ?_
  refine v_sipush (pc := 4) h dX1_opens_4 (v := 900) rfl ?_
  refine v_bipush (pc := 7) h dX1_opens_7 (v := 100) rfl ?_
  refine v_aload_n (pc := 9) h dX1_opens_9 0 rfl rfl ?_
  refine v_geti (pc := 10) h dX1_opens_10 fX1_97 rfl (WkS.c h_o) ?_
  refine v_imul (pc := 13) h dX1_opens_13 ?_
  refine v_isub (pc := 14) h dX1_opens_14 ?_
  refine v_bipush (pc := 15) h dX1_opens_15 (v := 20) rfl ?_
  refine v_aload_n (pc := 17) h dX1_opens_17 0 rfl rfl ?_
  refine v_getp (pc := 18) h dX1_opens_18 fX1_11 rfl (WkS.c h_o) (WkS.dr h_o).1 ?_
  refine v_aload_n (pc := 21) h dX1_opens_21 1 rfl rfl ?_
  refine v_geti (pc := 22) h dX1_opens_22 fX1_141 rfl h_a1 ?_
  refine v_aaldk (pc := 25) h dX1_opens_25 (t := 2) (WkS.dr h_o).2.1 rfl rfl (WkS.dr h_o).2.2 (fun hin => ((WkS.doors h_o) _ (vp_lt hin)).1) (fun h1 => ?_)
  refine v_geti (pc := 26) h dX1_opens_26 fX1_154 rfl ((WkS.doors h_o) _ (vp_lt h1)).2 ?_
  refine v_imul (pc := 29) h dX1_opens_29 ?_
  refine v_iadd (pc := 30) h dX1_opens_30 ?_
  refine v_sipush (pc := 31) h dX1_opens_31 (v := 1000) rfl ?_
  refine v_callR (pc := 34) h dX1_opens_34 kX1_192 rfl (WkS.c h_o) (tX1_tells dp o (7 : Int32) a1 (((900 : Int32) - ((100 : Int32) * (I o 20))) + ((20 : Int32) * (I (o + 247 + (I a1 1).toNatClampNeg) 0))) (1000 : Int32) I r h_o h_a1) (by omega) rfl rfl (Nat.le_of_ble_eq_true rfl) ⟨Nat.zero_le _, Nat.zero_le _⟩ (fun r2 I3 s4 => ?_)
  refine v_and (fun h5 => ?_)
  refine v_and (fun h6 => ?_)
  exact v_iretR (pc := 37) h hr ⟨Nat.zero_le _, Nat.zero_le _⟩ dX1_opens_37
set_option maxHeartbeats 4000000 in
theorem tX1_gives {g : Gl}  (dp : Nat) (o : Nat) (a1 : Nat) (I : MI) (r : Rh) (h_o : WkS o r) (h_a1 : rK r a1 = 3) : CtR g yX1_gives cX1_gives 2 (some .int) (dp + 5) 0 0 [.ref o, .ref a1] I r (pX1_gives dp o a1 I r) := by
  refine CtR.mk (lv := [(0, .ref o), (1, .ref a1)]) (by decide) (Nat.le_of_ble_eq_true rfl) rfl (fun x Q h hr => ?_)
  unfold pX1_gives
  refine v_aload_n (pc := 0) h dX1_gives_0 0 rfl rfl ?_
  refine v_bipush (pc := 1) h dX1_gives_1 (v := 8) rfl ?_
  refine v_aload_n (pc := 3) h dX1_gives_3 1 rfl rfl ?_
  refine v_aload_n (pc := 4) h dX1_gives_4 1 rfl rfl ?_
  refine v_geti (pc := 5) h dX1_gives_5 fX1_148 rfl h_a1 ?_
  refine v_bipush (pc := 8) h dX1_gives_8 (v := 99) rfl ?_
  refine v_callR (pc := 10) h dX1_gives_10 kX1_192 rfl (WkS.c h_o) (tX1_tells dp o (8 : Int32) a1 (I a1 3) (99 : Int32) I r h_o h_a1) (by omega) rfl rfl (Nat.le_of_ble_eq_true rfl) ⟨Nat.zero_le _, Nat.zero_le _⟩ (fun r1 I2 s3 => ?_)
  refine v_and (fun h4 => ?_)
  refine v_and (fun h5 => ?_)
  exact v_iretR (pc := 13) h hr ⟨Nat.zero_le _, Nat.zero_le _⟩ dX1_gives_13
set_option maxHeartbeats 4000000 in
theorem tX1_tires {g : Gl}  (dp : Nat) (o : Nat) (a1 : Nat) (I : MI) (r : Rh) (h_o : WkS o r) (h_a1 : rK r a1 = 3) : CtR g yX1_tires cX1_tires 2 (some .int) (dp + 5) 0 0 [.ref o, .ref a1] I r (pX1_tires dp o a1 I r) := by
  refine CtR.mk (lv := [(0, .ref o), (1, .ref a1)]) (by decide) (Nat.le_of_ble_eq_true rfl) rfl (fun x Q h hr => ?_)
  unfold pX1_tires
  refine v_aload_n (pc := 0) h dX1_tires_0 0 rfl rfl ?_
  refine v_bipush (pc := 1) h dX1_tires_1 (v := 9) rfl ?_
  refine v_aload_n (pc := 3) h dX1_tires_3 1 rfl rfl ?_
  refine v_iconst (pc := 4) h dX1_tires_4 (v := 1) rfl ?_
  refine v_bipush (pc := 5) h dX1_tires_5 (v := 20) rfl ?_
  refine v_callR (pc := 7) h dX1_tires_7 kX1_192 rfl (WkS.c h_o) (tX1_tells dp o (9 : Int32) a1 (1 : Int32) (20 : Int32) I r h_o h_a1) (by omega) rfl rfl (Nat.le_of_ble_eq_true rfl) ⟨Nat.zero_le _, Nat.zero_le _⟩ (fun r1 I2 s3 => ?_)
  refine v_and (fun h4 => ?_)
  refine v_and (fun h5 => ?_)
  exact v_iretR (pc := 10) h hr ⟨Nat.zero_le _, Nat.zero_le _⟩ dX1_tires_10
set_option maxHeartbeats 4000000 in
theorem tX1_brings {g : Gl}  (dp : Nat) (o : Nat) (a1 : Int32) (I : MI) (r : Rh) (h_o : WkS o r) : CtR g yX1_brings cX1_brings 6 (some .int) (dp + 6) 0 0 [.ref o, .int a1] I r (pX1_brings dp o a1 I r) := by
  refine CtR.mk (lv := [(0, .ref o), (1, .int a1)]) (by decide) (Nat.le_of_ble_eq_true rfl) rfl (fun x Q h hr => ?_)
  unfold pX1_brings
  refine v_aload_n (pc := 0) h dX1_brings_0 0 rfl rfl ?_
  refine v_getp (pc := 1) h dX1_brings_1 fX1_20 rfl (WkS.c h_o) (WkS.bag h_o).1 ?_
  refine v_getp (pc := 4) h dX1_brings_4 fX1_216 rfl (WkS.bag h_o).2.1 (WkS.bag h_o).2.2.1 ?_
  refine v_iload_n (pc := 7) h dX1_brings_7 1 rfl rfl ?_
  refine v_aaldx (pc := 8) h dX1_brings_8 (t := 3) (WkS.bag h_o).2.2.2.1 rfl rfl (WkS.bag h_o).2.2.2.2.1 (fun b1 h2 h3 => ?_)
  refine v_astore_n (pc := 9) h dX1_brings_9 rfl (by decide) (lv' := [(2, .ref b1), (0, .ref o), (1, .int a1)]) rfl ?_
  refine v_aload_n (pc := 10) h dX1_brings_10 1 rfl rfl ?_
  refine v_aload_n (pc := 11) h dX1_brings_11 0 rfl rfl ?_
  refine v_callR (pc := 12) h dX1_brings_12 kX1_220 rfl (WkS.c h_o) (tX1_opens dp o b1 I r h_o (BgS.lt (WkS.bag h_o).2 h2 h3)) (by omega) rfl rfl (Nat.le_of_ble_eq_true rfl) ⟨Nat.zero_le _, Nat.zero_le _⟩ (fun r4 I5 s6 => ?_)
  refine v_and (fun h7 => ?_)
  refine v_and (fun h8 => ?_)
  refine v_istore_n (pc := 15) h dX1_brings_15 rfl (by decide) (lv' := [(3, .int r4), (2, .ref b1), (0, .ref o), (1, .int a1)]) rfl ?_
  refine v_aload_n (pc := 16) h dX1_brings_16 2 rfl rfl ?_
  refine v_geti (pc := 17) h dX1_brings_17 fX1_133 rfl (WkS.c h8) ?_
  refine v_jn2 (fun t9 I10 => V g x 6 (0, 0) 54 [(0, .ref o), (1, .int a1), (2, .ref b1)] [.int t9] I10 s6) (fun k11 hk11 => ?_) (fun t9 I10 => ?_)
  · refine v_if_eq (pc := 20) (t := 38) h dX1_brings_20 rfl (fun _ => ?_) (fun _ => ?_)
    · refine v_aload_n (pc := 38) h dX1_brings_38 2 rfl rfl ?_
      refine v_sipush (pc := 39) h dX1_brings_39 (v := 1000) rfl ?_
      refine v_callI (pc := 42) h dX1_brings_42 kX1_224 rfl (WkS.c h8) (tX1_draw o (1000 : Int32) I5 s6 h8) (by omega) rfl rfl (Nat.le_of_ble_eq_true rfl) ⟨Nat.zero_le _, Nat.zero_le _⟩ (fun r12 I13 => ?_)
      refine v_iload_n (pc := 45) h dX1_brings_45 0 rfl rfl ?_
      refine v_icmp_ge (pc := 46) (t := 53) h dX1_brings_46 rfl (fun _ => ?_) (fun _ => ?_)
      · refine v_iconst (pc := 53) h dX1_brings_53 (v := 0) rfl ?_
        refine v_sub [2, 3, 1] rfl ?_
        exact hk11 (0 : Int32) I13
      · refine v_iconst (pc := 49) h dX1_brings_49 (v := 1) rfl ?_
        refine v_goto (pc := 50) (t := 54) h dX1_brings_50 rfl ?_
        refine v_sub [2, 3, 1] rfl ?_
        exact hk11 (1 : Int32) I13
    · refine v_iload_n (pc := 23) h dX1_brings_23 0 rfl rfl ?_
      refine v_sipush (pc := 24) h dX1_brings_24 (v := 500) rfl ?_
      refine v_icmp_lt (pc := 27) (t := 34) h dX1_brings_27 rfl (fun _ => ?_) (fun _ => ?_)
      · refine v_iconst (pc := 34) h dX1_brings_34 (v := 0) rfl ?_
        refine v_goto (pc := 35) (t := 54) h dX1_brings_35 rfl ?_
        refine v_sub [2, 3, 1] rfl ?_
        exact hk11 (0 : Int32) I5
      · refine v_iconst (pc := 30) h dX1_brings_30 (v := 1) rfl ?_
        refine v_goto (pc := 31) (t := 54) h dX1_brings_31 rfl ?_
        refine v_sub [2, 3, 1] rfl ?_
        exact hk11 (1 : Int32) I5
  · refine v_istore (pc := 54) h dX1_brings_54 (by decide) (lv' := [(4, .int t9), (0, .ref o), (1, .int a1), (2, .ref b1)]) rfl ?_
    refine v_iconst (pc := 56) h dX1_brings_56 (v := (-1)) rfl ?_
    refine v_istore (pc := 57) h dX1_brings_57 (by decide) (lv' := [(5, .int (-1 : Int32)), (4, .int t9), (0, .ref o), (1, .int a1), (2, .ref b1)]) rfl ?_
    refine v_iload (pc := 59) h dX1_brings_59 1 rfl ?_
    refine v_jn3 (fun v5_14 I15 r16 => V g x 6 (0, 0) 164 [(0, .ref o), (1, .int a1), (2, .ref b1), (4, .int t9), (5, .int v5_14)] [] I15 r16) (fun k17 hk17 => ?_) (fun v5_14 I15 r16 => ?_)
    · refine v_if_eq (pc := 61) (t := 151) h dX1_brings_61 rfl (fun _ => ?_) (fun _ => ?_)
      · refine v_aload_n (pc := 151) h dX1_brings_151 2 rfl rfl ?_
        refine v_iconst (pc := 152) h dX1_brings_152 (v := 2) rfl ?_
        refine v_aload_n (pc := 153) h dX1_brings_153 4 rfl rfl ?_
        refine v_geti (pc := 154) h dX1_brings_154 fX1_238 rfl h7 ?_
        refine v_aload_n (pc := 157) h dX1_brings_157 4 rfl rfl ?_
        refine v_geti (pc := 158) h dX1_brings_158 fX1_141 rfl h7 ?_
        refine v_callV (pc := 161) h dX1_brings_161 kX1_200 rfl (WkS.c h8) (tX1_notes o (2 : Int32) (I10 b1 0) (I10 b1 1) I10 s6 h8) (by omega) rfl rfl (Nat.le_of_ble_eq_true rfl) ⟨Nat.zero_le _, Nat.zero_le _⟩ (fun I20 => ?_)
        refine v_sub [2, 3, 4, 1, 0] rfl ?_
        exact hk17 (-1 : Int32) I20 s6
      · refine v_aload_n (pc := 64) h dX1_brings_64 2 rfl rfl ?_
        refine v_aload_n (pc := 65) h dX1_brings_65 4 rfl rfl ?_
        refine v_callR (pc := 66) h dX1_brings_66 kX1_228 rfl (WkS.c h8) (tX1_gives dp o b1 I10 s6 h8 h7) (by omega) rfl rfl (Nat.le_of_ble_eq_true rfl) ⟨Nat.zero_le _, Nat.zero_le _⟩ (fun r21 I22 s23 => ?_)
        refine v_and (fun h24 => ?_)
        refine v_and (fun h25 => ?_)
        refine v_istore (pc := 69) h dX1_brings_69 (by decide) (lv' := [(5, .int r21), (4, .int t9), (0, .ref o), (1, .int a1), (2, .ref b1)]) rfl ?_
        refine v_aload_n (pc := 71) h dX1_brings_71 4 rfl rfl ?_
        refine v_geti (pc := 72) h dX1_brings_72 fX1_145 rfl h25 ?_
        refine v_iconst (pc := 75) h dX1_brings_75 (v := 1) rfl ?_
        refine v_jn1 (fun v5_26 => V g x 6 (0, 0) 98 [(0, .ref o), (1, .int a1), (2, .ref b1), (4, .int t9), (5, .int v5_26)] [] I22 s23) (fun k27 hk27 => ?_) (fun v5_26 => ?_)
        · refine v_icmp_ne (pc := 76) (t := 98) h dX1_brings_76 rfl (fun _ => ?_) (fun _ => ?_)
          · refine v_sub [2, 3, 4, 1, 0] rfl ?_
            exact hk27 r21
          · refine v_iload (pc := 79) h dX1_brings_79 0 rfl ?_
            refine v_aload_n (pc := 81) h dX1_brings_81 2 rfl rfl ?_
            refine v_getp (pc := 82) h dX1_brings_82 fX1_11 rfl (WkS.c h24) (WkS.dr h24).1 ?_
            refine v_aload_n (pc := 85) h dX1_brings_85 4 rfl rfl ?_
            refine v_geti (pc := 86) h dX1_brings_86 fX1_141 rfl h25 ?_
            refine v_aaldk (pc := 89) h dX1_brings_89 (t := 2) (WkS.dr h24).2.1 rfl rfl (WkS.dr h24).2.2 (fun hin => ((WkS.doors h24) _ (vp_lt hin)).1) (fun h28 => ?_)
            refine v_geti (pc := 90) h dX1_brings_90 fX1_160 rfl ((WkS.doors h24) _ (vp_lt h28)).2 ?_
            refine v_mmin (pc := 93) h dX1_brings_93 q1115 (by omega) (Nat.le_of_ble_eq_true rfl) ⟨Nat.zero_le _, Nat.zero_le _⟩ ?_
            refine v_nmi (fun v29 => ?_)
            refine v_istore (pc := 96) h dX1_brings_96 (by decide) (lv' := [(5, .int v29), (4, .int t9), (0, .ref o), (1, .int a1), (2, .ref b1)]) rfl ?_
            refine v_sub [2, 3, 4, 1, 0] rfl ?_
            exact hk27 v29
        · refine v_aload_n (pc := 98) h dX1_brings_98 0 rfl rfl ?_
          refine v_getp (pc := 99) h dX1_brings_99 fX1_24 rfl (WkS.c h24) (WkS.given h24).1 ?_
          refine v_aload_n (pc := 102) h dX1_brings_102 2 rfl rfl ?_
          refine v_geti (pc := 103) h dX1_brings_103 fX1_145 rfl h25 ?_
          refine v_dup2 (pc := 106) h dX1_brings_106 rfl rfl ?_
          refine v_iald (pc := 107) h dX1_brings_107 (WkS.given h24).2.1 (WkS.given h24).2.2 ?_
          refine v_iload (pc := 108) h dX1_brings_108 4 rfl ?_
          refine v_iadd (pc := 110) h dX1_brings_110 ?_
          refine v_iast (pc := 111) h dX1_brings_111 (WkS.given h24).2.1 (WkS.given h24).2.2 ?_
          refine v_nmI (fun I30 => ?_)
          refine v_aload_n (pc := 112) h dX1_brings_112 0 rfl rfl ?_
          refine v_aload_n (pc := 113) h dX1_brings_113 2 rfl rfl ?_
          refine v_iload (pc := 114) h dX1_brings_114 4 rfl ?_
          refine v_callV (pc := 116) h dX1_brings_116 kX1_231 rfl (WkS.c h24) (tX1_does o b1 v5_26 I30 s23 h24 h25) (by omega) rfl rfl (Nat.le_of_ble_eq_true rfl) ⟨Nat.zero_le _, Nat.zero_le _⟩ (fun I31 => ?_)
          refine v_aload_n (pc := 119) h dX1_brings_119 0 rfl rfl ?_
          refine v_getp (pc := 120) h dX1_brings_120 fX1_11 rfl (WkS.c h24) (WkS.dr h24).1 ?_
          refine v_aload_n (pc := 123) h dX1_brings_123 2 rfl rfl ?_
          refine v_geti (pc := 124) h dX1_brings_124 fX1_141 rfl h25 ?_
          refine v_aaldk (pc := 127) h dX1_brings_127 (t := 2) (WkS.dr h24).2.1 rfl rfl (WkS.dr h24).2.2 (fun hin => ((WkS.doors h24) _ (vp_lt hin)).1) (fun h32 => ?_)
          refine v_dup (pc := 128) h dX1_brings_128 rfl ?_
          refine v_geti (pc := 129) h dX1_brings_129 fX1_235 rfl ((WkS.doors h24) _ (vp_lt h32)).2 ?_
          refine v_iconst (pc := 132) h dX1_brings_132 (v := 1) rfl ?_
          refine v_iadd (pc := 133) h dX1_brings_133 ?_
          refine v_puti (pc := 134) h dX1_brings_134 fX1_235 rfl ((WkS.doors h24) _ (vp_lt h32)).2 ?_
          refine v_nmI (fun I33 => ?_)
          refine v_aload_n (pc := 137) h dX1_brings_137 0 rfl rfl ?_
          refine v_iconst (pc := 138) h dX1_brings_138 (v := 1) rfl ?_
          refine v_aload_n (pc := 139) h dX1_brings_139 2 rfl rfl ?_
          refine v_geti (pc := 140) h dX1_brings_140 fX1_238 rfl h25 ?_
          refine v_iload (pc := 143) h dX1_brings_143 4 rfl ?_
          refine v_callV (pc := 145) h dX1_brings_145 kX1_200 rfl (WkS.c h24) (tX1_notes o (1 : Int32) (I33 b1 0) v5_26 I33 s23 h24) (by omega) rfl rfl (Nat.le_of_ble_eq_true rfl) ⟨Nat.zero_le _, Nat.zero_le _⟩ (fun I34 => ?_)
          refine v_goto (pc := 148) (t := 164) h dX1_brings_148 rfl ?_
          exact hk17 v5_26 I34 s23
    · refine v_and (fun h18 => ?_)
      refine v_and (fun h19 => ?_)
      refine v_aload_n (pc := 164) h dX1_brings_164 0 rfl rfl ?_
      refine v_bipush (pc := 165) h dX1_brings_165 (v := 99) rfl ?_
      refine v_aload_n (pc := 167) h dX1_brings_167 0 rfl rfl ?_
      refine v_geti (pc := 168) h dX1_brings_168 fX1_94 rfl (WkS.c h18) ?_
      refine v_aload_n (pc := 171) h dX1_brings_171 0 rfl rfl ?_
      refine v_aload_n (pc := 172) h dX1_brings_172 2 rfl rfl ?_
      refine v_callR (pc := 173) h dX1_brings_173 kX1_241 rfl (WkS.c h18) (tX1_tires dp o b1 I15 r16 h18 h19) (by omega) rfl rfl (Nat.le_of_ble_eq_true rfl) ⟨Nat.zero_le _, Nat.zero_le _⟩ (fun r35 I36 s37 => ?_)
      refine v_and (fun h38 => ?_)
      refine v_and (fun h39 => ?_)
      refine v_iadd (pc := 176) h dX1_brings_176 ?_
      refine v_mmin (pc := 177) h dX1_brings_177 q1115 (by omega) (Nat.le_of_ble_eq_true rfl) ⟨Nat.zero_le _, Nat.zero_le _⟩ ?_
      refine v_puti (pc := 180) h dX1_brings_180 fX1_94 rfl (WkS.c h38) ?_
      refine v_nmI (fun I40 => ?_)
      refine v_iload (pc := 183) h dX1_brings_183 3 rfl ?_
      refine v_jn2 (fun I41 r42 => V g x 6 (0, 0) 196 [(5, .int v5_14)] [] I41 r42) (fun k43 hk43 => ?_) (fun I41 r42 => ?_)
      · refine v_if_eq (pc := 185) (t := 196) h dX1_brings_185 rfl (fun _ => ?_) (fun _ => ?_)
        · refine v_sub [4] rfl ?_
          exact hk43 I40 s37
        · refine v_aload_n (pc := 188) h dX1_brings_188 0 rfl rfl ?_
          refine v_getp (pc := 189) h dX1_brings_189 fX1_20 rfl (WkS.c h38) (WkS.bag h38).1 ?_
          refine v_iload_n (pc := 192) h dX1_brings_192 1 rfl rfl ?_
          refine v_callW (pc := 193) h dX1_brings_193 kX1_244 rfl (WkS.bag h38).2.1 (tX2_goes (o + 2) a1 I40 s37 (WkS.bag h38).2) (by omega) rfl rfl (Nat.le_of_ble_eq_true rfl) ⟨Nat.zero_le _, Nat.zero_le _⟩ (fun I44 s45 => ?_)
          refine v_and (fun h46 => ?_)
          refine v_and (fun h47 => ?_)
          refine v_sub [4] rfl ?_
          exact hk43 I44 s45
      · refine v_iload (pc := 196) h dX1_brings_196 0 rfl ?_
        exact v_iretR (pc := 198) h hr ⟨Nat.zero_le _, Nat.zero_le _⟩ dX1_brings_198
set_option maxHeartbeats 4000000 in
theorem tX0_bring {g : Gl}  (dp : Nat) (o : Nat) (a1 : Int32) (I : MI) (r : Rh) (h_o : KpS o r) : CtR g yX0_bring cX0_bring 3 (some .int) (dp + 7) 0 0 [.ref o, .int a1] I r (pX0_bring dp o a1 I r) := by
  refine CtR.mk (lv := [(0, .ref o), (1, .int a1)]) (by decide) (Nat.le_of_ble_eq_true rfl) rfl (fun x Q h hr => ?_)
  unfold pX0_bring
  refine v_aload_n (pc := 0) h dX0_bring_0 0 rfl rfl ?_
  refine v_getp (pc := 1) h dX0_bring_1 fX0_20 rfl (KpS.c h_o) (KpS.walk h_o).1 ?_
  refine v_getp (pc := 4) h dX0_bring_4 fX0_195 rfl (WkS.c (KpS.walk h_o).2) (WkS.bag (KpS.walk h_o).2).1 ?_
  refine v_iload_n (pc := 7) h dX0_bring_7 1 rfl rfl ?_
  refine v_callP (pc := 8) h dX0_bring_8 kX0_213 rfl (WkS.bag (KpS.walk h_o).2).2.1 (tX2_place (o + 4) a1 I r (WkS.bag (KpS.walk h_o).2).2) (by omega) rfl rfl (Nat.le_of_ble_eq_true rfl) ⟨Nat.zero_le _, Nat.zero_le _⟩ (fun r1 => ?_)
  refine v_istore_n (pc := 11) h dX0_bring_11 rfl (by decide) (lv' := [(2, .int r1), (0, .ref o), (1, .int a1)]) rfl ?_
  refine v_iload_n (pc := 12) h dX0_bring_12 0 rfl rfl ?_
  refine v_iconst (pc := 13) h dX0_bring_13 (v := (-1)) rfl ?_
  refine v_jn0 (V g x 3 (0, 0) 27 [] [] I r) (fun k2 hk2 => ?_) ?_
  · refine v_icmp_eq (pc := 14) (t := 27) h dX0_bring_14 rfl (fun _ => ?_) (fun _ => ?_)
    · refine v_sub [] rfl ?_
      exact hk2
    · refine v_aload_n (pc := 17) h dX0_bring_17 1 rfl rfl ?_
      refine v_getp (pc := 18) h dX0_bring_18 fX0_20 rfl (KpS.c h_o) (KpS.walk h_o).1 ?_
      refine v_geti (pc := 21) h dX0_bring_21 fX0_186 rfl (WkS.c (KpS.walk h_o).2) ?_
      refine v_if_ne (pc := 24) (t := 30) h dX0_bring_24 rfl (fun _ => ?_) (fun _ => ?_)
      · refine v_aload_n (pc := 30) h dX0_bring_30 1 rfl rfl ?_
        refine v_callW (pc := 31) h dX0_bring_31 kX0_204 rfl (KpS.c h_o) (tX0_remembers o I r h_o) (by omega) rfl rfl (Nat.le_of_ble_eq_true rfl) ⟨Nat.zero_le _, Nat.zero_le _⟩ (fun I3 s4 => ?_)
        refine v_and (fun h5 => ?_)
        refine v_aload_n (pc := 34) h dX0_bring_34 1 rfl rfl ?_
        refine v_getp (pc := 35) h dX0_bring_35 fX0_20 rfl (KpS.c h5) (KpS.walk h5).1 ?_
        refine v_iload_n (pc := 38) h dX0_bring_38 0 rfl rfl ?_
        refine v_callR (pc := 39) h dX0_bring_39 kX0_215 rfl (WkS.c (KpS.walk h5).2) (tX1_brings dp (o + 2) r1 I3 s4 (KpS.walk h5).2) (by omega) rfl rfl (Nat.le_of_ble_eq_true rfl) ⟨Nat.zero_le _, Nat.zero_le _⟩ (fun r6 I7 s8 => ?_)
        refine v_and (fun h9 => ?_)
        exact v_iretR (pc := 42) h hr ⟨Nat.zero_le _, Nat.zero_le _⟩ dX0_bring_42
      · refine v_sub [] rfl ?_
        exact hk2
  · refine v_bipush (pc := 27) h dX0_bring_27 (v := (-2)) rfl ?_
    exact v_iretR (pc := 29) h hr ⟨Nat.zero_le _, Nat.zero_le _⟩ dX0_bring_29
set_option maxHeartbeats 4000000 in
theorem tX1_goesTo {g : Gl}  (dp : Nat) (o : Nat) (a1 : Int32) (I : MI) (r : Rh) (h_o : WkS o r) : CtR g yX1_goesTo cX1_goesTo 5 (some .int) (dp + 7) 0 0 [.ref o, .int a1] I r (pX1_goesTo dp o a1 I r) := by
  refine CtR.mk (lv := [(0, .ref o), (1, .int a1)]) (by decide) (Nat.le_of_ble_eq_true rfl) rfl (fun x Q h hr => ?_)
  unfold pX1_goesTo
  refine v_iconst (pc := 0) h dX1_goesTo_0 (v := 0) rfl ?_
  refine v_istore_n (pc := 1) h dX1_goesTo_1 rfl (by decide) (lv' := [(2, .int (0 : Int32)), (0, .ref o), (1, .int a1)]) rfl ?_
  refine v_iconst (pc := 2) h dX1_goesTo_2 (v := 0) rfl ?_
  refine v_istore_n (pc := 3) h dX1_goesTo_3 rfl (by decide) (lv' := [(3, .int (0 : Int32)), (2, .int (0 : Int32)), (0, .ref o), (1, .int a1)]) rfl ?_
  refine v_sub [2, 3, 1, 0] rfl ?_
  refine L4.run (lv := fun i2_1 i3_2 I3 r4 => [(0, .ref o), (1, .int a1), (2, .int i2_1), (3, .int i3_2)]) (st := fun i2_1 i3_2 I3 r4 => []) (Im := fun i2_1 i3_2 I3 r4 => I3) (r := fun i2_1 i3_2 I3 r4 => r4) (fun X5 hX5 i2_1 i3_2 I3 r4 => ?_) (0 : Int32) (0 : Int32) I r
  refine v_and (fun h6 => ?_)
  refine v_iload_n (pc := 4) h dX1_goesTo_4 3 rfl rfl ?_
  refine v_aload_n (pc := 5) h dX1_goesTo_5 0 rfl rfl ?_
  refine v_getp (pc := 6) h dX1_goesTo_6 fX1_20 rfl (WkS.c h6) (WkS.bag h6).1 ?_
  refine v_geti (pc := 9) h dX1_goesTo_9 fX1_257 rfl (WkS.bag h6).2.1 ?_
  refine v_icmp_ge (pc := 12) (t := 92) h dX1_goesTo_12 rfl (fun _ => ?_) (fun _ => ?_)
  · refine v_iload_n (pc := 92) h dX1_goesTo_92 2 rfl rfl ?_
    exact v_iretR (pc := 93) h hr ⟨Nat.zero_le _, Nat.zero_le _⟩ dX1_goesTo_93
  · refine v_aload_n (pc := 15) h dX1_goesTo_15 0 rfl rfl ?_
    refine v_getp (pc := 16) h dX1_goesTo_16 fX1_20 rfl (WkS.c h6) (WkS.bag h6).1 ?_
    refine v_getp (pc := 19) h dX1_goesTo_19 fX1_216 rfl (WkS.bag h6).2.1 (WkS.bag h6).2.2.1 ?_
    refine v_iload_n (pc := 22) h dX1_goesTo_22 3 rfl rfl ?_
    refine v_aaldx (pc := 23) h dX1_goesTo_23 (t := 3) (WkS.bag h6).2.2.2.1 rfl rfl (WkS.bag h6).2.2.2.2.1 (fun b7 h8 h9 => ?_)
    refine v_geti (pc := 24) h dX1_goesTo_24 fX1_141 rfl (BgS.lt (WkS.bag h6).2 h8 h9) ?_
    refine v_iload_n (pc := 27) h dX1_goesTo_27 1 rfl rfl ?_
    refine v_jn3 (fun t10 I11 r12 => V g x 5 (0, 0) 61 [(0, .ref o), (1, .int a1), (2, .int i2_1), (3, .int i3_2)] [.int t10] I11 r12) (fun k13 hk13 => ?_) (fun t10 I11 r12 => ?_)
    · refine v_jn2 (fun I15 r16 => V g x 5 (0, 0) 60 [(0, .ref o), (1, .int a1), (2, .int i2_1), (3, .int i3_2)] [] I15 r16) (fun k17 hk17 => ?_) (fun I15 r16 => ?_)
      · refine v_icmp_ne (pc := 28) (t := 60) h dX1_goesTo_28 rfl (fun _ => ?_) (fun _ => ?_)
        · exact hk17 I3 r4
        · refine v_aload_n (pc := 31) h dX1_goesTo_31 0 rfl rfl ?_
          refine v_geti (pc := 32) h dX1_goesTo_32 fX1_94 rfl (WkS.c h6) ?_
          refine v_bipush (pc := 35) h dX1_goesTo_35 (v := 24) rfl ?_
          refine v_icmp_ge (pc := 37) (t := 60) h dX1_goesTo_37 rfl (fun _ => ?_) (fun _ => ?_)
          · exact hk17 I3 r4
          · refine v_aload_n (pc := 40) h dX1_goesTo_40 0 rfl rfl ?_
            refine v_geti (pc := 41) h dX1_goesTo_41 fX1_73 rfl (WkS.c h6) ?_
            refine v_if_le (pc := 44) (t := 60) h dX1_goesTo_44 rfl (fun _ => ?_) (fun _ => ?_)
            · exact hk17 I3 r4
            · refine v_aload_n (pc := 47) h dX1_goesTo_47 0 rfl rfl ?_
              refine v_iload_n (pc := 48) h dX1_goesTo_48 3 rfl rfl ?_
              refine v_callR (pc := 49) h dX1_goesTo_49 kX1_260 rfl (WkS.c h6) (tX1_brings dp o i3_2 I3 r4 h6) (by omega) rfl rfl (Nat.le_of_ble_eq_true rfl) ⟨Nat.zero_le _, Nat.zero_le _⟩ (fun r19 I20 s21 => ?_)
              refine v_and (fun h22 => ?_)
              refine v_iconst (pc := 52) h dX1_goesTo_52 (v := (-1)) rfl ?_
              refine v_icmp_eq (pc := 53) (t := 60) h dX1_goesTo_53 rfl (fun _ => ?_) (fun _ => ?_)
              · exact hk17 I20 s21
              · refine v_iconst (pc := 56) h dX1_goesTo_56 (v := 1) rfl ?_
                refine v_goto (pc := 57) (t := 61) h dX1_goesTo_57 rfl ?_
                exact hk13 (1 : Int32) I20 s21
      · refine v_and (fun h18 => ?_)
        refine v_iconst (pc := 60) h dX1_goesTo_60 (v := 0) rfl ?_
        exact hk13 (0 : Int32) I15 r16
    · refine v_and (fun h14 => ?_)
      refine v_istore (pc := 61) h dX1_goesTo_61 (by decide) (lv' := [(4, .int t10), (0, .ref o), (1, .int a1), (2, .int i2_1), (3, .int i3_2)]) rfl ?_
      refine v_iload_n (pc := 63) h dX1_goesTo_63 3 rfl rfl ?_
      refine v_iload (pc := 64) h dX1_goesTo_64 0 rfl ?_
      refine v_jn1 (fun t23 => V g x 5 (0, 0) 74 [(0, .ref o), (1, .int a1), (3, .int i3_2), (4, .int t10)] [.int t23, .int i2_1] I11 r12) (fun k24 hk24 => ?_) (fun t23 => ?_)
      · refine v_if_eq (pc := 66) (t := 73) h dX1_goesTo_66 rfl (fun _ => ?_) (fun _ => ?_)
        · refine v_iconst (pc := 73) h dX1_goesTo_73 (v := 0) rfl ?_
          refine v_sub [1, 2, 4, 0] rfl ?_
          exact hk24 (0 : Int32)
        · refine v_iconst (pc := 69) h dX1_goesTo_69 (v := 1) rfl ?_
          refine v_goto (pc := 70) (t := 74) h dX1_goesTo_70 rfl ?_
          refine v_sub [1, 2, 4, 0] rfl ?_
          exact hk24 (1 : Int32)
      · refine v_iadd (pc := 74) h dX1_goesTo_74 ?_
        refine v_nmi (fun v25 => ?_)
        refine v_istore_n (pc := 75) h dX1_goesTo_75 rfl (by decide) (lv' := [(2, .int v25), (0, .ref o), (1, .int a1), (3, .int i3_2), (4, .int t10)]) rfl ?_
        refine v_iload_n (pc := 76) h dX1_goesTo_76 3 rfl rfl ?_
        refine v_iload (pc := 77) h dX1_goesTo_77 4 rfl ?_
        refine v_jn1 (fun t26 => V g x 5 (0, 0) 87 [(0, .ref o), (1, .int a1), (2, .int v25)] [.int t26, .int i3_2] I11 r12) (fun k27 hk27 => ?_) (fun t26 => ?_)
        · refine v_if_eq (pc := 79) (t := 86) h dX1_goesTo_79 rfl (fun _ => ?_) (fun _ => ?_)
          · refine v_iconst (pc := 86) h dX1_goesTo_86 (v := 1) rfl ?_
            refine v_sub [1, 2, 0] rfl ?_
            exact hk27 (1 : Int32)
          · refine v_iconst (pc := 82) h dX1_goesTo_82 (v := 0) rfl ?_
            refine v_goto (pc := 83) (t := 87) h dX1_goesTo_83 rfl ?_
            refine v_sub [1, 2, 0] rfl ?_
            exact hk27 (0 : Int32)
        · refine v_iadd (pc := 87) h dX1_goesTo_87 ?_
          refine v_nmi (fun v28 => ?_)
          refine v_istore_n (pc := 88) h dX1_goesTo_88 rfl (by decide) (lv' := [(3, .int v28), (0, .ref o), (1, .int a1), (2, .int v25)]) rfl ?_
          refine v_goto (pc := 89) (t := 4) h dX1_goesTo_89 rfl ?_
          refine v_sub [1, 2, 3, 0] rfl ?_
          exact hX5 v25 v28 I11 r12
set_option maxHeartbeats 4000000 in
theorem tX1_passes {g : Gl}  (dp : Nat) (o : Nat) (I : MI) (r : Rh) (h_o : WkS o r) : CtR g yX1_passes cX1_passes 5 (some .int) (dp + 8) 0 0 [.ref o] I r (pX1_passes dp o I r) := by
  refine CtR.mk (lv := [(0, .ref o)]) (by decide) (Nat.le_of_ble_eq_true rfl) rfl (fun x Q h hr => ?_)
  unfold pX1_passes
  refine v_aload_n (pc := 0) h dX1_passes_0 0 rfl rfl ?_
  refine v_iconst (pc := 1) h dX1_passes_1 (v := 0) rfl ?_
  refine v_puti (pc := 2) h dX1_passes_2 fX1_94 rfl (WkS.c h_o) ?_
  refine v_nmI (fun I1 => ?_)
  refine v_aload_n (pc := 5) h dX1_passes_5 0 rfl rfl ?_
  refine v_callV (pc := 6) h dX1_passes_6 kX1_263 rfl (WkS.c h_o) (tX1_isPosted o I1 r h_o) (by omega) rfl rfl (Nat.le_of_ble_eq_true rfl) ⟨Nat.zero_le _, Nat.zero_le _⟩ (fun I2 => ?_)
  refine v_iconst (pc := 9) h dX1_passes_9 (v := 0) rfl ?_
  refine v_istore_n (pc := 10) h dX1_passes_10 rfl (by decide) (lv' := [(1, .int (0 : Int32)), (0, .ref o)]) rfl ?_
  refine v_iconst (pc := 11) h dX1_passes_11 (v := 0) rfl ?_
  refine v_istore_n (pc := 12) h dX1_passes_12 rfl (by decide) (lv' := [(2, .int (0 : Int32)), (1, .int (0 : Int32)), (0, .ref o)]) rfl ?_
  refine v_iconst (pc := 13) h dX1_passes_13 (v := 0) rfl ?_
  refine v_istore_n (pc := 14) h dX1_passes_14 rfl (by decide) (lv' := [(3, .int (0 : Int32)), (2, .int (0 : Int32)), (1, .int (0 : Int32)), (0, .ref o)]) rfl ?_
  refine v_sub [3, 2, 1, 0] rfl ?_
  refine L5.run (lv := fun i1_3 i2_4 i3_5 I6 r7 => [(0, .ref o), (1, .int i1_3), (2, .int i2_4), (3, .int i3_5)]) (st := fun i1_3 i2_4 i3_5 I6 r7 => []) (Im := fun i1_3 i2_4 i3_5 I6 r7 => I6) (r := fun i1_3 i2_4 i3_5 I6 r7 => r7) (fun X8 hX8 i1_3 i2_4 i3_5 I6 r7 => ?_) (0 : Int32) (0 : Int32) (0 : Int32) I2 r
  refine v_and (fun h9 => ?_)
  refine v_iload_n (pc := 15) h dX1_passes_15 3 rfl rfl ?_
  refine v_aload_n (pc := 16) h dX1_passes_16 0 rfl rfl ?_
  refine v_geti (pc := 17) h dX1_passes_17 fX1_119 rfl (WkS.c h9) ?_
  refine v_icmp_ge (pc := 20) (t := 66) h dX1_passes_20 rfl (fun _ => ?_) (fun _ => ?_)
  · refine v_aload_n (pc := 66) h dX1_passes_66 0 rfl rfl ?_
    refine v_callW (pc := 67) h dX1_passes_67 kX1_269 rfl (WkS.c h9) (tX1_ages o I6 r7 h9) (by omega) rfl rfl (Nat.le_of_ble_eq_true rfl) ⟨Nat.zero_le _, Nat.zero_le _⟩ (fun I10 s11 => ?_)
    refine v_and (fun h12 => ?_)
    refine v_aload_n (pc := 70) h dX1_passes_70 0 rfl rfl ?_
    refine v_bipush (pc := 71) h dX1_passes_71 (v := 99) rfl ?_
    refine v_aload_n (pc := 73) h dX1_passes_73 0 rfl rfl ?_
    refine v_geti (pc := 74) h dX1_passes_74 fX1_85 rfl (WkS.c h12) ?_
    refine v_iconst (pc := 77) h dX1_passes_77 (v := 5) rfl ?_
    refine v_iadd (pc := 78) h dX1_passes_78 ?_
    refine v_mmin (pc := 79) h dX1_passes_79 q1115 (by omega) (Nat.le_of_ble_eq_true rfl) ⟨Nat.zero_le _, Nat.zero_le _⟩ ?_
    refine v_puti (pc := 82) h dX1_passes_82 fX1_85 rfl (WkS.c h12) ?_
    refine v_nmI (fun I13 => ?_)
    refine v_aload_n (pc := 85) h dX1_passes_85 0 rfl rfl ?_
    refine v_aload_n (pc := 86) h dX1_passes_86 0 rfl rfl ?_
    refine v_geti (pc := 87) h dX1_passes_87 fX1_73 rfl (WkS.c h12) ?_
    refine v_aload_n (pc := 90) h dX1_passes_90 0 rfl rfl ?_
    refine v_geti (pc := 91) h dX1_passes_91 fX1_85 rfl (WkS.c h12) ?_
    refine v_bipush (pc := 94) h dX1_passes_94 (v := 50) rfl ?_
    refine v_jn1 (fun t14 => V g x 5 (0, 0) 105 [(0, .ref o), (1, .int i1_3), (2, .int i2_4)] [.int t14, .int (I13 o 15), .ref o] I13 s11) (fun k15 hk15 => ?_) (fun t14 => ?_)
    · refine v_icmp_le (pc := 96) (t := 104) h dX1_passes_96 rfl (fun _ => ?_) (fun _ => ?_)
      · refine v_iconst (pc := 104) h dX1_passes_104 (v := 3) rfl ?_
        refine v_sub [0, 1, 2] rfl ?_
        exact hk15 (3 : Int32)
      · refine v_bipush (pc := 99) h dX1_passes_99 (v := (-5)) rfl ?_
        refine v_goto (pc := 101) (t := 105) h dX1_passes_101 rfl ?_
        refine v_sub [0, 1, 2] rfl ?_
        exact hk15 (-5 : Int32)
    · refine v_iadd (pc := 105) h dX1_passes_105 ?_
      refine v_iconst (pc := 106) h dX1_passes_106 (v := 0) rfl ?_
      refine v_bipush (pc := 107) h dX1_passes_107 (v := 99) rfl ?_
      refine v_callsp (pc := 109) h dX1_passes_109 sX1_188 (tX0_held ((I13 o 15) + t14) (0 : Int32) (99 : Int32) I13 s11 ) (by omega) rfl rfl (Nat.le_of_ble_eq_true rfl) ⟨Nat.zero_le _, Nat.zero_le _⟩ (fun r16 => ?_)
      refine v_puti (pc := 112) h dX1_passes_112 fX1_73 rfl (WkS.c h12) ?_
      refine v_nmI (fun I17 => ?_)
      refine v_iconst (pc := 115) h dX1_passes_115 (v := 0) rfl ?_
      refine v_istore_n (pc := 116) h dX1_passes_116 rfl (by decide) (lv' := [(3, .int (0 : Int32)), (0, .ref o), (1, .int i1_3), (2, .int i2_4)]) rfl ?_
      refine v_sub [1, 2, 3, 0] rfl ?_
      refine L2.run (lv := fun i3_18 I19 => [(0, .ref o), (1, .int i1_3), (2, .int i2_4), (3, .int i3_18)]) (st := fun i3_18 I19 => []) (Im := fun i3_18 I19 => I19) (r := fun i3_18 I19 => s11) (fun X20 hX20 i3_18 I19 => ?_) (0 : Int32) I17
      refine v_iload_n (pc := 117) h dX1_passes_117 3 rfl rfl ?_
      refine v_aload_n (pc := 118) h dX1_passes_118 0 rfl rfl ?_
      refine v_geti (pc := 119) h dX1_passes_119 fX1_116 rfl (WkS.c h12) ?_
      refine v_icmp_ge (pc := 122) (t := 148) h dX1_passes_122 rfl (fun _ => ?_) (fun _ => ?_)
      · refine v_aload_n (pc := 148) h dX1_passes_148 0 rfl rfl ?_
        refine v_dup (pc := 149) h dX1_passes_149 rfl ?_
        refine v_geti (pc := 150) h dX1_passes_150 fX1_100 rfl (WkS.c h12) ?_
        refine v_iconst (pc := 153) h dX1_passes_153 (v := 1) rfl ?_
        refine v_iadd (pc := 154) h dX1_passes_154 ?_
        refine v_puti (pc := 155) h dX1_passes_155 fX1_100 rfl (WkS.c h12) ?_
        refine v_nmI (fun I21 => ?_)
        refine v_iload_n (pc := 158) h dX1_passes_158 1 rfl rfl ?_
        exact v_iretR (pc := 159) h hr ⟨Nat.zero_le _, Nat.zero_le _⟩ dX1_passes_159
      · refine v_iload_n (pc := 125) h dX1_passes_125 2 rfl rfl ?_
        refine v_iload_n (pc := 126) h dX1_passes_126 3 rfl rfl ?_
        refine v_ishr (pc := 127) h dX1_passes_127 ?_
        refine v_iconst (pc := 128) h dX1_passes_128 (v := 1) rfl ?_
        refine v_iand (pc := 129) h dX1_passes_129 ?_
        refine v_jn1 (fun I22 => V g x 5 (0, 0) 142 [(0, .ref o), (1, .int i1_3), (2, .int i2_4), (3, .int i3_18)] [] I22 s11) (fun k23 hk23 => ?_) (fun I22 => ?_)
        · refine v_if_ne (pc := 130) (t := 142) h dX1_passes_130 rfl (fun _ => ?_) (fun _ => ?_)
          · exact hk23 I19
          · refine v_aload_n (pc := 133) h dX1_passes_133 0 rfl rfl ?_
            refine v_getp (pc := 134) h dX1_passes_134 fX1_11 rfl (WkS.c h12) (WkS.dr h12).1 ?_
            refine v_iload_n (pc := 137) h dX1_passes_137 3 rfl rfl ?_
            refine v_aaldk (pc := 138) h dX1_passes_138 (t := 2) (WkS.dr h12).2.1 rfl rfl (WkS.dr h12).2.2 (fun hin => ((WkS.doors h12) _ (vp_lt hin)).1) (fun h24 => ?_)
            refine v_callV (pc := 139) h dX1_passes_139 kX1_272 rfl ((WkS.doors h12) _ (vp_lt h24)).2 (tX5_calms (o + 247 + i3_18.toNatClampNeg) I19 s11 ((WkS.doors h12) _ (vp_lt h24)).2) (by omega) rfl rfl (Nat.le_of_ble_eq_true rfl) ⟨Nat.zero_le _, Nat.zero_le _⟩ (fun I25 => ?_)
            exact hk23 I25
        · refine v_iinc (pc := 142) h dX1_passes_142 3 rfl (w := (i3_18 + (1 : Int32))) rfl (by decide) (lv' := [(3, .int (i3_18 + (1 : Int32))), (0, .ref o), (1, .int i1_3), (2, .int i2_4)]) rfl ?_
          refine v_goto (pc := 145) (t := 117) h dX1_passes_145 rfl ?_
          refine v_sub [1, 2, 3, 0] rfl ?_
          exact hX20 (i3_18 + (1 : Int32)) I22
  · refine v_aload_n (pc := 23) h dX1_passes_23 0 rfl rfl ?_
    refine v_aload_n (pc := 24) h dX1_passes_24 0 rfl rfl ?_
    refine v_getx (pc := 25) h dX1_passes_25 fX1_67 rfl (WkS.c h9) (fun b26 h27 => ?_)
    refine v_and (fun h28 => ?_)
    refine v_iload_n (pc := 28) h dX1_passes_28 3 rfl rfl ?_
    refine v_iald (pc := 29) h dX1_passes_29 h28 rfl ?_
    refine v_callR (pc := 30) h dX1_passes_30 kX1_266 rfl (WkS.c h9) (tX1_goesTo dp o (I6 b26 i3_5.toNatClampNeg) I6 r7 h9) (by omega) rfl rfl (Nat.le_of_ble_eq_true rfl) ⟨Nat.zero_le _, Nat.zero_le _⟩ (fun r29 I30 s31 => ?_)
    refine v_and (fun h32 => ?_)
    refine v_istore (pc := 33) h dX1_passes_33 (by decide) (lv' := [(4, .int r29), (0, .ref o), (1, .int i1_3), (2, .int i2_4), (3, .int i3_5)]) rfl ?_
    refine v_iload_n (pc := 35) h dX1_passes_35 2 rfl rfl ?_
    refine v_iload (pc := 36) h dX1_passes_36 0 rfl ?_
    refine v_iadd (pc := 38) h dX1_passes_38 ?_
    refine v_nmi (fun v33 => ?_)
    refine v_istore_n (pc := 39) h dX1_passes_39 rfl (by decide) (lv' := [(1, .int v33), (4, .int r29), (0, .ref o), (2, .int i2_4), (3, .int i3_5)]) rfl ?_
    refine v_iload_n (pc := 40) h dX1_passes_40 3 rfl rfl ?_
    refine v_iload (pc := 41) h dX1_passes_41 1 rfl ?_
    refine v_jn1 (fun t34 => V g x 5 (0, 0) 58 [(0, .ref o), (1, .int v33), (3, .int i3_5)] [.int t34, .int i2_4] I30 s31) (fun k35 hk35 => ?_) (fun t34 => ?_)
    · refine v_if_le (pc := 43) (t := 57) h dX1_passes_43 rfl (fun _ => ?_) (fun _ => ?_)
      · refine v_iconst (pc := 57) h dX1_passes_57 (v := 0) rfl ?_
        refine v_sub [2, 0, 4] rfl ?_
        exact hk35 (0 : Int32)
      · refine v_iconst (pc := 46) h dX1_passes_46 (v := 1) rfl ?_
        refine v_aload_n (pc := 47) h dX1_passes_47 2 rfl rfl ?_
        refine v_getx (pc := 48) h dX1_passes_48 fX1_67 rfl (WkS.c h32) (fun b36 h37 => ?_)
        refine v_and (fun h38 => ?_)
        refine v_iload_n (pc := 51) h dX1_passes_51 4 rfl rfl ?_
        refine v_iald (pc := 52) h dX1_passes_52 h38 rfl ?_
        refine v_ishl (pc := 53) h dX1_passes_53 ?_
        refine v_goto (pc := 54) (t := 58) h dX1_passes_54 rfl ?_
        refine v_sub [2, 0, 4] rfl ?_
        exact hk35 (sl (1 : Int32) (I30 b36 i3_5.toNatClampNeg))
    · refine v_ior (pc := 58) h dX1_passes_58 ?_
      refine v_nmi (fun v39 => ?_)
      refine v_istore_n (pc := 59) h dX1_passes_59 rfl (by decide) (lv' := [(2, .int v39), (0, .ref o), (1, .int v33), (3, .int i3_5)]) rfl ?_
      refine v_iinc (pc := 60) h dX1_passes_60 3 rfl (w := (i3_5 + (1 : Int32))) rfl (by decide) (lv' := [(3, .int (i3_5 + (1 : Int32))), (2, .int v39), (0, .ref o), (1, .int v33)]) rfl ?_
      refine v_goto (pc := 63) (t := 15) h dX1_passes_63 rfl ?_
      refine v_sub [2, 3, 1, 0] rfl ?_
      exact hX8 v33 v39 (i3_5 + (1 : Int32)) I30 s31
set_option maxHeartbeats 4000000 in
theorem tX0_days {g : Gl}  (dp : Nat) (o : Nat) (a1 : Int32) (I : MI) (r : Rh) (h_o : KpS o r) : CtR g yX0_days cX0_days 4 (some .int) (dp + 9) 0 0 [.ref o, .int a1] I r (pX0_days dp o a1 I r) := by
  refine CtR.mk (lv := [(0, .ref o), (1, .int a1)]) (by decide) (Nat.le_of_ble_eq_true rfl) rfl (fun x Q h hr => ?_)
  unfold pX0_days
  refine v_iload_n (pc := 0) h dX0_days_0 1 rfl rfl ?_
  refine v_iconst (pc := 1) h dX0_days_1 (v := 1) rfl ?_
  refine v_bipush (pc := 2) h dX0_days_2 (v := 60) rfl ?_
  refine v_callsp (pc := 4) h dX0_days_4 sX0_78 (tX0_isIn a1 (1 : Int32) (60 : Int32) I r ) (by omega) rfl rfl (Nat.le_of_ble_eq_true rfl) ⟨Nat.zero_le _, Nat.zero_le _⟩ (fun r1 => ?_)
  refine v_if_eq (pc := 7) (t := 25) h dX0_days_7 rfl (fun _ => ?_) (fun _ => ?_)
  · refine v_iconst (pc := 25) h dX0_days_25 (v := (-1)) rfl ?_
    exact v_iretR (pc := 26) h hr ⟨Nat.zero_le _, Nat.zero_le _⟩ dX0_days_26
  · refine v_aload_n (pc := 10) h dX0_days_10 0 rfl rfl ?_
    refine v_getp (pc := 11) h dX0_days_11 fX0_20 rfl (KpS.c h_o) (KpS.walk h_o).1 ?_
    refine v_geti (pc := 14) h dX0_days_14 fX0_221 rfl (WkS.c (KpS.walk h_o).2) ?_
    refine v_iload_n (pc := 17) h dX0_days_17 1 rfl rfl ?_
    refine v_iadd (pc := 18) h dX0_days_18 ?_
    refine v_sipush (pc := 19) h dX0_days_19 (v := 9999) rfl ?_
    refine v_icmp_le (pc := 22) (t := 27) h dX0_days_22 rfl (fun _ => ?_) (fun _ => ?_)
    · refine v_iconst (pc := 27) h dX0_days_27 (v := 0) rfl ?_
      refine v_istore_n (pc := 28) h dX0_days_28 rfl (by decide) (lv' := [(2, .int (0 : Int32)), (0, .ref o), (1, .int a1)]) rfl ?_
      refine v_iconst (pc := 29) h dX0_days_29 (v := 0) rfl ?_
      refine v_istore_n (pc := 30) h dX0_days_30 rfl (by decide) (lv' := [(3, .int (0 : Int32)), (2, .int (0 : Int32)), (0, .ref o), (1, .int a1)]) rfl ?_
      refine v_sub [2, 3, 1, 0] rfl ?_
      refine L4.run (lv := fun i2_2 i3_3 I4 r5 => [(0, .ref o), (1, .int a1), (2, .int i2_2), (3, .int i3_3)]) (st := fun i2_2 i3_3 I4 r5 => []) (Im := fun i2_2 i3_3 I4 r5 => I4) (r := fun i2_2 i3_3 I4 r5 => r5) (fun X6 hX6 i2_2 i3_3 I4 r5 => ?_) (0 : Int32) (0 : Int32) I r
      refine v_and (fun h7 => ?_)
      refine v_iload_n (pc := 31) h dX0_days_31 3 rfl rfl ?_
      refine v_iload_n (pc := 32) h dX0_days_32 1 rfl rfl ?_
      refine v_icmp_ge (pc := 33) (t := 56) h dX0_days_33 rfl (fun _ => ?_) (fun _ => ?_)
      · refine v_iload_n (pc := 56) h dX0_days_56 2 rfl rfl ?_
        exact v_iretR (pc := 57) h hr ⟨Nat.zero_le _, Nat.zero_le _⟩ dX0_days_57
      · refine v_aload_n (pc := 36) h dX0_days_36 0 rfl rfl ?_
        refine v_callW (pc := 37) h dX0_days_37 kX0_204 rfl (KpS.c h7) (tX0_remembers o I4 r5 h7) (by omega) rfl rfl (Nat.le_of_ble_eq_true rfl) ⟨Nat.zero_le _, Nat.zero_le _⟩ (fun I8 s9 => ?_)
        refine v_and (fun h10 => ?_)
        refine v_iload_n (pc := 40) h dX0_days_40 2 rfl rfl ?_
        refine v_aload_n (pc := 41) h dX0_days_41 0 rfl rfl ?_
        refine v_getp (pc := 42) h dX0_days_42 fX0_20 rfl (KpS.c h10) (KpS.walk h10).1 ?_
        refine v_callR (pc := 45) h dX0_days_45 kX0_224 rfl (WkS.c (KpS.walk h10).2) (tX1_passes dp (o + 2) I8 s9 (KpS.walk h10).2) (by omega) rfl rfl (Nat.le_of_ble_eq_true rfl) ⟨Nat.zero_le _, Nat.zero_le _⟩ (fun r11 I12 s13 => ?_)
        refine v_and (fun h14 => ?_)
        refine v_iadd (pc := 48) h dX0_days_48 ?_
        refine v_nmi (fun v15 => ?_)
        refine v_istore_n (pc := 49) h dX0_days_49 rfl (by decide) (lv' := [(2, .int v15), (0, .ref o), (1, .int a1), (3, .int i3_3)]) rfl ?_
        refine v_iinc (pc := 50) h dX0_days_50 3 rfl (w := (i3_3 + (1 : Int32))) rfl (by decide) (lv' := [(3, .int (i3_3 + (1 : Int32))), (2, .int v15), (0, .ref o), (1, .int a1)]) rfl ?_
        refine v_goto (pc := 53) (t := 31) h dX0_days_53 rfl ?_
        refine v_sub [2, 3, 1, 0] rfl ?_
        exact hX6 v15 (i3_3 + (1 : Int32)) I12 s13
    · refine v_iconst (pc := 25) h dX0_days_25 (v := (-1)) rfl ?_
      exact v_iretR (pc := 26) h hr ⟨Nat.zero_le _, Nat.zero_le _⟩ dX0_days_26
set_option maxHeartbeats 4000000 in
theorem tX0_letter {g : Gl}  (dp : Nat) (o : Nat) (a1 : Int32) (a2 : Int32) (I : MI) (r : Rh) (h_o : KpS o r) : CtR g yX0_letter cX0_letter 4 (some .int) (dp + 6) 0 0 [.ref o, .int a1, .int a2] I r (pX0_letter dp o a1 a2 I r) := by
  refine CtR.mk (lv := [(0, .ref o), (1, .int a1), (2, .int a2)]) (by decide) (Nat.le_of_ble_eq_true rfl) rfl (fun x Q h hr => ?_)
  unfold pX0_letter
  refine v_iload_n (pc := 0) h dX0_letter_0 1 rfl rfl ?_
  refine v_iconst (pc := 1) h dX0_letter_1 (v := 0) rfl ?_
  refine v_aload_n (pc := 2) h dX0_letter_2 0 rfl rfl ?_
  refine v_getp (pc := 3) h dX0_letter_3 fX0_20 rfl (KpS.c h_o) (KpS.walk h_o).1 ?_
  refine v_getp (pc := 6) h dX0_letter_6 fX0_195 rfl (WkS.c (KpS.walk h_o).2) (WkS.bag (KpS.walk h_o).2).1 ?_
  refine v_geti (pc := 9) h dX0_letter_9 fX0_199 rfl (WkS.bag (KpS.walk h_o).2).2.1 ?_
  refine v_iconst (pc := 12) h dX0_letter_12 (v := 1) rfl ?_
  refine v_isub (pc := 13) h dX0_letter_13 ?_
  refine v_callsp (pc := 14) h dX0_letter_14 sX0_78 (tX0_isIn a1 (0 : Int32) ((I (o + 4) 1) - (1 : Int32)) I r ) (by omega) rfl rfl (Nat.le_of_ble_eq_true rfl) ⟨Nat.zero_le _, Nat.zero_le _⟩ (fun r1 => ?_)
  refine v_if_ne (pc := 17) (t := 22) h dX0_letter_17 rfl (fun _ => ?_) (fun _ => ?_)
  · refine v_aload_n (pc := 22) h dX0_letter_22 0 rfl rfl ?_
    refine v_getp (pc := 23) h dX0_letter_23 fX0_20 rfl (KpS.c h_o) (KpS.walk h_o).1 ?_
    refine v_getp (pc := 26) h dX0_letter_26 fX0_195 rfl (WkS.c (KpS.walk h_o).2) (WkS.bag (KpS.walk h_o).2).1 ?_
    refine v_getp (pc := 29) h dX0_letter_29 fX0_235 rfl (WkS.bag (KpS.walk h_o).2).2.1 (WkS.bag (KpS.walk h_o).2).2.2.1 ?_
    refine v_iload_n (pc := 32) h dX0_letter_32 1 rfl rfl ?_
    refine v_aaldx (pc := 33) h dX0_letter_33 (t := 3) (WkS.bag (KpS.walk h_o).2).2.2.2.1 rfl rfl (WkS.bag (KpS.walk h_o).2).2.2.2.2.1 (fun b2 h3 h4 => ?_)
    refine v_astore_n (pc := 34) h dX0_letter_34 rfl (by decide) (lv' := [(3, .ref b2), (0, .ref o), (1, .int a1), (2, .int a2)]) rfl ?_
    refine v_iload_n (pc := 35) h dX0_letter_35 3 rfl rfl ?_
    refine v_ite (fun hc5 => ?_) (fun hc5 => ?_)
    · refine v_tswi (pc := 36) (t := 84) h dX0_letter_36 (k := 0) hc5 (by decide) (by decide) rfl rfl ?_
      refine v_aload_n (pc := 84) h dX0_letter_84 0 rfl rfl ?_
      refine v_geti (pc := 85) h dX0_letter_85 fX0_239 rfl (BgS.lt (WkS.bag (KpS.walk h_o).2).2 h3 h4) ?_
      exact v_iretR (pc := 88) h hr ⟨Nat.zero_le _, Nat.zero_le _⟩ dX0_letter_88
    · refine v_ite (fun hc6 => ?_) (fun hc6 => ?_)
      · refine v_tswi (pc := 36) (t := 89) h dX0_letter_36 (k := 1) hc6 (by decide) (by decide) rfl rfl ?_
        refine v_aload_n (pc := 89) h dX0_letter_89 0 rfl rfl ?_
        refine v_geti (pc := 90) h dX0_letter_90 fX0_244 rfl (BgS.lt (WkS.bag (KpS.walk h_o).2).2 h3 h4) ?_
        exact v_iretR (pc := 93) h hr ⟨Nat.zero_le _, Nat.zero_le _⟩ dX0_letter_93
      · refine v_ite (fun hc7 => ?_) (fun hc7 => ?_)
        · refine v_tswi (pc := 36) (t := 94) h dX0_letter_36 (k := 2) hc7 (by decide) (by decide) rfl rfl ?_
          refine v_aload_n (pc := 94) h dX0_letter_94 0 rfl rfl ?_
          refine v_geti (pc := 95) h dX0_letter_95 fX0_246 rfl (BgS.lt (WkS.bag (KpS.walk h_o).2).2 h3 h4) ?_
          exact v_iretR (pc := 98) h hr ⟨Nat.zero_le _, Nat.zero_le _⟩ dX0_letter_98
        · refine v_ite (fun hc8 => ?_) (fun hc8 => ?_)
          · refine v_tswi (pc := 36) (t := 99) h dX0_letter_36 (k := 3) hc8 (by decide) (by decide) rfl rfl ?_
            refine v_aload_n (pc := 99) h dX0_letter_99 0 rfl rfl ?_
            refine v_geti (pc := 100) h dX0_letter_100 fX0_247 rfl (BgS.lt (WkS.bag (KpS.walk h_o).2).2 h3 h4) ?_
            exact v_iretR (pc := 103) h hr ⟨Nat.zero_le _, Nat.zero_le _⟩ dX0_letter_103
          · refine v_ite (fun hc9 => ?_) (fun hc9 => ?_)
            · refine v_tswi (pc := 36) (t := 104) h dX0_letter_36 (k := 4) hc9 (by decide) (by decide) rfl rfl ?_
              refine v_aload_n (pc := 104) h dX0_letter_104 0 rfl rfl ?_
              refine v_geti (pc := 105) h dX0_letter_105 fX0_250 rfl (BgS.lt (WkS.bag (KpS.walk h_o).2).2 h3 h4) ?_
              exact v_iretR (pc := 108) h hr ⟨Nat.zero_le _, Nat.zero_le _⟩ dX0_letter_108
            · refine v_ite (fun hc10 => ?_) (fun hc10 => ?_)
              · refine v_tswi (pc := 36) (t := 109) h dX0_letter_36 (k := 5) hc10 (by decide) (by decide) rfl rfl ?_
                refine v_aload_n (pc := 109) h dX0_letter_109 1 rfl rfl ?_
                refine v_getp (pc := 110) h dX0_letter_110 fX0_20 rfl (KpS.c h_o) (KpS.walk h_o).1 ?_
                refine v_aload_n (pc := 113) h dX0_letter_113 0 rfl rfl ?_
                refine v_callR (pc := 114) h dX0_letter_114 kX0_253 rfl (WkS.c (KpS.walk h_o).2) (tX1_opens dp (o + 2) b2 I r (KpS.walk h_o).2 (BgS.lt (WkS.bag (KpS.walk h_o).2).2 h3 h4)) (by omega) rfl rfl (Nat.le_of_ble_eq_true rfl) ⟨Nat.zero_le _, Nat.zero_le _⟩ (fun r11 I12 s13 => ?_)
                refine v_and (fun h14 => ?_)
                refine v_and (fun h15 => ?_)
                exact v_iretR (pc := 117) h hr ⟨Nat.zero_le _, Nat.zero_le _⟩ dX0_letter_117
              · refine v_ite (fun hc16 => ?_) (fun hc16 => ?_)
                · refine v_tswi (pc := 36) (t := 118) h dX0_letter_36 (k := 6) hc16 (by decide) (by decide) rfl rfl ?_
                  refine v_aload_n (pc := 118) h dX0_letter_118 1 rfl rfl ?_
                  refine v_getp (pc := 119) h dX0_letter_119 fX0_20 rfl (KpS.c h_o) (KpS.walk h_o).1 ?_
                  refine v_aload_n (pc := 122) h dX0_letter_122 0 rfl rfl ?_
                  refine v_callR (pc := 123) h dX0_letter_123 kX0_257 rfl (WkS.c (KpS.walk h_o).2) (tX1_gives dp (o + 2) b2 I r (KpS.walk h_o).2 (BgS.lt (WkS.bag (KpS.walk h_o).2).2 h3 h4)) (by omega) rfl rfl (Nat.le_of_ble_eq_true rfl) ⟨Nat.zero_le _, Nat.zero_le _⟩ (fun r17 I18 s19 => ?_)
                  refine v_and (fun h20 => ?_)
                  refine v_and (fun h21 => ?_)
                  exact v_iretR (pc := 126) h hr ⟨Nat.zero_le _, Nat.zero_le _⟩ dX0_letter_126
                · refine v_ite (fun hc22 => ?_) (fun hc22 => ?_)
                  · refine v_tswi (pc := 36) (t := 127) h dX0_letter_36 (k := 7) hc22 (by decide) (by decide) rfl rfl ?_
                    refine v_aload_n (pc := 127) h dX0_letter_127 1 rfl rfl ?_
                    refine v_getp (pc := 128) h dX0_letter_128 fX0_20 rfl (KpS.c h_o) (KpS.walk h_o).1 ?_
                    refine v_aload_n (pc := 131) h dX0_letter_131 0 rfl rfl ?_
                    refine v_callR (pc := 132) h dX0_letter_132 kX0_260 rfl (WkS.c (KpS.walk h_o).2) (tX1_tires dp (o + 2) b2 I r (KpS.walk h_o).2 (BgS.lt (WkS.bag (KpS.walk h_o).2).2 h3 h4)) (by omega) rfl rfl (Nat.le_of_ble_eq_true rfl) ⟨Nat.zero_le _, Nat.zero_le _⟩ (fun r23 I24 s25 => ?_)
                    refine v_and (fun h26 => ?_)
                    refine v_and (fun h27 => ?_)
                    exact v_iretR (pc := 135) h hr ⟨Nat.zero_le _, Nat.zero_le _⟩ dX0_letter_135
                  · refine v_tswd (pc := 36) (t := 136) h dX0_letter_36 (by have e0 := lv_neT hc5 (show (0 : Int32).toInt = 0 from rfl); have e1 := lv_neT hc6 (show (1 : Int32).toInt = 1 from rfl); have e2 := lv_neT hc7 (show (2 : Int32).toInt = 2 from rfl); have e3 := lv_neT hc8 (show (3 : Int32).toInt = 3 from rfl); have e4 := lv_neT hc9 (show (4 : Int32).toInt = 4 from rfl); have e5 := lv_neT hc10 (show (5 : Int32).toInt = 5 from rfl); have e6 := lv_neT hc16 (show (6 : Int32).toInt = 6 from rfl); have e7 := lv_neT hc22 (show (7 : Int32).toInt = 7 from rfl); omega) rfl ?_
                    refine v_iconst (pc := 136) h dX0_letter_136 (v := (-1)) rfl ?_
                    exact v_iretR (pc := 137) h hr ⟨Nat.zero_le _, Nat.zero_le _⟩ dX0_letter_137
  · refine v_iconst (pc := 20) h dX0_letter_20 (v := (-1)) rfl ?_
    exact v_iretR (pc := 21) h hr ⟨Nat.zero_le _, Nat.zero_le _⟩ dX0_letter_21
set_option maxHeartbeats 4000000 in
theorem tX0_goes {g : Gl}  (dp : Nat) (o : Nat) (a1 : Int32) (a2 : Int32) (I : MI) (r : Rh) (h_o : KpS o r) : CtR g yX0_goes cX0_goes 4 (some .int) (dp + 9) 0 0 [.ref o, .int a1, .int a2] I r (pX0_goes dp o a1 a2 I r) := by
  refine CtR.mk (lv := [(0, .ref o), (1, .int a1), (2, .int a2)]) (by decide) (Nat.le_of_ble_eq_true rfl) rfl (fun x Q h hr => ?_)
  unfold pX0_goes
  refine v_iload_n (pc := 0) h dX0_goes_0 1 rfl rfl ?_
  refine v_iconst (pc := 1) h dX0_goes_1 (v := 1) rfl ?_
  refine v_bipush (pc := 2) h dX0_goes_2 (v := 60) rfl ?_
  refine v_callsp (pc := 4) h dX0_goes_4 sX0_78 (tX0_isIn a1 (1 : Int32) (60 : Int32) I r ) (by omega) rfl rfl (Nat.le_of_ble_eq_true rfl) ⟨Nat.zero_le _, Nat.zero_le _⟩ (fun r1 => ?_)
  refine v_if_eq (pc := 7) (t := 19) h dX0_goes_7 rfl (fun _ => ?_) (fun _ => ?_)
  · refine v_iconst (pc := 19) h dX0_goes_19 (v := (-1)) rfl ?_
    exact v_iretR (pc := 20) h hr ⟨Nat.zero_le _, Nat.zero_le _⟩ dX0_goes_20
  · refine v_iload_n (pc := 10) h dX0_goes_10 2 rfl rfl ?_
    refine v_iconst (pc := 11) h dX0_goes_11 (v := 0) rfl ?_
    refine v_iconst (pc := 12) h dX0_goes_12 (v := 3) rfl ?_
    refine v_callsp (pc := 13) h dX0_goes_13 sX0_78 (tX0_isIn a2 (0 : Int32) (3 : Int32) I r ) (by omega) rfl rfl (Nat.le_of_ble_eq_true rfl) ⟨Nat.zero_le _, Nat.zero_le _⟩ (fun r2 => ?_)
    refine v_if_ne (pc := 16) (t := 21) h dX0_goes_16 rfl (fun _ => ?_) (fun _ => ?_)
    · refine v_aload_n (pc := 21) h dX0_goes_21 0 rfl rfl ?_
      refine v_getp (pc := 22) h dX0_goes_22 fX0_27 rfl (KpS.c h_o) (KpS.thought h_o).1 ?_
      refine v_aload_n (pc := 25) h dX0_goes_25 0 rfl rfl ?_
      refine v_getp (pc := 26) h dX0_goes_26 fX0_20 rfl (KpS.c h_o) (KpS.walk h_o).1 ?_
      refine v_callW (pc := 29) h dX0_goes_29 kX0_272 rfl (WkS.c (KpS.thought h_o).2) (tX1_thinks (o + 520) (o + 2) I r (KpS.thought h_o).2 (KpS.walk h_o).2) (by omega) rfl rfl (Nat.le_of_ble_eq_true rfl) ⟨Nat.zero_le _, Nat.zero_le _⟩ (fun I3 s4 => ?_)
      refine v_and (fun h5 => ?_)
      refine v_iconst (pc := 32) h dX0_goes_32 (v := 0) rfl ?_
      refine v_istore_n (pc := 33) h dX0_goes_33 rfl (by decide) (lv' := [(3, .int (0 : Int32)), (0, .ref o), (1, .int a1), (2, .int a2)]) rfl ?_
      refine v_sub [1, 2, 3, 0] rfl ?_
      refine L3.run (lv := fun i3_6 I7 r8 => [(0, .ref o), (1, .int a1), (2, .int a2), (3, .int i3_6)]) (st := fun i3_6 I7 r8 => []) (Im := fun i3_6 I7 r8 => I7) (r := fun i3_6 I7 r8 => r8) (fun X9 hX9 i3_6 I7 r8 => ?_) (0 : Int32) I3 s4
      refine v_and (fun h10 => ?_)
      refine v_iload_n (pc := 34) h dX0_goes_34 3 rfl rfl ?_
      refine v_iload_n (pc := 35) h dX0_goes_35 1 rfl rfl ?_
      refine v_icmp_ge (pc := 36) (t := 53) h dX0_goes_36 rfl (fun _ => ?_) (fun _ => ?_)
      · refine v_iload_n (pc := 53) h dX0_goes_53 2 rfl rfl ?_
        refine v_if_ne (pc := 54) (t := 67) h dX0_goes_54 rfl (fun _ => ?_) (fun _ => ?_)
        · refine v_iload_n (pc := 67) h dX0_goes_67 2 rfl rfl ?_
          refine v_iconst (pc := 68) h dX0_goes_68 (v := 1) rfl ?_
          refine v_icmp_ne (pc := 69) (t := 82) h dX0_goes_69 rfl (fun _ => ?_) (fun _ => ?_)
          · refine v_iload_n (pc := 82) h dX0_goes_82 2 rfl rfl ?_
            refine v_iconst (pc := 83) h dX0_goes_83 (v := 2) rfl ?_
            refine v_icmp_ne (pc := 84) (t := 100) h dX0_goes_84 rfl (fun _ => ?_) (fun _ => ?_)
            · refine v_aload_n (pc := 100) h dX0_goes_100 0 rfl rfl ?_
              refine v_getp (pc := 101) h dX0_goes_101 fX0_27 rfl (KpS.c h10) (KpS.thought h10).1 ?_
              refine v_geti (pc := 104) h dX0_goes_104 fX0_275 rfl (WkS.c (KpS.thought h10).2) ?_
              exact v_iretR (pc := 107) h hr ⟨Nat.zero_le _, Nat.zero_le _⟩ dX0_goes_107
            · refine v_aload_n (pc := 87) h dX0_goes_87 0 rfl rfl ?_
              refine v_getp (pc := 88) h dX0_goes_88 fX0_27 rfl (KpS.c h10) (KpS.thought h10).1 ?_
              refine v_getp (pc := 91) h dX0_goes_91 fX0_195 rfl (WkS.c (KpS.thought h10).2) (WkS.bag (KpS.thought h10).2).1 ?_
              refine v_geti (pc := 94) h dX0_goes_94 fX0_199 rfl (WkS.bag (KpS.thought h10).2).2.1 ?_
              refine v_goto (pc := 97) (t := 107) h dX0_goes_97 rfl ?_
              exact v_iretR (pc := 107) h hr ⟨Nat.zero_le _, Nat.zero_le _⟩ dX0_goes_107
          · refine v_aload_n (pc := 72) h dX0_goes_72 0 rfl rfl ?_
            refine v_getp (pc := 73) h dX0_goes_73 fX0_27 rfl (KpS.c h10) (KpS.thought h10).1 ?_
            refine v_geti (pc := 76) h dX0_goes_76 fX0_189 rfl (WkS.c (KpS.thought h10).2) ?_
            refine v_goto (pc := 79) (t := 107) h dX0_goes_79 rfl ?_
            exact v_iretR (pc := 107) h hr ⟨Nat.zero_le _, Nat.zero_le _⟩ dX0_goes_107
        · refine v_aload_n (pc := 57) h dX0_goes_57 0 rfl rfl ?_
          refine v_getp (pc := 58) h dX0_goes_58 fX0_27 rfl (KpS.c h10) (KpS.thought h10).1 ?_
          refine v_geti (pc := 61) h dX0_goes_61 fX0_186 rfl (WkS.c (KpS.thought h10).2) ?_
          refine v_goto (pc := 64) (t := 107) h dX0_goes_64 rfl ?_
          exact v_iretR (pc := 107) h hr ⟨Nat.zero_le _, Nat.zero_le _⟩ dX0_goes_107
      · refine v_aload_n (pc := 39) h dX0_goes_39 0 rfl rfl ?_
        refine v_getp (pc := 40) h dX0_goes_40 fX0_27 rfl (KpS.c h10) (KpS.thought h10).1 ?_
        refine v_callR (pc := 43) h dX0_goes_43 kX0_224 rfl (WkS.c (KpS.thought h10).2) (tX1_passes dp (o + 520) I7 r8 (KpS.thought h10).2) (by omega) rfl rfl (Nat.le_of_ble_eq_true rfl) ⟨Nat.zero_le _, Nat.zero_le _⟩ (fun r11 I12 s13 => ?_)
        refine v_and (fun h14 => ?_)
        refine v_pop (pc := 46) h dX0_goes_46 rfl ?_
        refine v_iinc (pc := 47) h dX0_goes_47 3 rfl (w := (i3_6 + (1 : Int32))) rfl (by decide) (lv' := [(3, .int (i3_6 + (1 : Int32))), (0, .ref o), (1, .int a1), (2, .int a2)]) rfl ?_
        refine v_goto (pc := 50) (t := 34) h dX0_goes_50 rfl ?_
        refine v_sub [1, 2, 3, 0] rfl ?_
        exact hX9 (i3_6 + (1 : Int32)) I12 s13
    · refine v_iconst (pc := 19) h dX0_goes_19 (v := (-1)) rfl ?_
      exact v_iretR (pc := 20) h hr ⟨Nat.zero_le _, Nat.zero_le _⟩ dX0_goes_20
