/-! the reference: the pure programs, printed by a program out of the code -/
set_option maxRecDepth 100000
def pX6_undo (mo : Nat)  (I : MI) (Q : Int32 → MI → Prop) : Prop :=
nm (wI I mo 0 (0 : Int32)) (fun I1 =>
if (I1 mo 3) = 0 then
(Q (0 : Int32) I1)
else
(nm (wI I1 mo 3 ((I1 mo 3) - (1 : Int32))) (fun I2 =>
L2 (fun X5 i1_3 I4 =>
if (174 : Int32) ≤ i1_3 then
(Q (1 : Int32) I4)
else
(vp_in (((174 : Int32) * (I4 mo 3)) + i1_3) 1044 ∧ (vp_in i1_3 174 ∧ (nm (wI I4 (mo + 1) i1_3.toNatClampNeg (I4 (mo + 2) (((174 : Int32) * (I4 mo 3)) + i1_3).toNatClampNeg)) (fun I6 =>
X5 (i1_3 + (1 : Int32)) I6))))) (0 : Int32) I2)))
def pX6_state (mo : Nat) (a1 : Int32) (I : MI) (Q : Int32 → MI → Prop) : Prop :=
nm (wI I mo 0 (0 : Int32)) (fun I1 =>
nm (I1 (mo + 1) 1) (fun v2 =>
nm (wI I1 (mo + 1) 1 a1) (fun I3 =>
nm (wI I3 mo 3 (0 : Int32)) (fun I4 =>
Q v2 I4))))
def pX6_isIn (mo : Nat) (a1 : Int32) (a2 : Int32) (a3 : Int32) (I : MI) (Q : Int32 → Prop) : Prop :=
jn0 (fun k1 =>
if a1 < a2 then
(k1)
else
(if a3 < a1 then
(k1)
else
(Q (1 : Int32)))) (
Q (0 : Int32))
def pX6_door (mo : Nat) (a1 : Int32) (a2 : Int32) (a3 : Int32) (I : MI) (Q : Int32 → MI → Prop) : Prop :=
nm (wI I mo 0 (0 : Int32)) (fun I1 =>
pX6_isIn mo a1 (-9 : Int32) (9 : Int32) I1 (fun r2 =>
if r2 = 0 then
(Q (-1 : Int32) I1)
else
(pX6_isIn mo a2 (0 : Int32) (9 : Int32) I1 (fun r3 =>
if r3 = 0 then
(Q (-1 : Int32) I1)
else
(pX6_isIn mo a3 (0 : Int32) (999 : Int32) I1 (fun r4 =>
if r4 = 0 then
(Q (-1 : Int32) I1)
else
(if (I1 mo 6) = (12 : Int32) then
(Q (-1 : Int32) I1)
else
(vp_in ((18 : Int32) + (I1 mo 6)) 174 ∧ (nm (wI I1 (mo + 1) (((18 : Int32) + (I1 mo 6)).toNatClampNeg) a1) (fun I5 =>
vp_in ((30 : Int32) + (I5 mo 6)) 174 ∧ (nm (wI I5 (mo + 1) (((30 : Int32) + (I5 mo 6)).toNatClampNeg) a3) (fun I6 =>
vp_in ((42 : Int32) + (I6 mo 6)) 174 ∧ (nm (wI I6 (mo + 1) (((42 : Int32) + (I6 mo 6)).toNatClampNeg) (0 : Int32)) (fun I7 =>
vp_in (I7 mo 6) 12 ∧ (nm (wI I7 (mo + 4) ((I7 mo 6).toNatClampNeg) a2) (fun I8 =>
nm (wI I8 mo 6 ((I8 mo 6) + (1 : Int32))) (fun I9 =>
nm (wI I9 mo 3 (0 : Int32)) (fun I10 =>
Q ((I10 mo 6) - (1 : Int32)) I10))))))))))))))))))
def pX6_isDoor (mo : Nat) (a1 : Int32) (I : MI) (Q : Int32 → Prop) : Prop :=
jn0 (fun k1 =>
if a1 < 0 then
(k1)
else
(if (I mo 6) ≤ a1 then
(k1)
else
(Q (1 : Int32)))) (
Q (0 : Int32))
def pX6_canSet (mo : Nat) (a1 : Int32) (a2 : Int32) (a3 : Int32) (I : MI) (Q : Int32 → Prop) : Prop :=
if a1 = 0 then
(pX6_isDoor mo a2 I (fun r10 =>
jn0 (fun k11 =>
if r10 = 0 then
(k11)
else
(pX6_isIn mo a3 (-9 : Int32) (9 : Int32) I (fun r12 =>
if r12 = 0 then
(k11)
else
(Q (1 : Int32))))) (
Q (0 : Int32))))
else
(jn0 (fun k1 =>
if a1 = (1 : Int32) then
(k1)
else
(if a1 = (2 : Int32) then
(k1)
else
(jn0 (fun k2 =>
jn0 (fun k3 =>
if a1 = (3 : Int32) then
(k3)
else
(if a1 = (4 : Int32) then
(k3)
else
(k2))) (
pX6_isIn mo a3 (0 : Int32) (99 : Int32) I (fun r4 =>
if r4 = 0 then
(k2)
else
(Q (1 : Int32))))) (
Q (0 : Int32))))) (
pX6_isDoor mo a2 I (fun r5 =>
jn0 (fun k6 =>
if r5 = 0 then
(k6)
else
(jn1 (fun k8 =>
if a1 = (1 : Int32) then
(k8 (9 : Int32))
else
(k8 (999 : Int32))) (fun t7 =>
pX6_isIn mo a3 (0 : Int32) t7 I (fun r9 =>
if r9 = 0 then
(k6)
else
(Q (1 : Int32)))))) (
Q (0 : Int32)))))
def pX6_held (mo : Nat) (a1 : Int32) (a2 : Int32) (a3 : Int32) (I : MI) (Q : Int32 → Prop) : Prop :=
if a2 ≤ a1 then
(if a1 ≤ a3 then
(Q a1)
else
(Q a3))
else
(Q a2)
def pX6_hasHealth (mo : Nat) (a1 : Int32) (I : MI) (Q : MI → Prop) : Prop :=
pX6_held mo a1 (0 : Int32) (99 : Int32) I (fun r1 =>
nm (wI I (mo + 1) 4 ((99 : Int32) - r1)) (fun I2 =>
Q I2))
def pX6_set (mo : Nat) (a1 : Int32) (a2 : Int32) (a3 : Int32) (I : MI) (Q : Int32 → MI → Prop) : Prop :=
nm (wI I mo 0 (0 : Int32)) (fun I1 =>
pX6_canSet mo a1 a2 a3 I1 (fun r2 =>
if r2 = 0 then
(Q (0 : Int32) I1)
else
(jn1 (fun k4 =>
if a1 = 0 then
(vp_in ((18 : Int32) + a2) 174 ∧ (nm (wI I1 (mo + 1) (((18 : Int32) + a2).toNatClampNeg) a3) (fun I5 =>
k4 I5)))
else
(k4 I1)) (fun I3 =>
jn1 (fun k7 =>
if a1 = (1 : Int32) then
(vp_in a2 12 ∧ (nm (wI I3 (mo + 4) a2.toNatClampNeg a3) (fun I8 =>
k7 I8)))
else
(k7 I3)) (fun I6 =>
jn1 (fun k10 =>
if a1 = (2 : Int32) then
(vp_in ((30 : Int32) + a2) 174 ∧ (nm (wI I6 (mo + 1) (((30 : Int32) + a2).toNatClampNeg) a3) (fun I11 =>
k10 I11)))
else
(k10 I6)) (fun I9 =>
jn1 (fun k13 =>
if a1 = (3 : Int32) then
(pX6_hasHealth mo a3 I9 (fun I14 =>
k13 I14))
else
(k13 I9)) (fun I12 =>
jn1 (fun k16 =>
if a1 = (4 : Int32) then
(nm (wI I12 (mo + 1) 5 a3) (fun I17 =>
k16 I17))
else
(k16 I12)) (fun I15 =>
nm (wI I15 mo 3 (0 : Int32)) (fun I18 =>
Q (1 : Int32) I18)))))))))
def pX6_types (mo : Nat) (a1 : Int32) (I : MI) (Q : MI → Prop) : Prop :=
L2 (fun X3 i2_1 I2 =>
if i2_1 < 0 then
(Q I2)
else
(vp_in (I2 mo 10) 400 ∧ (nm (wI I2 (mo + 6) ((I2 mo 10).toNatClampNeg) ((sr a1 i2_1) &&& (255 : Int32))) (fun I4 =>
nm (wI I4 mo 10 ((I4 mo 10) + (1 : Int32))) (fun I5 =>
X3 (i2_1 + (-8 : Int32)) I5))))) (24 : Int32) I
def pX6_feed (mo : Nat) (a1 : Int32) (a2 : Int32) (a3 : Int32) (a4 : Int32) (a5 : Int32) (I : MI) (Q : Int32 → MI → Prop) : Prop :=
nm (wI I mo 0 (0 : Int32)) (fun I1 =>
if (I1 mo 10) ≤ (380 : Int32) then
(pX6_types mo a1 I1 (fun I2 =>
pX6_types mo a2 I2 (fun I3 =>
pX6_types mo a3 I3 (fun I4 =>
pX6_types mo a4 I4 (fun I5 =>
pX6_types mo a5 I5 (fun I6 =>
Q (I6 mo 10) I6))))))
else
(Q (-1 : Int32) I1))
def pX6_end (mo : Nat) (a1 : Int32) (I : MI) (Q : Int32 → MI → Prop) : Prop :=
nm (wI I mo 0 (0 : Int32)) (fun I1 =>
pX6_isIn mo a1 (0 : Int32) (I1 mo 10) I1 (fun r2 =>
if r2 = 0 then
(Q (0 : Int32) I1)
else
(nm (wI I1 mo 10 a1) (fun I3 =>
Q (1 : Int32) I3))))
def pX6_raw (mo : Nat) (a1 : Int32) (I : MI) (Q : Int32 → Prop) : Prop :=
if (I mo 10) ≤ a1 then
(Q (-1 : Int32))
else
(vp_in a1 400 ∧ (Q (I (mo + 6) a1.toNatClampNeg)))
def pX6_isLetter (mo : Nat) (a1 : Int32) (I : MI) (Q : Int32 → Prop) : Prop :=
pX6_isIn mo a1 (97 : Int32) (122 : Int32) I (fun r1 =>
jn0 (fun k2 =>
if r1 = 0 then
(pX6_isIn mo a1 (65 : Int32) (90 : Int32) I (fun r3 =>
if r3 = 0 then
(Q (0 : Int32))
else
(k2)))
else
(k2)) (
Q (1 : Int32)))
def pX6_wordAt (mo : Nat) (a1 : Int32) (a2 : Int32) (I : MI) (Q : Int32 → Prop) : Prop :=
L2 (fun X3 i3_1 i4_2 =>
if (152 : Int32) ≤ i4_2 then
(Q (-1 : Int32))
else
(nm (i3_1 + (1 : Int32)) (fun v4 =>
L1 (fun X6 i5_5 =>
jn0 (fun k7 =>
if a2 ≤ (a1 + i5_5) then
(k7)
else
(vp_in ((i4_2 + (1 : Int32)) + i5_5) 153 ∧ (vp_in (a1 + i5_5) 400 ∧ (if (I (mo + 7) ((i4_2 + (1 : Int32)) + i5_5).toNatClampNeg) = (I (mo + 6) (a1 + i5_5).toNatClampNeg) then
(nm (i5_5 + (1 : Int32)) (fun v8 =>
X6 v8))
else
(k7))))) (
jn0 (fun k9 =>
if (a1 + i5_5) = a2 then
(vp_in ((i4_2 + (1 : Int32)) + i5_5) 153 ∧ (if (I (mo + 7) ((i4_2 + (1 : Int32)) + i5_5).toNatClampNeg) = (32 : Int32) then
(Q v4)
else
(k9)))
else
(k9)) (
nm (i4_2 + (1 : Int32)) (fun v10 =>
L1 (fun X12 i4_11 =>
vp_in i4_11 153 ∧ (if (I (mo + 7) i4_11.toNatClampNeg) = (32 : Int32) then
(X3 v4 i4_11)
else
(nm (i4_11 + (1 : Int32)) (fun v13 =>
X12 v13)))) v10)))) (0 : Int32)))) (-1 : Int32) (0 : Int32)
def pX6_isDigit (mo : Nat) (a1 : Int32) (I : MI) (Q : Int32 → Prop) : Prop :=
pX6_isIn mo a1 (48 : Int32) (57 : Int32) I (fun r1 =>
(r1 = 0 ∨ r1 = 1) ∧ Q r1)
def pX6_isMarkSign (mo : Nat) (a1 : Int32) (I : MI) (Q : Int32 → Prop) : Prop :=
jn0 (fun k1 =>
if a1 = (59 : Int32) then
(k1)
else
(if a1 = (43 : Int32) then
(k1)
else
(if a1 = (45 : Int32) then
(k1)
else
(if a1 = (42 : Int32) then
(k1)
else
(if a1 = (47 : Int32) then
(k1)
else
(if a1 = (40 : Int32) then
(k1)
else
(if a1 = (41 : Int32) then
(k1)
else
(if a1 = (60 : Int32) then
(k1)
else
(if a1 = (61 : Int32) then
(k1)
else
(if a1 = (62 : Int32) then
(k1)
else
(Q (0 : Int32)))))))))))) (
Q (1 : Int32))
def pX6_reads (mo : Nat)  (I : MI) (Q : MI → Prop) : Prop :=
L1 (fun X2 I1 =>
pX6_raw mo (I1 mo 11) I1 (fun r3 =>
jn0 (fun k4 =>
if r3 = (32 : Int32) then
(k4)
else
(pX6_raw mo (I1 mo 11) I1 (fun r5 =>
if r5 = (10 : Int32) then
(k4)
else
(nm (wI I1 mo 12 (I1 mo 11)) (fun I6 =>
nm (wI I6 mo 13 (1 : Int32)) (fun I7 =>
pX6_raw mo (I7 mo 11) I7 (fun r8 =>
if r8 = (-1 : Int32) then
(nm (wI I7 mo 13 (0 : Int32)) (fun I34 =>
Q I34))
else
(nm (wI I7 mo 11 ((I7 mo 11) + (1 : Int32))) (fun I9 =>
nm (wI I9 mo 14 r8) (fun I10 =>
pX6_isLetter mo r8 I10 (fun r11 =>
if r11 = 0 then
(pX6_isDigit mo r8 I10 (fun r12 =>
if r12 = 0 then
(pX6_isMarkSign mo r8 I10 (fun r13 =>
if r13 = 0 then
(Q I10)
else
(nm (wI I10 mo 13 (4 : Int32)) (fun I14 =>
Q I14))))
else
(nm (wI I10 mo 14 (r8 - (48 : Int32))) (fun I15 =>
L1 (fun X17 I16 =>
pX6_raw mo (I16 mo 11) I16 (fun r18 =>
pX6_isDigit mo r18 I16 (fun r19 =>
if r19 = 0 then
(if (5 : Int32) ≤ ((I16 mo 11) - (I16 mo 12)) then
(Q I16)
else
(nm (wI I16 mo 13 (3 : Int32)) (fun I20 =>
Q I20)))
else
(jn1 (fun k22 =>
if (10000 : Int32) ≤ (I16 mo 14) then
(k22 (I16 mo 14))
else
(pX6_raw mo (I16 mo 11) I16 (fun r23 =>
k22 ((((10 : Int32) * (I16 mo 14)) + r23) - (48 : Int32))))) (fun t21 =>
nm (wI I16 mo 14 t21) (fun I24 =>
nm (wI I24 mo 11 ((I24 mo 11) + (1 : Int32))) (fun I25 =>
X17 I25))))))) I15))))
else
(L1 (fun X27 I26 =>
pX6_raw mo (I26 mo 11) I26 (fun r28 =>
pX6_isLetter mo r28 I26 (fun r29 =>
if r29 = 0 then
(pX6_wordAt mo (I26 mo 12) (I26 mo 11) I26 (fun r30 =>
nm (wI I26 mo 14 r30) (fun I31 =>
if (I31 mo 14) = (-1 : Int32) then
(Q I31)
else
(nm (wI I31 mo 13 (2 : Int32)) (fun I32 =>
Q I32)))))
else
(nm (wI I26 mo 11 ((I26 mo 11) + (1 : Int32))) (fun I33 =>
X27 I33))))) I10)))))))))))) (
nm (wI I1 mo 11 ((I1 mo 11) + (1 : Int32))) (fun I35 =>
X2 I35)))) I
def pX6_isWord (mo : Nat) (a1 : Int32) (I : MI) (Q : Int32 → Prop) : Prop :=
jn0 (fun k1 =>
if (I mo 13) = (2 : Int32) then
(if (I mo 14) = a1 then
(Q (1 : Int32))
else
(k1))
else
(k1)) (
Q (0 : Int32))
def pX6_errs (mo : Nat) (a1 : Int32) (I : MI) (Q : Int32 → MI → Prop) : Prop :=
nm (wI I mo 28 a1) (fun I1 =>
nm (wI I1 mo 29 (I1 mo 12)) (fun I2 =>
Q (-1 : Int32) I2))
def pX6_readNumber (mo : Nat) (a1 : Int32) (a2 : Int32) (I : MI) (Q : Int32 → MI → Prop) : Prop :=
if (I mo 13) = (3 : Int32) then
(pX6_isIn mo (I mo 14) a1 a2 I (fun r1 =>
if r1 = 0 then
(pX6_errs mo (2 : Int32) I (fun r4 I5 =>
Q r4 I5))
else
(nm (I mo 14) (fun v2 =>
pX6_reads mo I (fun I3 =>
Q v2 I3)))))
else
(pX6_errs mo (1 : Int32) I (fun r6 I7 =>
Q r6 I7))
def pX6_readTold (mo : Nat) (a1 : Int32) (a2 : Int32) (a3 : Int32) (I : MI) (Q : Int32 → MI → Prop) : Prop :=
pX6_isWord mo a1 I (fun r1 =>
if r1 = 0 then
(pX6_errs mo (1 : Int32) I (fun r5 I6 =>
Q r5 I6))
else
(pX6_reads mo I (fun I2 =>
pX6_readNumber mo a2 a3 I2 (fun r3 I4 =>
Q r3 I4))))
def pX6_isSign (mo : Nat) (a1 : Int32) (I : MI) (Q : Int32 → Prop) : Prop :=
jn0 (fun k1 =>
if (I mo 13) = (4 : Int32) then
(if (I mo 14) = a1 then
(Q (1 : Int32))
else
(k1))
else
(k1)) (
Q (0 : Int32))
def pX6_readMark (mo : Nat) (a1 : Int32) (I : MI) (Q : Int32 → MI → Prop) : Prop :=
pX6_isSign mo a1 I (fun r1 =>
if r1 = 0 then
(pX6_errs mo (1 : Int32) I (fun r3 I4 =>
Q r3 I4))
else
(pX6_reads mo I (fun I2 =>
Q (0 : Int32) I2)))
def pX6_readPostLine (mo : Nat) (a1 : Int32) (I : MI) (Q : Int32 → MI → Prop) : Prop :=
pX6_readTold mo (18 : Int32) (0 : Int32) (999 : Int32) I (fun r1 I2 =>
vp_in a1 128 ∧ (nm (wI I2 (mo + 16) a1.toNatClampNeg r1) (fun I3 =>
vp_in a1 128 ∧ (if (I3 (mo + 16) a1.toNatClampNeg) = (-1 : Int32) then
(Q (-1 : Int32) I3)
else
(pX6_readTold mo (19 : Int32) (0 : Int32) ((I3 mo 6) - (1 : Int32)) I3 (fun r4 I5 =>
vp_in (a1 + (1 : Int32)) 128 ∧ (nm (wI I5 (mo + 16) ((a1 + (1 : Int32)).toNatClampNeg) r4) (fun I6 =>
vp_in (a1 + (1 : Int32)) 128 ∧ (if (I6 (mo + 16) (a1 + (1 : Int32)).toNatClampNeg) = (-1 : Int32) then
(Q (-1 : Int32) I6)
else
(jn0 (fun k7 =>
if (I6 mo 13) = (2 : Int32) then
(pX6_isIn mo (I6 mo 14) (22 : Int32) (28 : Int32) I6 (fun r8 =>
if r8 = 0 then
(k7)
else
(vp_in (a1 + (2 : Int32)) 128 ∧ (nm (wI I6 (mo + 16) ((a1 + (2 : Int32)).toNatClampNeg) ((I6 mo 14) - (22 : Int32))) (fun I9 =>
pX6_reads mo I9 (fun I10 =>
pX6_readNumber mo (1 : Int32) (99 : Int32) I10 (fun r11 I12 =>
vp_in (a1 + (3 : Int32)) 128 ∧ (nm (wI I12 (mo + 16) ((a1 + (3 : Int32)).toNatClampNeg) r11) (fun I13 =>
vp_in (a1 + (3 : Int32)) 128 ∧ (if (I13 (mo + 16) (a1 + (3 : Int32)).toNatClampNeg) = (-1 : Int32) then
(Q (-1 : Int32) I13)
else
(pX6_readMark mo (59 : Int32) I13 (fun r14 I15 =>
Q r14 I15))))))))))))
else
(k7)) (
pX6_errs mo (1 : Int32) I6 (fun r16 I17 =>
Q r16 I17))))))))))))
def pX6_readPost (mo : Nat)  (I : MI) (Q : Int32 → MI → Prop) : Prop :=
L2 (fun X3 i1_1 I2 =>
pX6_isWord mo (18 : Int32) I2 (fun r4 =>
if r4 = 0 then
(if (I2 mo 13) = 0 then
(Q i1_1 I2)
else
(pX6_errs mo (1 : Int32) I2 (fun r5 I6 =>
Q r5 I6)))
else
(if i1_1 = (16 : Int32) then
(pX6_errs mo (3 : Int32) I2 (fun r10 I11 =>
Q r10 I11))
else
(pX6_readPostLine mo ((64 : Int32) + ((4 : Int32) * i1_1)) I2 (fun r7 I8 =>
if r7 = (-1 : Int32) then
(Q (-1 : Int32) I8)
else
(nm (i1_1 + (1 : Int32)) (fun v9 =>
X3 v9 I8))))))) (0 : Int32) I
def pX6_readRound (mo : Nat)  (I : MI) (Q : Int32 → MI → Prop) : Prop :=
L2 (fun X3 i1_1 I2 =>
pX6_isWord mo (20 : Int32) I2 (fun r4 =>
if r4 = 0 then
(if (I2 mo 13) = 0 then
(Q i1_1 I2)
else
(pX6_errs mo (1 : Int32) I2 (fun r5 I6 =>
Q r5 I6)))
else
(if i1_1 = (16 : Int32) then
(pX6_errs mo (3 : Int32) I2 (fun r13 I14 =>
Q r13 I14))
else
(pX6_readTold mo (20 : Int32) (0 : Int32) ((I2 mo 6) - (1 : Int32)) I2 (fun r7 I8 =>
vp_in ((16 : Int32) + i1_1) 32 ∧ (nm (wI I8 (mo + 17) (((16 : Int32) + i1_1).toNatClampNeg) r7) (fun I9 =>
vp_in ((16 : Int32) + i1_1) 32 ∧ (if (I9 (mo + 17) ((16 : Int32) + i1_1).toNatClampNeg) = (-1 : Int32) then
(Q (-1 : Int32) I9)
else
(pX6_readMark mo (59 : Int32) I9 (fun r10 I11 =>
if r10 = (-1 : Int32) then
(Q (-1 : Int32) I11)
else
(nm (i1_1 + (1 : Int32)) (fun v12 =>
X3 v12 I11)))))))))))) (0 : Int32) I
def pX6_takesStreet (mo : Nat) (a1 : Int32) (a2 : Int32) (I : MI) (Q : MI → Prop) : Prop :=
vp_in a1 288 ∧ (jn0 (fun k1 =>
if (I (mo + 18) a1.toNatClampNeg) = 0 then
(k1)
else
(vp_in a1 288 ∧ (if (I (mo + 18) a1.toNatClampNeg) ≤ a2 then
(Q I)
else
(k1)))) (
vp_in a1 288 ∧ (nm (wI I (mo + 18) a1.toNatClampNeg a2) (fun I2 =>
Q I2))))
def pX6_readStreet (mo : Nat)  (I : MI) (Q : Int32 → MI → Prop) : Prop :=
pX6_readTold mo (21 : Int32) (0 : Int32) ((I mo 6) - (1 : Int32)) I (fun r1 I2 =>
if r1 = (-1 : Int32) then
(Q (-1 : Int32) I2)
else
(jn0 (fun k3 =>
if (I2 mo 13) = (3 : Int32) then
(if (I2 mo 14) = r1 then
(pX6_errs mo (2 : Int32) I2 (fun r4 I5 =>
Q r4 I5))
else
(k3))
else
(k3)) (
pX6_readNumber mo (0 : Int32) ((I2 mo 6) - (1 : Int32)) I2 (fun r6 I7 =>
if r6 = (-1 : Int32) then
(Q (-1 : Int32) I7)
else
(pX6_readNumber mo (1 : Int32) (99 : Int32) I7 (fun r8 I9 =>
if r8 = (-1 : Int32) then
(Q (-1 : Int32) I9)
else
(pX6_takesStreet mo (((144 : Int32) + ((12 : Int32) * r1)) + r6) r8 I9 (fun I10 =>
pX6_takesStreet mo (((144 : Int32) + ((12 : Int32) * r6)) + r1) r8 I10 (fun I11 =>
pX6_readMark mo (59 : Int32) I11 (fun r12 I13 =>
Q r12 I13))))))))))
def pX6_readStreets (mo : Nat)  (I : MI) (Q : Int32 → MI → Prop) : Prop :=
L2 (fun X3 i1_1 I2 =>
if (144 : Int32) ≤ i1_1 then
(L2 (fun X6 i1_4 I5 =>
pX6_isWord mo (21 : Int32) I5 (fun r7 =>
if r7 = 0 then
(if (I5 mo 13) = 0 then
(Q i1_4 I5)
else
(pX6_errs mo (1 : Int32) I5 (fun r8 I9 =>
Q r8 I9)))
else
(if i1_4 = (16 : Int32) then
(pX6_errs mo (3 : Int32) I5 (fun r13 I14 =>
Q r13 I14))
else
(pX6_readStreet mo I5 (fun r10 I11 =>
if r10 = (-1 : Int32) then
(Q (-1 : Int32) I11)
else
(nm (i1_4 + (1 : Int32)) (fun v12 =>
X6 v12 I11))))))) (0 : Int32) I2)
else
(vp_in ((144 : Int32) + i1_1) 288 ∧ (nm (wI I2 (mo + 18) (((144 : Int32) + i1_1).toNatClampNeg) (0 : Int32)) (fun I15 =>
X3 (i1_1 + (1 : Int32)) I15)))) (0 : Int32) I
def pX6_isLineWord (mo : Nat)  (I : MI) (Q : Int32 → Prop) : Prop :=
jn0 (fun k1 =>
if (I mo 13) = (2 : Int32) then
(pX6_isIn mo (I mo 14) (0 : Int32) (2 : Int32) I (fun r2 =>
if r2 = 0 then
(k1)
else
(Q (1 : Int32))))
else
(k1)) (
Q (0 : Int32))
def pX6_canAsk (mo : Nat) (a1 : Int32) (I : MI) (Q : Int32 → Prop) : Prop :=
pX6_isIn mo a1 (7 : Int32) (17 : Int32) I (fun r1 =>
(r1 = 0 ∨ r1 = 1) ∧ Q r1)
def pX6_emits (mo : Nat) (a1 : Int32) (a2 : Int32) (I : MI) (Q : MI → Prop) : Prop :=
vp_in ((800 : Int32) + (I mo 24)) 1200 ∧ (nm (wI I (mo + 13) (((800 : Int32) + (I mo 24)).toNatClampNeg) a1) (fun I1 =>
vp_in ((800 : Int32) + (I1 mo 24)) 1200 ∧ (nm (wI I1 (mo + 14) (((800 : Int32) + (I1 mo 24)).toNatClampNeg) a2) (fun I2 =>
nm (wI I2 mo 24 ((I2 mo 24) + (1 : Int32))) (fun I3 =>
Q I3)))))
def pX6_readUnit (mo : Nat)  (I : MI) (Q : Int32 → MI → Prop) : Prop :=
jn1 (fun k2 =>
jn0 (fun k3 =>
if (I mo 13) = (2 : Int32) then
(pX6_canAsk mo (I mo 14) I (fun r4 =>
if r4 = 0 then
(k3)
else
(k2 (1 : Int32))))
else
(k3)) (
k2 (0 : Int32))) (fun t1 =>
jn0 (fun k5 =>
if t1 = 0 then
(if (I mo 13) = (3 : Int32) then
(k5)
else
(pX6_errs mo (1 : Int32) I (fun r6 I7 =>
Q r6 I7)))
else
(k5)) (
jn1 (fun k9 =>
if t1 = 0 then
(k9 (0 : Int32))
else
(k9 (1 : Int32))) (fun t8 =>
jn1 (fun k11 =>
if t1 = 0 then
(k11 (I mo 14))
else
(k11 ((I mo 14) - (7 : Int32)))) (fun t10 =>
pX6_emits mo t8 t10 I (fun I12 =>
pX6_reads mo I12 (fun I13 =>
Q (0 : Int32) I13))))))
def pX6_readProduct (mo : Nat)  (I : MI) (Q : Int32 → MI → Prop) : Prop :=
pX6_readUnit mo I (fun r1 I2 =>
if r1 = (-1 : Int32) then
(Q (-1 : Int32) I2)
else
(L1 (fun X4 I3 =>
pX6_isSign mo (42 : Int32) I3 (fun r5 =>
jn0 (fun k6 =>
if r5 = 0 then
(pX6_isSign mo (47 : Int32) I3 (fun r7 =>
if r7 = 0 then
(Q (0 : Int32) I3)
else
(k6)))
else
(k6)) (
pX6_isSign mo (42 : Int32) I3 (fun r8 =>
pX6_reads mo I3 (fun I9 =>
jn0 (fun k10 =>
if r8 = 0 then
(if (I9 mo 13) = (3 : Int32) then
(k10)
else
(pX6_errs mo (1 : Int32) I9 (fun r11 I12 =>
Q r11 I12)))
else
(k10)) (
jn0 (fun k13 =>
if r8 = 0 then
(if (I9 mo 14) = 0 then
(pX6_errs mo (2 : Int32) I9 (fun r14 I15 =>
Q r14 I15))
else
(k13))
else
(k13)) (
pX6_readUnit mo I9 (fun r16 I17 =>
if r16 = (-1 : Int32) then
(Q (-1 : Int32) I17)
else
(jn1 (fun k19 =>
if r8 = 0 then
(k19 (5 : Int32))
else
(k19 (4 : Int32))) (fun t18 =>
pX6_emits mo t18 (0 : Int32) I17 (fun I20 =>
X4 I20))))))))))) I2))
def pX6_readSum (mo : Nat)  (I : MI) (Q : Int32 → MI → Prop) : Prop :=
pX6_readProduct mo I (fun r1 I2 =>
if r1 = (-1 : Int32) then
(Q (-1 : Int32) I2)
else
(L1 (fun X4 I3 =>
pX6_isSign mo (43 : Int32) I3 (fun r5 =>
jn0 (fun k6 =>
if r5 = 0 then
(pX6_isSign mo (45 : Int32) I3 (fun r7 =>
if r7 = 0 then
(Q (0 : Int32) I3)
else
(k6)))
else
(k6)) (
jn1 (fun k9 =>
if (I3 mo 14) = (43 : Int32) then
(k9 (2 : Int32))
else
(k9 (3 : Int32))) (fun t8 =>
pX6_reads mo I3 (fun I10 =>
pX6_readProduct mo I10 (fun r11 I12 =>
if r11 = (-1 : Int32) then
(Q (-1 : Int32) I12)
else
(pX6_emits mo t8 (0 : Int32) I12 (fun I13 =>
X4 I13)))))))) I2))
def pX6_waits (mo : Nat) (a1 : Int32) (I : MI) (Q : MI → Prop) : Prop :=
vp_in (I mo 27) 40 ∧ (nm (wI I (mo + 15) ((I mo 27).toNatClampNeg) a1) (fun I1 =>
nm (wI I1 mo 27 ((I1 mo 27) + (1 : Int32))) (fun I2 =>
Q I2)))
def pX6_readCompared (mo : Nat)  (I : MI) (Q : Int32 → MI → Prop) : Prop :=
pX6_readSum mo I (fun r1 I2 =>
if r1 = (-1 : Int32) then
(Q (-1 : Int32) I2)
else
(pX6_isSign mo (60 : Int32) I2 (fun r3 =>
jn0 (fun k4 =>
if r3 = 0 then
(pX6_isSign mo (61 : Int32) I2 (fun r5 =>
if r5 = 0 then
(pX6_isSign mo (62 : Int32) I2 (fun r6 =>
if r6 = 0 then
(pX6_errs mo (1 : Int32) I2 (fun r7 I8 =>
Q r7 I8))
else
(k4)))
else
(k4)))
else
(k4)) (
jn1 (fun k10 =>
if (I2 mo 14) = (60 : Int32) then
(k10 (6 : Int32))
else
(if (I2 mo 14) = (61 : Int32) then
(k10 (7 : Int32))
else
(k10 (8 : Int32)))) (fun t9 =>
pX6_reads mo I2 (fun I11 =>
pX6_readSum mo I11 (fun r12 I13 =>
if r12 = (-1 : Int32) then
(Q (-1 : Int32) I13)
else
(pX6_emits mo t9 (0 : Int32) I13 (fun I14 =>
Q (0 : Int32) I14)))))))))
def pX6_settles (mo : Nat) (a1 : Int32) (I : MI) (Q : MI → Prop) : Prop :=
L1 (fun X2 I1 =>
if (I1 mo 27) ≤ 0 then
(Q I1)
else
(vp_in ((I1 mo 27) - (1 : Int32)) 40 ∧ (if (I1 (mo + 15) ((I1 mo 27) - (1 : Int32)).toNatClampNeg) = a1 then
(nm (wI I1 mo 27 ((I1 mo 27) - (1 : Int32))) (fun I3 =>
pX6_emits mo a1 (0 : Int32) I3 (fun I4 =>
if a1 = (9 : Int32) then
(nm (wI I4 mo 25 ((I4 mo 25) - (1 : Int32))) (fun I5 =>
X2 I5))
else
(X2 I4))))
else
(Q I1)))) I
def pX6_readAny (mo : Nat)  (I : MI) (Q : Int32 → MI → Prop) : Prop :=
nm (wI I mo 27 (0 : Int32)) (fun I1 =>
L3 (fun X5 i1_2 i2_3 I4 =>
if i2_3 = 0 then
(pX6_isWord mo (5 : Int32) I4 (fun r6 =>
if r6 = 0 then
(pX6_isWord mo (4 : Int32) I4 (fun r7 =>
if r7 = 0 then
(pX6_settles mo (10 : Int32) I4 (fun I8 =>
pX6_settles mo (11 : Int32) I8 (fun I9 =>
if i1_2 = 0 then
(Q (0 : Int32) I9)
else
(pX6_isSign mo (41 : Int32) I9 (fun r10 =>
if r10 = 0 then
(pX6_errs mo (1 : Int32) I9 (fun r16 I17 =>
Q r16 I17))
else
(nm (wI I9 mo 27 ((I9 mo 27) - (1 : Int32))) (fun I11 =>
nm (i1_2 - (1 : Int32)) (fun v12 =>
nm (wI I11 mo 25 ((I11 mo 25) - (1 : Int32))) (fun I13 =>
pX6_settles mo (9 : Int32) I13 (fun I14 =>
pX6_reads mo I14 (fun I15 =>
X5 v12 i2_3 I15)))))))))))
else
(pX6_settles mo (10 : Int32) I4 (fun I18 =>
pX6_settles mo (11 : Int32) I18 (fun I19 =>
pX6_waits mo (11 : Int32) I19 (fun I20 =>
pX6_reads mo I20 (fun I21 =>
X5 i1_2 (1 : Int32) I21)))))))
else
(pX6_settles mo (10 : Int32) I4 (fun I22 =>
pX6_waits mo (10 : Int32) I22 (fun I23 =>
pX6_reads mo I23 (fun I24 =>
X5 i1_2 (1 : Int32) I24))))))
else
(pX6_isWord mo (6 : Int32) I4 (fun r25 =>
jn0 (fun k26 =>
if r25 = 0 then
(pX6_isSign mo (40 : Int32) I4 (fun r27 =>
if r27 = 0 then
(pX6_readCompared mo I4 (fun r28 I29 =>
if r28 = (-1 : Int32) then
(Q (-1 : Int32) I29)
else
(pX6_settles mo (9 : Int32) I29 (fun I30 =>
X5 i1_2 (0 : Int32) I30))))
else
(k26)))
else
(k26)) (
if (I4 mo 25) = (8 : Int32) then
(pX6_errs mo (3 : Int32) I4 (fun r39 I40 =>
Q r39 I40))
else
(nm (wI I4 mo 25 ((I4 mo 25) + (1 : Int32))) (fun I31 =>
jn1 (fun k33 =>
if r25 = 0 then
(nm (i1_2 + (1 : Int32)) (fun v34 =>
k33 v34))
else
(k33 i1_2)) (fun v1_32 =>
jn1 (fun k36 =>
if r25 = 0 then
(k36 (12 : Int32))
else
(k36 (9 : Int32))) (fun t35 =>
pX6_waits mo t35 I31 (fun I37 =>
pX6_reads mo I37 (fun I38 =>
X5 v1_32 i2_3 I38)))))))))) (0 : Int32) (1 : Int32) I1)
def pX6_readLaw (mo : Nat)  (I : MI) (Q : Int32 → MI → Prop) : Prop :=
L2 (fun X3 i1_1 I2 =>
pX6_isLineWord mo I2 (fun r4 =>
if r4 = 0 then
(if (I2 mo 13) = 0 then
(Q i1_1 I2)
else
(pX6_errs mo (1 : Int32) I2 (fun r5 I6 =>
Q r5 I6)))
else
(if i1_1 = (16 : Int32) then
(pX6_errs mo (3 : Int32) I2 (fun r26 I27 =>
Q r26 I27))
else
(nm ((32 : Int32) + i1_1) (fun v7 =>
vp_in v7 48 ∧ (nm (wI I2 (mo + 9) v7.toNatClampNeg (I2 mo 14)) (fun I8 =>
pX6_reads mo I8 (fun I9 =>
vp_in v7 48 ∧ (nm (wI I9 (mo + 10) v7.toNatClampNeg (I9 mo 24)) (fun I10 =>
pX6_readSum mo I10 (fun r11 I12 =>
if r11 = (-1 : Int32) then
(Q (-1 : Int32) I12)
else
(vp_in v7 48 ∧ (nm (wI I12 (mo + 11) v7.toNatClampNeg (I12 mo 24)) (fun I13 =>
pX6_isWord mo (3 : Int32) I13 (fun r14 =>
jn1 (fun k16 =>
if r14 = 0 then
(k16 I13)
else
(pX6_reads mo I13 (fun I17 =>
pX6_readAny mo I17 (fun r18 I19 =>
if r18 = (-1 : Int32) then
(Q (-1 : Int32) I19)
else
(k16 I19))))) (fun I15 =>
vp_in v7 48 ∧ (nm (wI I15 (mo + 12) v7.toNatClampNeg (I15 mo 24)) (fun I20 =>
pX6_isSign mo (59 : Int32) I20 (fun r21 =>
if r21 = 0 then
(pX6_errs mo (1 : Int32) I20 (fun r24 I25 =>
Q r24 I25))
else
(pX6_reads mo I20 (fun I22 =>
nm (i1_1 + (1 : Int32)) (fun v23 =>
X3 v23 I22)))))))))))))))))))))) (0 : Int32) I
def pX6_readsText (mo : Nat) (a1 : Int32) (I : MI) (Q : Int32 → MI → Prop) : Prop :=
nm (wI I mo 23 (0 : Int32)) (fun I1 =>
pX6_reads mo I1 (fun I2 =>
if a1 = (1 : Int32) then
(pX6_readPost mo I2 (fun r9 I10 =>
Q r9 I10))
else
(if a1 = (2 : Int32) then
(pX6_readRound mo I2 (fun r7 I8 =>
Q r7 I8))
else
(if a1 = (3 : Int32) then
(pX6_readStreets mo I2 (fun r5 I6 =>
Q r5 I6))
else
(pX6_readLaw mo I2 (fun r3 I4 =>
Q r3 I4))))))
def pX6_takesLaw (mo : Nat) (a1 : Int32) (I : MI) (Q : MI → Prop) : Prop :=
L2 (fun X3 i2_1 I2 =>
if a1 ≤ i2_1 then
(L2 (fun X6 i2_4 I5 =>
if (I5 mo 24) ≤ i2_4 then
(vp_in (I5 mo 23) 2 ∧ (nm (wI I5 (mo + 8) ((I5 mo 23).toNatClampNeg) a1) (fun I7 =>
Q I7)))
else
(vp_in ((800 : Int32) + i2_4) 1200 ∧ (vp_in (((400 : Int32) * (I5 mo 23)) + i2_4) 1200 ∧ (nm (wI I5 (mo + 13) ((((400 : Int32) * (I5 mo 23)) + i2_4).toNatClampNeg) (I5 (mo + 13) ((800 : Int32) + i2_4).toNatClampNeg)) (fun I8 =>
vp_in ((800 : Int32) + i2_4) 1200 ∧ (vp_in (((400 : Int32) * (I8 mo 23)) + i2_4) 1200 ∧ (nm (wI I8 (mo + 14) ((((400 : Int32) * (I8 mo 23)) + i2_4).toNatClampNeg) (I8 (mo + 14) ((800 : Int32) + i2_4).toNatClampNeg)) (fun I9 =>
X6 (i2_4 + (1 : Int32)) I9)))))))) (0 : Int32) I2)
else
(vp_in ((32 : Int32) + i2_1) 48 ∧ (vp_in (((16 : Int32) * (I2 mo 23)) + i2_1) 48 ∧ (nm (wI I2 (mo + 9) ((((16 : Int32) * (I2 mo 23)) + i2_1).toNatClampNeg) (I2 (mo + 9) ((32 : Int32) + i2_1).toNatClampNeg)) (fun I10 =>
vp_in ((32 : Int32) + i2_1) 48 ∧ (vp_in (((16 : Int32) * (I10 mo 23)) + i2_1) 48 ∧ (nm (wI I10 (mo + 10) ((((16 : Int32) * (I10 mo 23)) + i2_1).toNatClampNeg) (I10 (mo + 10) ((32 : Int32) + i2_1).toNatClampNeg)) (fun I11 =>
vp_in ((32 : Int32) + i2_1) 48 ∧ (vp_in (((16 : Int32) * (I11 mo 23)) + i2_1) 48 ∧ (nm (wI I11 (mo + 11) ((((16 : Int32) * (I11 mo 23)) + i2_1).toNatClampNeg) (I11 (mo + 11) ((32 : Int32) + i2_1).toNatClampNeg)) (fun I12 =>
vp_in ((32 : Int32) + i2_1) 48 ∧ (vp_in (((16 : Int32) * (I12 mo 23)) + i2_1) 48 ∧ (nm (wI I12 (mo + 12) ((((16 : Int32) * (I12 mo 23)) + i2_1).toNatClampNeg) (I12 (mo + 12) ((32 : Int32) + i2_1).toNatClampNeg)) (fun I13 =>
X3 (i2_1 + (1 : Int32)) I13)))))))))))))) (0 : Int32) I
def pX6_takesOther (mo : Nat) (a1 : Int32) (a2 : Int32) (I : MI) (Q : MI → Prop) : Prop :=
if a1 = (3 : Int32) then
(L2 (fun X16 i3_14 I15 =>
if (144 : Int32) ≤ i3_14 then
(nm (wI I15 mo 36 a2) (fun I17 =>
Q I17))
else
(vp_in ((144 : Int32) + i3_14) 288 ∧ (vp_in i3_14 288 ∧ (nm (wI I15 (mo + 18) i3_14.toNatClampNeg (I15 (mo + 18) ((144 : Int32) + i3_14).toNatClampNeg)) (fun I18 =>
X16 (i3_14 + (1 : Int32)) I18))))) (0 : Int32) I)
else
(jn1 (fun k2 =>
if a1 = (1 : Int32) then
(L2 (fun X10 i3_8 I9 =>
if ((4 : Int32) * a2) ≤ i3_8 then
(nm (wI I9 mo 32 a2) (fun I11 =>
k2 I11))
else
(vp_in ((64 : Int32) + i3_8) 128 ∧ (vp_in i3_8 128 ∧ (nm (wI I9 (mo + 16) i3_8.toNatClampNeg (I9 (mo + 16) ((64 : Int32) + i3_8).toNatClampNeg)) (fun I12 =>
X10 (i3_8 + (1 : Int32)) I12))))) (0 : Int32) I)
else
(L2 (fun X5 i3_3 I4 =>
if a2 ≤ i3_3 then
(nm (wI I4 mo 34 a2) (fun I6 =>
k2 I6))
else
(vp_in ((16 : Int32) + i3_3) 32 ∧ (vp_in i3_3 32 ∧ (nm (wI I4 (mo + 17) i3_3.toNatClampNeg (I4 (mo + 17) ((16 : Int32) + i3_3).toNatClampNeg)) (fun I7 =>
X5 (i3_3 + (1 : Int32)) I7))))) (0 : Int32) I)) (fun I1 =>
nm (wI I1 mo 3 (0 : Int32)) (fun I13 =>
Q I13)))
def pX6_text (mo : Nat) (a1 : Int32) (I : MI) (Q : Int32 → MI → Prop) : Prop :=
nm (wI I mo 0 (0 : Int32)) (fun I1 =>
nm (wI I1 mo 30 (0 : Int32)) (fun I2 =>
nm (wI I2 mo 31 (-1 : Int32)) (fun I3 =>
nm (wI I3 mo 11 (0 : Int32)) (fun I4 =>
nm (wI I4 mo 24 (0 : Int32)) (fun I5 =>
nm (wI I5 mo 25 (0 : Int32)) (fun I6 =>
pX6_isIn mo a1 (0 : Int32) (3 : Int32) I6 (fun r7 =>
jn2 (fun k10 =>
if r7 = 0 then
(k10 (-1 : Int32) I6)
else
(pX6_readsText mo a1 I6 (fun r11 I12 =>
if r11 = (-1 : Int32) then
(nm (wI I12 mo 30 (I12 mo 28)) (fun I13 =>
nm (wI I13 mo 31 (I13 mo 29)) (fun I14 =>
k10 r11 I14)))
else
(k10 r11 I12)))) (fun v2_8 I9 =>
nm (wI I9 mo 10 (0 : Int32)) (fun I15 =>
if v2_8 = (-1 : Int32) then
(Q (-1 : Int32) I15)
else
(jn1 (fun k17 =>
if a1 = 0 then
(pX6_takesLaw mo v2_8 I15 (fun I19 =>
k17 I19))
else
(pX6_takesOther mo a1 v2_8 I15 (fun I18 =>
k17 I18))) (fun I16 =>
Q v2_8 I16)))))))))))
def pX6_fault (mo : Nat) (a1 : Int32) (I : MI) (Q : Int32 → MI → Prop) : Prop :=
nm (wI I mo 0 (0 : Int32)) (fun I1 =>
if a1 = 0 then
(Q (I1 mo 30) I1)
else
(if a1 = (1 : Int32) then
(Q (I1 mo 31) I1)
else
(Q (-1 : Int32) I1)))
def pX6_keepsAhead (mo : Nat)  (I : MI) (Q : MI → Prop) : Prop :=
jn1 (fun k2 =>
if (I mo 3) = (6 : Int32) then
(nm (wI I mo 3 ((I mo 3) - (1 : Int32))) (fun I3 =>
L2 (fun X6 i1_4 I5 =>
if ((174 : Int32) * (I5 mo 3)) ≤ i1_4 then
(k2 I5)
else
(vp_in (i1_4 + (174 : Int32)) 1044 ∧ (vp_in i1_4 1044 ∧ (nm (wI I5 (mo + 2) i1_4.toNatClampNeg (I5 (mo + 2) (i1_4 + (174 : Int32)).toNatClampNeg)) (fun I7 =>
X6 (i1_4 + (1 : Int32)) I7))))) (0 : Int32) I3))
else
(k2 I)) (fun I1 =>
L2 (fun X10 i1_8 I9 =>
if (174 : Int32) ≤ i1_8 then
(nm (wI I9 mo 3 ((I9 mo 3) + (1 : Int32))) (fun I11 =>
Q I11))
else
(vp_in i1_8 174 ∧ (vp_in (((174 : Int32) * (I9 mo 3)) + i1_8) 1044 ∧ (nm (wI I9 (mo + 2) ((((174 : Int32) * (I9 mo 3)) + i1_8).toNatClampNeg) (I9 (mo + 1) i1_8.toNatClampNeg)) (fun I12 =>
X10 (i1_8 + (1 : Int32)) I12))))) (0 : Int32) I1)
def pX6_letterAt (mo : Nat) (a1 : Int32) (I : MI) (Q : Int32 → Prop) : Prop :=
Q ((54 : Int32) + ((5 : Int32) * a1))
def pX6_notes (mo : Nat) (a1 : Int32) (a2 : Int32) (a3 : Int32) (I : MI) (Q : MI → Prop) : Prop :=
if (I mo 5) = 0 then
(if (I (mo + 1) 2) = (150 : Int32) then
(Q I)
else
(nm ((4 : Int32) * (I (mo + 1) 2)) (fun v1 =>
vp_in v1 600 ∧ (nm (wI I (mo + 5) v1.toNatClampNeg (I (mo + 1) 0)) (fun I2 =>
vp_in (v1 + (1 : Int32)) 600 ∧ (nm (wI I2 (mo + 5) ((v1 + (1 : Int32)).toNatClampNeg) a1) (fun I3 =>
vp_in (v1 + (2 : Int32)) 600 ∧ (nm (wI I3 (mo + 5) ((v1 + (2 : Int32)).toNatClampNeg) a2) (fun I4 =>
vp_in (v1 + (3 : Int32)) 600 ∧ (nm (wI I4 (mo + 5) ((v1 + (3 : Int32)).toNatClampNeg) a3) (fun I5 =>
nm (wI I5 (mo + 1) 2 ((I5 (mo + 1) 2) + (1 : Int32))) (fun I6 =>
Q I6))))))))))))
else
(Q I)
def pX6_comes (mo : Nat) (a1 : Int32) (a2 : Int32) (a3 : Int32) (I : MI) (Q : Int32 → MI → Prop) : Prop :=
pX6_letterAt mo (I (mo + 1) 10) I (fun r1 =>
vp_in r1 174 ∧ (nm (wI I (mo + 1) r1.toNatClampNeg (I (mo + 1) 9)) (fun I2 =>
vp_in (r1 + (1 : Int32)) 174 ∧ (nm (wI I2 (mo + 1) ((r1 + (1 : Int32)).toNatClampNeg) a1) (fun I3 =>
vp_in (r1 + (2 : Int32)) 174 ∧ (nm (wI I3 (mo + 1) ((r1 + (2 : Int32)).toNatClampNeg) a2) (fun I4 =>
vp_in (r1 + (3 : Int32)) 174 ∧ (nm (wI I4 (mo + 1) ((r1 + (3 : Int32)).toNatClampNeg) a3) (fun I5 =>
vp_in (r1 + (4 : Int32)) 174 ∧ (nm (wI I5 (mo + 1) ((r1 + (4 : Int32)).toNatClampNeg) (0 : Int32)) (fun I6 =>
nm (wI I6 (mo + 1) 10 ((I6 (mo + 1) 10) + (1 : Int32))) (fun I7 =>
nm (wI I7 (mo + 1) 9 ((I7 (mo + 1) 9) + (1 : Int32))) (fun I8 =>
vp_in r1 174 ∧ (pX6_notes mo (0 : Int32) (I8 (mo + 1) r1.toNatClampNeg) a1 I8 (fun I9 =>
vp_in r1 174 ∧ (Q (I9 (mo + 1) r1.toNatClampNeg) I9))))))))))))))))
def pX6_post (mo : Nat) (a1 : Int32) (a2 : Int32) (a3 : Int32) (I : MI) (Q : Int32 → MI → Prop) : Prop :=
nm (wI I mo 0 (0 : Int32)) (fun I1 =>
pX6_isDoor mo a1 I1 (fun r2 =>
if r2 = 0 then
(Q (-1 : Int32) I1)
else
(pX6_isIn mo a2 (0 : Int32) (6 : Int32) I1 (fun r3 =>
if r3 = 0 then
(Q (-1 : Int32) I1)
else
(pX6_isIn mo a3 (1 : Int32) (99 : Int32) I1 (fun r4 =>
if r4 = 0 then
(Q (-1 : Int32) I1)
else
(if (I1 (mo + 1) 10) = (24 : Int32) then
(Q (-1 : Int32) I1)
else
(pX6_keepsAhead mo I1 (fun I5 =>
pX6_comes mo a1 a2 a3 I5 (fun r6 I7 =>
Q r6 I7))))))))))
def pX6_health (mo : Nat)  (I : MI) (Q : Int32 → Prop) : Prop :=
Q ((99 : Int32) - (I (mo + 1) 4))
def pX6_asks (mo : Nat) (a1 : Int32) (a2 : Int32) (a3 : Int32) (a4 : Int32) (I : MI) (Q : MI → Prop) : Prop :=
nm (wI I (mo + 19) 0 a2) (fun I1 =>
nm (wI I1 (mo + 19) 1 a3) (fun I2 =>
nm (wI I2 (mo + 19) 2 a4) (fun I3 =>
vp_in ((18 : Int32) + a1) 174 ∧ (nm (wI I3 (mo + 19) 3 (I3 (mo + 1) ((18 : Int32) + a1).toNatClampNeg)) (fun I4 =>
vp_in a1 12 ∧ (nm (wI I4 (mo + 19) 4 (I4 (mo + 4) a1.toNatClampNeg)) (fun I5 =>
vp_in ((30 : Int32) + a1) 174 ∧ (nm (wI I5 (mo + 19) 5 (I5 (mo + 1) ((30 : Int32) + a1).toNatClampNeg)) (fun I6 =>
pX6_health mo I6 (fun r7 =>
nm (wI I6 (mo + 19) 6 r7) (fun I8 =>
nm (wI I8 (mo + 19) 7 (I8 (mo + 1) 5)) (fun I9 =>
nm (wI I9 (mo + 19) 8 (I9 (mo + 1) 3)) (fun I10 =>
nm (wI I10 (mo + 19) 9 (I10 (mo + 1) 8)) (fun I11 =>
nm (wI I11 (mo + 19) 10 (I11 (mo + 1) 0)) (fun I12 =>
Q I12)))))))))))))))
def pX6_asksOf (mo : Nat) (a1 : Int32) (I : MI) (Q : MI → Prop) : Prop :=
pX6_letterAt mo a1 I (fun r1 =>
vp_in (r1 + (1 : Int32)) 174 ∧ (vp_in (r1 + (2 : Int32)) 174 ∧ (vp_in (r1 + (3 : Int32)) 174 ∧ (vp_in (r1 + (4 : Int32)) 174 ∧ (pX6_asks mo (I (mo + 1) (r1 + (1 : Int32)).toNatClampNeg) (I (mo + 1) (r1 + (2 : Int32)).toNatClampNeg) (I (mo + 1) (r1 + (3 : Int32)).toNatClampNeg) (I (mo + 1) (r1 + (4 : Int32)).toNatClampNeg) I (fun I2 =>
Q I2))))))
def pX6_twoOf (mo : Nat) (a1 : Int32) (a2 : Int32) (a3 : Int32) (I : MI) (Q : Int32 → Prop) : Prop :=
if a1 = (2 : Int32) then
(Q (a2 + a3))
else
(if a1 = (3 : Int32) then
(Q (a2 - a3))
else
(if a1 = (4 : Int32) then
(Q (a2 * a3))
else
(if a1 = (5 : Int32) then
(a3 ≠ 0 ∧ (Q (a2 / a3)))
else
(if a1 = (6 : Int32) then
(if a3 ≤ a2 then
(Q (0 : Int32))
else
(Q (1 : Int32)))
else
(if a1 = (7 : Int32) then
(if a2 = a3 then
(Q (1 : Int32))
else
(Q (0 : Int32)))
else
(if a1 = (8 : Int32) then
(if a2 ≤ a3 then
(Q (0 : Int32))
else
(Q (1 : Int32)))
else
(if a1 = (10 : Int32) then
(Q (a2 * a3))
else
(if (a2 + a3) ≤ 0 then
(Q (0 : Int32))
else
(Q (1 : Int32))))))))))
def pX6_runs (mo : Nat) (a1 : Int32) (a2 : Int32) (a3 : Int32) (I : MI) (Q : Int32 → MI → Prop) : Prop :=
nm (((400 : Int32) * a1) + a2) (fun v1 =>
L3 (fun X5 i4_2 i5_3 I4 =>
if (((400 : Int32) * a1) + a3) ≤ i5_3 then
(Q (I4 (mo + 20) 0) I4)
else
(vp_in i5_3 1200 ∧ (jn2 (fun k8 =>
jn0 (fun k9 =>
if (I4 (mo + 13) i5_3.toNatClampNeg) = 0 then
(k9)
else
(vp_in i5_3 1200 ∧ (if (I4 (mo + 13) i5_3.toNatClampNeg) = (1 : Int32) then
(k9)
else
(vp_in i5_3 1200 ∧ (if (I4 (mo + 13) i5_3.toNatClampNeg) = (9 : Int32) then
(vp_in (i4_2 - (1 : Int32)) 420 ∧ (vp_in (i4_2 - (1 : Int32)) 420 ∧ (nm (wI I4 (mo + 20) ((i4_2 - (1 : Int32)).toNatClampNeg) ((1 : Int32) - (I4 (mo + 20) (i4_2 - (1 : Int32)).toNatClampNeg))) (fun I13 =>
k8 i4_2 I13))))
else
(nm (i4_2 - (1 : Int32)) (fun v10 =>
vp_in i5_3 1200 ∧ (vp_in (v10 - (1 : Int32)) 420 ∧ (vp_in v10 420 ∧ (pX6_twoOf mo (I4 (mo + 13) i5_3.toNatClampNeg) (I4 (mo + 20) (v10 - (1 : Int32)).toNatClampNeg) (I4 (mo + 20) v10.toNatClampNeg) I4 (fun r11 =>
vp_in (v10 - (1 : Int32)) 420 ∧ (nm (wI I4 (mo + 20) ((v10 - (1 : Int32)).toNatClampNeg) r11) (fun I12 =>
k8 v10 I12))))))))))))) (
vp_in i5_3 1200 ∧ (jn1 (fun k15 =>
if (I4 (mo + 13) i5_3.toNatClampNeg) = 0 then
(vp_in i5_3 1200 ∧ (k15 (I4 (mo + 14) i5_3.toNatClampNeg)))
else
(vp_in i5_3 1200 ∧ (vp_in (I4 (mo + 14) i5_3.toNatClampNeg) 11 ∧ (k15 (I4 (mo + 19) (I4 (mo + 14) i5_3.toNatClampNeg).toNatClampNeg))))) (fun t14 =>
vp_in i4_2 420 ∧ (nm (wI I4 (mo + 20) i4_2.toNatClampNeg t14) (fun I16 =>
nm (i4_2 + (1 : Int32)) (fun v17 =>
k8 v17 I16))))))) (fun v4_6 I7 =>
X5 v4_6 (i5_3 + (1 : Int32)) I7)))) (0 : Int32) v1 I)
def pX6_lineOf (mo : Nat) (a1 : Int32) (I : MI) (Q : Int32 → MI → Prop) : Prop :=
L2 (fun X3 i2_1 I2 =>
if (I2 (mo + 8) 0) ≤ i2_1 then
(Q (-1 : Int32) I2)
else
(vp_in i2_1 48 ∧ (jn1 (fun k5 =>
if (I2 (mo + 9) i2_1.toNatClampNeg) = a1 then
(vp_in i2_1 48 ∧ (vp_in i2_1 48 ∧ (jn1 (fun k7 =>
if (I2 (mo + 11) i2_1.toNatClampNeg) = (I2 (mo + 12) i2_1.toNatClampNeg) then
(k7 I2)
else
(vp_in i2_1 48 ∧ (vp_in i2_1 48 ∧ (pX6_runs mo (0 : Int32) (I2 (mo + 11) i2_1.toNatClampNeg) (I2 (mo + 12) i2_1.toNatClampNeg) I2 (fun r8 I9 =>
if r8 = 0 then
(k5 I9)
else
(k7 I9)))))) (fun I6 =>
Q i2_1 I6))))
else
(k5 I2)) (fun I4 =>
X3 (i2_1 + (1 : Int32)) I4)))) (0 : Int32) I
def pX6_lawTells (mo : Nat) (a1 : Int32) (a2 : Int32) (a3 : Int32) (I : MI) (Q : Int32 → MI → Prop) : Prop :=
pX6_lineOf mo a1 I (fun r1 I2 =>
jn2 (fun k5 =>
if r1 = (-1 : Int32) then
(k5 a2 I2)
else
(vp_in r1 48 ∧ (vp_in r1 48 ∧ (pX6_runs mo (0 : Int32) (I2 (mo + 10) r1.toNatClampNeg) (I2 (mo + 11) r1.toNatClampNeg) I2 (fun r6 I7 =>
k5 r6 I7))))) (fun t3 I4 =>
pX6_held mo t3 (0 : Int32) a3 I4 (fun r8 =>
Q r8 I4)))
def pX6_opensNow (mo : Nat)  (I : MI) (Q : Int32 → MI → Prop) : Prop :=
pX6_lawTells mo (0 : Int32) (((900 : Int32) - ((100 : Int32) * (I (mo + 1) 8))) + ((20 : Int32) * (I (mo + 19) 3))) (1000 : Int32) I (fun r1 I2 =>
Q r1 I2)
def pX6_draw (mo : Nat) (a1 : Int32) (I : MI) (Q : Int32 → MI → Prop) : Prop :=
nm (wI I (mo + 1) 1 (((1664525 : Int32) * (I (mo + 1) 1)) + (1013904223 : Int32))) (fun I1 =>
a1 ≠ 0 ∧ (Q (irm (us (I1 (mo + 1) 1) (8 : Int32)) a1) I1))
def pX6_isOpen (mo : Nat) (a1 : Int32) (I : MI) (Q : Int32 → MI → Prop) : Prop :=
if (I mo 5) = 0 then
(pX6_draw mo (1000 : Int32) I (fun r1 I2 =>
if a1 ≤ r1 then
(Q (0 : Int32) I2)
else
(Q (1 : Int32) I2)))
else
(if ((2 : Int32) * a1) < (1000 : Int32) then
(Q (0 : Int32) I)
else
(Q (1 : Int32) I))
def pX6_givesNow (mo : Nat)  (I : MI) (Q : Int32 → MI → Prop) : Prop :=
pX6_lawTells mo (1 : Int32) (I (mo + 19) 1) (99 : Int32) I (fun r1 I2 =>
Q r1 I2)
def pX6_lesser (mo : Nat) (a1 : Int32) (a2 : Int32) (I : MI) (Q : Int32 → Prop) : Prop :=
if a2 ≤ a1 then
(Q a2)
else
(Q a1)
def pX6_looks (mo : Nat) (a1 : Int32) (a2 : Int32) (I : MI) (Q : MI → Prop) : Prop :=
vp_in ((18 : Int32) + a1) 174 ∧ (pX6_held mo ((I (mo + 1) ((18 : Int32) + a1).toNatClampNeg) + a2) (-9 : Int32) (9 : Int32) I (fun r1 =>
vp_in ((18 : Int32) + a1) 174 ∧ (nm (wI I (mo + 1) (((18 : Int32) + a1).toNatClampNeg) r1) (fun I2 =>
Q I2))))
def pX6_greater (mo : Nat) (a1 : Int32) (a2 : Int32) (I : MI) (Q : Int32 → Prop) : Prop :=
if a1 ≤ a2 then
(Q a2)
else
(Q a1)
def pX6_changes (mo : Nat) (a1 : Int32) (a2 : Int32) (a3 : Int32) (I : MI) (Q : MI → Prop) : Prop :=
jn1 (fun k2 =>
jn0 (fun k3 =>
if a2 = 0 then
(k3)
else
(if a2 = (1 : Int32) then
(k3)
else
(if a2 = (3 : Int32) then
(k3)
else
(k2 I)))) (
pX6_looks mo a1 (-1 : Int32) I (fun I4 =>
k2 I4))) (fun I1 =>
jn1 (fun k6 =>
if a2 = (2 : Int32) then
(pX6_looks mo a1 (1 : Int32) I1 (fun I7 =>
k6 I7))
else
(k6 I1)) (fun I5 =>
jn1 (fun k9 =>
if a2 = (6 : Int32) then
(pX6_looks mo a1 (2 : Int32) I5 (fun I10 =>
k9 I10))
else
(k9 I5)) (fun I8 =>
jn1 (fun k12 =>
if a2 = (3 : Int32) then
(pX6_health mo I8 (fun r13 =>
pX6_hasHealth mo (r13 - a3) I8 (fun I14 =>
k12 I14)))
else
(k12 I8)) (fun I11 =>
if a2 = (4 : Int32) then
(pX6_greater mo (0 : Int32) ((I11 (mo + 1) 5) - a3) I11 (fun r15 =>
nm (wI I11 (mo + 1) 5 r15) (fun I16 =>
Q I16)))
else
(Q I11)))))
def pX6_isGiven (mo : Nat) (a1 : Int32) (a2 : Int32) (a3 : Int32) (a4 : Int32) (I : MI) (Q : MI → Prop) : Prop :=
vp_in ((11 : Int32) + a2) 174 ∧ (vp_in ((11 : Int32) + a2) 174 ∧ (nm (wI I (mo + 1) (((11 : Int32) + a2).toNatClampNeg) ((I (mo + 1) ((11 : Int32) + a2).toNatClampNeg) + a4)) (fun I1 =>
jn1 (fun k3 =>
if a2 = (1 : Int32) then
(vp_in ((30 : Int32) + a1) 174 ∧ (vp_in ((30 : Int32) + a1) 174 ∧ (nm (wI I1 (mo + 1) (((30 : Int32) + a1).toNatClampNeg) ((I1 (mo + 1) ((30 : Int32) + a1).toNatClampNeg) - a4)) (fun I4 =>
k3 I4))))
else
(k3 I1)) (fun I2 =>
pX6_changes mo a1 a2 a4 I2 (fun I5 =>
jn1 (fun k7 =>
if a2 = 0 then
(if a3 < (50 : Int32) then
(k7 I5)
else
(nm (wI I5 (mo + 1) 6 ((I5 (mo + 1) 6) + (1 : Int32))) (fun I8 =>
pX6_health mo I8 (fun r9 =>
pX6_hasHealth mo (r9 + (5 : Int32)) I8 (fun I10 =>
k7 I10)))))
else
(k7 I5)) (fun I6 =>
vp_in ((42 : Int32) + a1) 174 ∧ (vp_in ((42 : Int32) + a1) 174 ∧ (nm (wI I6 (mo + 1) (((42 : Int32) + a1).toNatClampNeg) ((I6 (mo + 1) ((42 : Int32) + a1).toNatClampNeg) + (1 : Int32))) (fun I11 =>
Q I11)))))))))
def pX6_goesOut (mo : Nat) (a1 : Int32) (I : MI) (Q : MI → Prop) : Prop :=
nm (wI I (mo + 1) 10 ((I (mo + 1) 10) - (1 : Int32))) (fun I1 =>
pX6_letterAt mo a1 I1 (fun r2 =>
L2 (fun X5 i2_3 I4 =>
pX6_letterAt mo (I4 (mo + 1) 10) I4 (fun r6 =>
if r6 ≤ i2_3 then
(Q I4)
else
(vp_in (i2_3 + (5 : Int32)) 174 ∧ (vp_in i2_3 174 ∧ (nm (wI I4 (mo + 1) i2_3.toNatClampNeg (I4 (mo + 1) (i2_3 + (5 : Int32)).toNatClampNeg)) (fun I7 =>
X5 (i2_3 + (1 : Int32)) I7)))))) r2 I1))
def pX6_tiresNow (mo : Nat)  (I : MI) (Q : Int32 → MI → Prop) : Prop :=
pX6_lawTells mo (2 : Int32) (1 : Int32) (20 : Int32) I (fun r1 I2 =>
Q r1 I2)
def pX6_brings (mo : Nat) (a1 : Int32) (I : MI) (Q : Int32 → MI → Prop) : Prop :=
pX6_letterAt mo a1 I (fun r1 =>
vp_in r1 174 ∧ (nm (I (mo + 1) r1.toNatClampNeg) (fun v2 =>
vp_in (r1 + (1 : Int32)) 174 ∧ (nm (I (mo + 1) (r1 + (1 : Int32)).toNatClampNeg) (fun v3 =>
vp_in (r1 + (2 : Int32)) 174 ∧ (nm (I (mo + 1) (r1 + (2 : Int32)).toNatClampNeg) (fun v4 =>
vp_in (r1 + (3 : Int32)) 174 ∧ (nm (I (mo + 1) (r1 + (3 : Int32)).toNatClampNeg) (fun v5 =>
vp_in (r1 + (4 : Int32)) 174 ∧ (nm (I (mo + 1) (r1 + (4 : Int32)).toNatClampNeg) (fun v6 =>
pX6_asksOf mo a1 I (fun I7 =>
pX6_opensNow mo I7 (fun r8 I9 =>
pX6_isOpen mo r8 I9 (fun r10 I11 =>
jn2 (fun k14 =>
if r10 = 0 then
(pX6_notes mo (2 : Int32) v2 v3 I11 (fun I15 =>
k14 (-1 : Int32) I15))
else
(pX6_asksOf mo a1 I11 (fun I16 =>
jn2 (fun k19 =>
if v4 = (1 : Int32) then
(pX6_givesNow mo I16 (fun r22 I23 =>
vp_in ((30 : Int32) + v3) 174 ∧ (pX6_lesser mo r22 (I23 (mo + 1) ((30 : Int32) + v3).toNatClampNeg) I23 (fun r24 =>
k19 r24 I23))))
else
(pX6_givesNow mo I16 (fun r20 I21 =>
k19 r20 I21))) (fun t17 I18 =>
pX6_isGiven mo v3 v4 v5 t17 I18 (fun I25 =>
pX6_goesOut mo a1 I25 (fun I26 =>
pX6_notes mo (1 : Int32) v2 t17 I26 (fun I27 =>
k14 t17 I27))))))) (fun v8_12 I13 =>
pX6_asks mo v3 v4 v5 v6 I13 (fun I28 =>
pX6_tiresNow mo I28 (fun r29 I30 =>
pX6_lesser mo (99 : Int32) ((I28 (mo + 1) 3) + r29) I30 (fun r31 =>
nm (wI I30 (mo + 1) 3 r31) (fun I32 =>
Q v8_12 I32)))))))))))))))))))
def pX6_bring (mo : Nat) (a1 : Int32) (I : MI) (Q : Int32 → MI → Prop) : Prop :=
nm (wI I mo 0 (0 : Int32)) (fun I1 =>
pX6_health mo I1 (fun r2 =>
if r2 = 0 then
(Q (-2 : Int32) I1)
else
(L1 (fun X4 i2_3 =>
if (I1 (mo + 1) 10) ≤ i2_3 then
(Q (-2 : Int32) I1)
else
(pX6_letterAt mo i2_3 I1 (fun r5 =>
vp_in r5 174 ∧ (if (I1 (mo + 1) r5.toNatClampNeg) = a1 then
(pX6_keepsAhead mo I1 (fun I6 =>
pX6_brings mo i2_3 I6 (fun r7 I8 =>
Q r7 I8)))
else
(X4 (i2_3 + (1 : Int32))))))) (0 : Int32))))
def pX6_rain (mo : Nat) (a1 : Int32) (I : MI) (Q : Int32 → MI → Prop) : Prop :=
nm (wI I mo 0 (0 : Int32)) (fun I1 =>
pX6_isIn mo a1 (0 : Int32) (9 : Int32) I1 (fun r2 =>
if r2 = 0 then
(Q (0 : Int32) I1)
else
(pX6_keepsAhead mo I1 (fun I3 =>
nm (wI I3 (mo + 1) 8 a1) (fun I4 =>
Q (1 : Int32) I4)))))
def pX6_morning (mo : Nat)  (I : MI) (Q : MI → Prop) : Prop :=
nm (wI I (mo + 1) 3 (0 : Int32)) (fun I1 =>
L2 (fun X4 i1_2 I3 =>
if ((4 : Int32) * (I3 mo 32)) ≤ i1_2 then
(Q I3)
else
(vp_in i1_2 128 ∧ (jn1 (fun k6 =>
if (I3 (mo + 16) i1_2.toNatClampNeg) = (I3 (mo + 1) 0) then
(if (24 : Int32) ≤ (I3 (mo + 1) 10) then
(nm (wI I3 (mo + 1) 7 ((I3 (mo + 1) 7) + (1 : Int32))) (fun I7 =>
vp_in (i1_2 + (1 : Int32)) 128 ∧ (pX6_notes mo (3 : Int32) (-1 : Int32) (I7 (mo + 16) (i1_2 + (1 : Int32)).toNatClampNeg) I7 (fun I8 =>
k6 I8))))
else
(vp_in (i1_2 + (1 : Int32)) 128 ∧ (vp_in (i1_2 + (2 : Int32)) 128 ∧ (vp_in (i1_2 + (3 : Int32)) 128 ∧ (pX6_comes mo (I3 (mo + 16) (i1_2 + (1 : Int32)).toNatClampNeg) (I3 (mo + 16) (i1_2 + (2 : Int32)).toNatClampNeg) (I3 (mo + 16) (i1_2 + (3 : Int32)).toNatClampNeg) I3 (fun r9 I10 =>
k6 I10))))))
else
(k6 I3)) (fun I5 =>
nm (i1_2 + (4 : Int32)) (fun v11 =>
X4 v11 I5))))) (0 : Int32) I1)
def pX6_doorOf (mo : Nat) (a1 : Int32) (I : MI) (Q : Int32 → Prop) : Prop :=
pX6_letterAt mo a1 I (fun r1 =>
vp_in (r1 + (1 : Int32)) 174 ∧ (Q (I (mo + 1) (r1 + (1 : Int32)).toNatClampNeg)))
def pX6_walksTo (mo : Nat) (a1 : Int32) (I : MI) (Q : Int32 → MI → Prop) : Prop :=
L3 (fun X4 i2_1 i3_2 I3 =>
if (I3 (mo + 1) 10) ≤ i3_2 then
(Q i2_1 I3)
else
(pX6_doorOf mo i3_2 I3 (fun r5 =>
jn2 (fun k8 =>
jn1 (fun k10 =>
if r5 = a1 then
(if (24 : Int32) ≤ (I3 (mo + 1) 3) then
(k10 I3)
else
(pX6_health mo I3 (fun r11 =>
if r11 ≤ 0 then
(k10 I3)
else
(pX6_brings mo i3_2 I3 (fun r12 I13 =>
if r12 = (-1 : Int32) then
(k10 I13)
else
(k8 (1 : Int32) I13))))))
else
(k10 I3)) (fun I9 =>
k8 (0 : Int32) I9)) (fun t6 I7 =>
jn3 (fun k17 =>
if t6 = 0 then
(nm (i3_2 + (1 : Int32)) (fun v18 =>
k17 i2_1 v18 I7))
else
(nm (i2_1 + (1 : Int32)) (fun v19 =>
nm (wI I7 mo 40 ((I7 mo 40) ||| (sl (1 : Int32) a1))) (fun I20 =>
k17 v19 i3_2 I20)))) (fun v2_14 v3_15 I16 =>
X4 v2_14 v3_15 I16))))) (0 : Int32) (0 : Int32) I
def pX6_lettersAge (mo : Nat)  (I : MI) (Q : MI → Prop) : Prop :=
L2 (fun X3 i1_1 I2 =>
if (I2 (mo + 1) 10) ≤ i1_1 then
(Q I2)
else
(pX6_letterAt mo i1_1 I2 (fun r4 =>
vp_in (r4 + (4 : Int32)) 174 ∧ (vp_in (r4 + (4 : Int32)) 174 ∧ (nm (wI I2 (mo + 1) ((r4 + (4 : Int32)).toNatClampNeg) ((I2 (mo + 1) (r4 + (4 : Int32)).toNatClampNeg) + (1 : Int32))) (fun I5 =>
vp_in (r4 + (4 : Int32)) 174 ∧ (jn2 (fun k8 =>
if (9 : Int32) ≤ (I5 (mo + 1) (r4 + (4 : Int32)).toNatClampNeg) then
(nm (wI I5 (mo + 1) 7 ((I5 (mo + 1) 7) + (1 : Int32))) (fun I9 =>
vp_in r4 174 ∧ (vp_in (r4 + (1 : Int32)) 174 ∧ (pX6_notes mo (3 : Int32) (I9 (mo + 1) r4.toNatClampNeg) (I9 (mo + 1) (r4 + (1 : Int32)).toNatClampNeg) I9 (fun I10 =>
pX6_goesOut mo i1_1 I10 (fun I11 =>
k8 i1_1 I11))))))
else
(nm (i1_1 + (1 : Int32)) (fun v12 =>
k8 v12 I5))) (fun v1_6 I7 =>
X3 v1_6 I7)))))))) (0 : Int32) I
def pX6_lies (mo : Nat) (a1 : Int32) (a2 : Int32) (I : MI) (Q : Int32 → Prop) : Prop :=
if ((sr a1 a2) &&& (1 : Int32)) = (1 : Int32) then
(Q (1 : Int32))
else
(Q (0 : Int32))
def pX6_evening (mo : Nat)  (I : MI) (Q : MI → Prop) : Prop :=
pX6_lesser mo (99 : Int32) ((I (mo + 1) 5) + (5 : Int32)) I (fun r1 =>
nm (wI I (mo + 1) 5 r1) (fun I2 =>
jn1 (fun k4 =>
if (I2 (mo + 1) 5) ≤ (50 : Int32) then
(pX6_health mo I2 (fun r5 =>
k4 (r5 + (3 : Int32))))
else
(pX6_health mo I2 (fun r6 =>
k4 (r6 - (5 : Int32))))) (fun t3 =>
pX6_hasHealth mo t3 I2 (fun I7 =>
L2 (fun X10 i1_8 I9 =>
if (I9 mo 6) ≤ i1_8 then
(nm (wI I9 (mo + 1) 0 ((I9 (mo + 1) 0) + (1 : Int32))) (fun I11 =>
Q I11))
else
(pX6_lies mo (I9 mo 40) i1_8 I9 (fun r12 =>
jn1 (fun k14 =>
if r12 = 0 then
(vp_in ((18 : Int32) + i1_8) 174 ∧ (jn1 (fun k16 =>
if (I9 (mo + 1) ((18 : Int32) + i1_8).toNatClampNeg) ≤ 0 then
(vp_in ((18 : Int32) + i1_8) 174 ∧ (if 0 ≤ (I9 (mo + 1) ((18 : Int32) + i1_8).toNatClampNeg) then
(k16 (0 : Int32))
else
(k16 (1 : Int32))))
else
(k16 (-1 : Int32))) (fun t15 =>
pX6_looks mo i1_8 t15 I9 (fun I17 =>
k14 I17))))
else
(k14 I9)) (fun I13 =>
X10 (i1_8 + (1 : Int32)) I13)))) (0 : Int32) I7))))
def pX6_goesBy (mo : Nat)  (I : MI) (Q : Int32 → MI → Prop) : Prop :=
pX6_morning mo I (fun I1 =>
nm (wI I1 mo 40 (0 : Int32)) (fun I2 =>
L3 (fun X6 i1_3 i2_4 I5 =>
if (I5 mo 34) ≤ i2_4 then
(pX6_lettersAge mo I5 (fun I7 =>
pX6_evening mo I7 (fun I8 =>
Q i1_3 I8)))
else
(vp_in i2_4 32 ∧ (pX6_walksTo mo (I5 (mo + 17) i2_4.toNatClampNeg) I5 (fun r9 I10 =>
nm (i1_3 + r9) (fun v11 =>
X6 v11 (i2_4 + (1 : Int32)) I10))))) (0 : Int32) (0 : Int32) I2))
def pX6_days (mo : Nat) (a1 : Int32) (I : MI) (Q : Int32 → MI → Prop) : Prop :=
nm (wI I mo 0 (0 : Int32)) (fun I1 =>
pX6_isIn mo a1 (1 : Int32) (60 : Int32) I1 (fun r2 =>
if r2 = 0 then
(Q (-1 : Int32) I1)
else
(if ((I1 (mo + 1) 0) + a1) ≤ (9999 : Int32) then
(L3 (fun X6 i2_3 i3_4 I5 =>
if a1 ≤ i3_4 then
(Q i2_3 I5)
else
(pX6_keepsAhead mo I5 (fun I7 =>
pX6_goesBy mo I7 (fun r8 I9 =>
nm (i2_3 + r8) (fun v10 =>
X6 v10 (i3_4 + (1 : Int32)) I9))))) (0 : Int32) (0 : Int32) I1)
else
(Q (-1 : Int32) I1))))
def pX6_lettersFor (mo : Nat) (a1 : Int32) (I : MI) (Q : Int32 → Prop) : Prop :=
L2 (fun X3 i2_1 i3_2 =>
if (I (mo + 1) 10) ≤ i3_2 then
(Q i2_1)
else
(pX6_doorOf mo i3_2 I (fun r4 =>
jn1 (fun k6 =>
if r4 = a1 then
(nm (i2_1 + (1 : Int32)) (fun v7 =>
k6 v7))
else
(k6 i2_1)) (fun v2_5 =>
X3 v2_5 (i3_2 + (1 : Int32)))))) (0 : Int32) (0 : Int32)
def pX6_of (mo : Nat) (a1 : Int32) (a2 : Int32) (I : MI) (Q : Int32 → MI → Prop) : Prop :=
nm (wI I mo 0 (0 : Int32)) (fun I1 =>
pX6_isDoor mo a1 I1 (fun r2 =>
if r2 = 0 then
(Q (-100 : Int32) I1)
else
(if a2 = 0 then
(vp_in ((18 : Int32) + a1) 174 ∧ (Q (I1 (mo + 1) ((18 : Int32) + a1).toNatClampNeg) I1))
else
(if a2 = (1 : Int32) then
(vp_in a1 12 ∧ (Q (I1 (mo + 4) a1.toNatClampNeg) I1))
else
(if a2 = (2 : Int32) then
(vp_in ((30 : Int32) + a1) 174 ∧ (Q (I1 (mo + 1) ((30 : Int32) + a1).toNatClampNeg) I1))
else
(if a2 = (3 : Int32) then
(vp_in ((42 : Int32) + a1) 174 ∧ (Q (I1 (mo + 1) ((42 : Int32) + a1).toNatClampNeg) I1))
else
(if a2 = (4 : Int32) then
(pX6_lettersFor mo a1 I1 (fun r5 =>
Q r5 I1))
else
(pX6_isIn mo a2 (10 : Int32) ((9 : Int32) + (I1 mo 6)) I1 (fun r3 =>
if r3 = 0 then
(Q (-100 : Int32) I1)
else
(vp_in ((((12 : Int32) * a1) + a2) - (10 : Int32)) 288 ∧ (nm (I1 (mo + 18) ((((12 : Int32) * a1) + a2) - (10 : Int32)).toNatClampNeg) (fun v4 =>
if v4 = 0 then
(Q (-1 : Int32) I1)
else
(Q v4 I1)))))))))))))
def pX6_letter (mo : Nat) (a1 : Int32) (a2 : Int32) (I : MI) (Q : Int32 → MI → Prop) : Prop :=
nm (wI I mo 0 (0 : Int32)) (fun I1 =>
pX6_isIn mo a1 (0 : Int32) ((I1 (mo + 1) 10) - (1 : Int32)) I1 (fun r2 =>
if r2 = 0 then
(Q (-1 : Int32) I1)
else
(pX6_isIn mo a2 (0 : Int32) (7 : Int32) I1 (fun r3 =>
if r3 = 0 then
(Q (-1 : Int32) I1)
else
(if (5 : Int32) ≤ a2 then
(pX6_asksOf mo a1 I1 (fun I4 =>
if a2 = (5 : Int32) then
(pX6_opensNow mo I4 (fun r9 I10 =>
Q r9 I10))
else
(if a2 = (6 : Int32) then
(pX6_givesNow mo I4 (fun r7 I8 =>
Q r7 I8))
else
(pX6_tiresNow mo I4 (fun r5 I6 =>
Q r5 I6)))))
else
(pX6_letterAt mo a1 I1 (fun r11 =>
vp_in (r11 + a2) 174 ∧ (Q (I1 (mo + 1) (r11 + a2).toNatClampNeg) I1))))))))
def pX6_given (mo : Nat) (a1 : Int32) (I : MI) (Q : Int32 → MI → Prop) : Prop :=
nm (wI I mo 0 (0 : Int32)) (fun I1 =>
pX6_isIn mo a1 (0 : Int32) (6 : Int32) I1 (fun r2 =>
if r2 = 0 then
(Q (-1 : Int32) I1)
else
(vp_in ((11 : Int32) + a1) 174 ∧ (Q (I1 (mo + 1) ((11 : Int32) + a1).toNatClampNeg) I1))))
def pX6_book (mo : Nat) (a1 : Int32) (a2 : Int32) (I : MI) (Q : Int32 → MI → Prop) : Prop :=
nm (wI I mo 0 (0 : Int32)) (fun I1 =>
pX6_isIn mo a1 (0 : Int32) ((I1 (mo + 1) 2) - (1 : Int32)) I1 (fun r2 =>
jn0 (fun k3 =>
if r2 = 0 then
(k3)
else
(pX6_isIn mo a2 (0 : Int32) (3 : Int32) I1 (fun r4 =>
if r4 = 0 then
(k3)
else
(vp_in (((4 : Int32) * a1) + a2) 600 ∧ (Q (I1 (mo + 5) (((4 : Int32) * a1) + a2).toNatClampNeg) I1))))) (
Q (-2 : Int32) I1)))
def pX6_thinks (mo : Nat)  (I : MI) (Q : MI → Prop) : Prop :=
L2 (fun X3 i1_1 I2 =>
if (174 : Int32) ≤ i1_1 then
(nm (wI I2 mo 5 (1 : Int32)) (fun I4 =>
Q I4))
else
(vp_in i1_1 174 ∧ (vp_in i1_1 174 ∧ (nm (wI I2 (mo + 3) i1_1.toNatClampNeg (I2 (mo + 1) i1_1.toNatClampNeg)) (fun I5 =>
X3 (i1_1 + (1 : Int32)) I5))))) (0 : Int32) I
def pX6_endsThought (mo : Nat)  (I : MI) (Q : MI → Prop) : Prop :=
L2 (fun X3 i1_1 I2 =>
if (174 : Int32) ≤ i1_1 then
(nm (wI I2 mo 5 (0 : Int32)) (fun I4 =>
Q I4))
else
(vp_in i1_1 174 ∧ (vp_in i1_1 174 ∧ (nm (wI I2 (mo + 1) i1_1.toNatClampNeg (I2 (mo + 3) i1_1.toNatClampNeg)) (fun I5 =>
X3 (i1_1 + (1 : Int32)) I5))))) (0 : Int32) I
def pX6_goes (mo : Nat) (a1 : Int32) (a2 : Int32) (I : MI) (Q : Int32 → MI → Prop) : Prop :=
nm (wI I mo 0 (0 : Int32)) (fun I1 =>
pX6_isIn mo a1 (1 : Int32) (60 : Int32) I1 (fun r2 =>
if r2 = 0 then
(Q (-1 : Int32) I1)
else
(pX6_isIn mo a2 (0 : Int32) (3 : Int32) I1 (fun r3 =>
if r3 = 0 then
(Q (-1 : Int32) I1)
else
(pX6_thinks mo I1 (fun I4 =>
L2 (fun X7 i3_5 I6 =>
if a1 ≤ i3_5 then
(jn1 (fun k9 =>
if a2 = 0 then
(pX6_health mo I6 (fun r10 =>
k9 r10))
else
(if a2 = (1 : Int32) then
(k9 (I6 (mo + 1) 5))
else
(if a2 = (2 : Int32) then
(k9 (I6 (mo + 1) 10))
else
(k9 (I6 (mo + 1) 7))))) (fun t8 =>
pX6_endsThought mo I6 (fun I11 =>
Q t8 I11)))
else
(pX6_goesBy mo I6 (fun r12 I13 =>
X7 (i3_5 + (1 : Int32)) I13))) (0 : Int32) I4))))))
def pX6_findsGoals (mo : Nat) (a1 : Int32) (I : MI) (Q : MI → Prop) : Prop :=
nm (wI I mo 42 (0 : Int32)) (fun I1 =>
L2 (fun X4 i2_2 I3 =>
if (I3 mo 6) ≤ i2_2 then
(Q I3)
else
(jn1 (fun k6 =>
if i2_2 = a1 then
(k6 I3)
else
(pX6_lettersFor mo i2_2 I3 (fun r7 =>
if r7 = 0 then
(k6 I3)
else
(vp_in (I3 mo 42) 12 ∧ (nm (wI I3 (mo + 22) ((I3 mo 42).toNatClampNeg) i2_2) (fun I8 =>
nm (wI I8 mo 42 ((I8 mo 42) + (1 : Int32))) (fun I9 =>
k6 I9))))))) (fun I5 =>
X4 (i2_2 + (1 : Int32)) I5))) (0 : Int32) I1)
def pX6_findsWays (mo : Nat)  (I : MI) (Q : MI → Prop) : Prop :=
L2 (fun X3 i1_1 I2 =>
if (I2 mo 6) ≤ i1_1 then
(L2 (fun X6 i1_4 I5 =>
if (I5 mo 6) ≤ i1_4 then
(Q I5)
else
(L2 (fun X9 i2_7 I8 =>
if (I8 mo 6) ≤ i2_7 then
(X6 (i1_4 + (1 : Int32)) I8)
else
(L2 (fun X12 i3_10 I11 =>
if (I11 mo 6) ≤ i3_10 then
(X9 (i2_7 + (1 : Int32)) I11)
else
(vp_in (((12 : Int32) * i2_7) + i3_10) 144 ∧ (vp_in (((12 : Int32) * i2_7) + i1_4) 144 ∧ (vp_in (((12 : Int32) * i1_4) + i3_10) 144 ∧ (pX6_lesser mo (I11 (mo + 21) (((12 : Int32) * i2_7) + i3_10).toNatClampNeg) ((I11 (mo + 21) (((12 : Int32) * i2_7) + i1_4).toNatClampNeg) + (I11 (mo + 21) (((12 : Int32) * i1_4) + i3_10).toNatClampNeg)) I11 (fun r13 =>
vp_in (((12 : Int32) * i2_7) + i3_10) 144 ∧ (nm (wI I11 (mo + 21) ((((12 : Int32) * i2_7) + i3_10).toNatClampNeg) r13) (fun I14 =>
X12 (i3_10 + (1 : Int32)) I14)))))))) (0 : Int32) I8)) (0 : Int32) I5)) (0 : Int32) I2)
else
(L2 (fun X17 i2_15 I16 =>
if (I16 mo 6) ≤ i2_15 then
(X3 (i1_1 + (1 : Int32)) I16)
else
(jn1 (fun k19 =>
if i1_1 = i2_15 then
(k19 (0 : Int32))
else
(vp_in (((12 : Int32) * i1_1) + i2_15) 288 ∧ (if (I16 (mo + 18) (((12 : Int32) * i1_1) + i2_15).toNatClampNeg) = 0 then
(k19 (100000000 : Int32))
else
(vp_in (((12 : Int32) * i1_1) + i2_15) 288 ∧ (k19 (I16 (mo + 18) (((12 : Int32) * i1_1) + i2_15).toNatClampNeg)))))) (fun t18 =>
vp_in (((12 : Int32) * i1_1) + i2_15) 144 ∧ (nm (wI I16 (mo + 21) ((((12 : Int32) * i1_1) + i2_15).toNatClampNeg) t18) (fun I20 =>
X17 (i2_15 + (1 : Int32)) I20))))) (0 : Int32) I2)) (0 : Int32) I
def pX6_leastTo (mo : Nat) (a1 : Int32) (a2 : Int32) (a3 : Int32) (I : MI) (Q : Int32 → Prop) : Prop :=
nm (a2 &&& ((sl (1 : Int32) a3) ^^^ (-1 : Int32))) (fun v1 =>
if v1 = 0 then
(vp_in a3 12 ∧ (vp_in (((12 : Int32) * a1) + (I (mo + 22) a3.toNatClampNeg)) 144 ∧ (Q (I (mo + 21) (((12 : Int32) * a1) + (I (mo + 22) a3.toNatClampNeg)).toNatClampNeg))))
else
(L2 (fun X4 i5_2 i6_3 =>
if (I mo 42) ≤ i6_3 then
(Q i5_2)
else
(pX6_lies mo v1 i6_3 I (fun r5 =>
jn1 (fun k7 =>
if r5 = 0 then
(k7 i5_2)
else
(vp_in (((8 : Int32) * v1) + i6_3) 2048 ∧ (vp_in i6_3 12 ∧ (vp_in a3 12 ∧ (vp_in (((12 : Int32) * (I (mo + 22) i6_3.toNatClampNeg)) + (I (mo + 22) a3.toNatClampNeg)) 144 ∧ (pX6_lesser mo i5_2 ((I (mo + 23) (((8 : Int32) * v1) + i6_3).toNatClampNeg) + (I (mo + 21) (((12 : Int32) * (I (mo + 22) i6_3.toNatClampNeg)) + (I (mo + 22) a3.toNatClampNeg)).toNatClampNeg)) I (fun r8 =>
k7 r8))))))) (fun v5_6 =>
X4 v5_6 (i6_3 + (1 : Int32)))))) (100000000 : Int32) (0 : Int32)))
def pX6_shortest (mo : Nat) (a1 : Int32) (a2 : Int32) (I : MI) (Q : Int32 → MI → Prop) : Prop :=
nm (wI I mo 0 (0 : Int32)) (fun I1 =>
pX6_isDoor mo a1 I1 (fun r2 =>
if r2 = 0 then
(Q (-1 : Int32) I1)
else
(pX6_isIn mo a2 (0 : Int32) (1 : Int32) I1 (fun r3 =>
if r3 = 0 then
(Q (-1 : Int32) I1)
else
(pX6_findsGoals mo a1 I1 (fun I4 =>
if (I4 mo 42) ≤ (8 : Int32) then
(if (I4 mo 42) = 0 then
(if a2 = 0 then
(Q (0 : Int32) I4)
else
(Q a1 I4))
else
(pX6_findsWays mo I4 (fun I5 =>
nm ((sl (1 : Int32) (I5 mo 42)) - (1 : Int32)) (fun v6 =>
L2 (fun X9 i4_7 I8 =>
if v6 < i4_7 then
(L2 (fun X12 i4_10 i5_11 =>
if (I8 mo 42) ≤ i5_11 then
(vp_in (((8 : Int32) * v6) + i4_10) 2048 ∧ (if (I8 (mo + 23) (((8 : Int32) * v6) + i4_10).toNatClampNeg) < (100000000 : Int32) then
(if a2 = 0 then
(vp_in (((8 : Int32) * v6) + i4_10) 2048 ∧ (Q (I8 (mo + 23) (((8 : Int32) * v6) + i4_10).toNatClampNeg) I8))
else
(vp_in i4_10 12 ∧ (Q (I8 (mo + 22) i4_10.toNatClampNeg) I8)))
else
(Q (-1 : Int32) I8)))
else
(vp_in (((8 : Int32) * v6) + i5_11) 2048 ∧ (vp_in (((8 : Int32) * v6) + i4_10) 2048 ∧ (jn1 (fun k14 =>
if (I8 (mo + 23) (((8 : Int32) * v6) + i4_10).toNatClampNeg) ≤ (I8 (mo + 23) (((8 : Int32) * v6) + i5_11).toNatClampNeg) then
(k14 i4_10)
else
(k14 i5_11)) (fun v4_13 =>
X12 v4_13 (i5_11 + (1 : Int32))))))) (0 : Int32) (1 : Int32))
else
(L2 (fun X17 i5_15 I16 =>
if (I16 mo 42) ≤ i5_15 then
(X9 (i4_7 + (1 : Int32)) I16)
else
(pX6_lies mo i4_7 i5_15 I16 (fun r18 =>
jn1 (fun k20 =>
if r18 = 0 then
(k20 I16)
else
(pX6_leastTo mo a1 i4_7 i5_15 I16 (fun r21 =>
vp_in (((8 : Int32) * i4_7) + i5_15) 2048 ∧ (nm (wI I16 (mo + 23) ((((8 : Int32) * i4_7) + i5_15).toNatClampNeg) r21) (fun I22 =>
k20 I22))))) (fun I19 =>
X17 (i5_15 + (1 : Int32)) I19)))) (0 : Int32) I8)) (1 : Int32) I5))))
else
(Q (-1 : Int32) I4)))))))
def pX6_farthestFrom (mo : Nat) (a1 : Int32) (I : MI) (Q : Int32 → Prop) : Prop :=
L2 (fun X3 i2_1 i3_2 =>
if (I mo 6) ≤ i3_2 then
(Q i2_1)
else
(vp_in (((12 : Int32) * a1) + i3_2) 144 ∧ (pX6_greater mo i2_1 (I (mo + 21) (((12 : Int32) * a1) + i3_2).toNatClampNeg) I (fun r4 =>
X3 r4 (i3_2 + (1 : Int32)))))) (0 : Int32) (0 : Int32)
def pX6_box (mo : Nat) (a1 : Int32) (I : MI) (Q : Int32 → MI → Prop) : Prop :=
nm (wI I mo 0 (0 : Int32)) (fun I1 =>
if (I1 mo 6) = 0 then
(Q (-1 : Int32) I1)
else
(pX6_isIn mo a1 (0 : Int32) (1 : Int32) I1 (fun r2 =>
if r2 = 0 then
(Q (-1 : Int32) I1)
else
(pX6_findsWays mo I1 (fun I3 =>
L2 (fun X6 i2_4 i3_5 =>
if (I3 mo 6) ≤ i3_5 then
(pX6_farthestFrom mo i2_4 I3 (fun r7 =>
if r7 < (100000000 : Int32) then
(if a1 = 0 then
(Q i2_4 I3)
else
(pX6_farthestFrom mo i2_4 I3 (fun r8 =>
Q r8 I3)))
else
(Q (-1 : Int32) I3)))
else
(pX6_farthestFrom mo i3_5 I3 (fun r9 =>
pX6_farthestFrom mo i2_4 I3 (fun r10 =>
jn1 (fun k12 =>
if r10 ≤ r9 then
(k12 i2_4)
else
(k12 i3_5)) (fun v2_11 =>
X6 v2_11 (i3_5 + (1 : Int32))))))) (0 : Int32) (1 : Int32))))))
def pX6_blow (mo : Nat) (a1 : Int32) (I : MI) (Q : Int32 → MI → Prop) : Prop :=
nm (wI I mo 0 (0 : Int32)) (fun I1 =>
if a1 = 0 then
(nm (wI I1 mo 45 (0 : Int32)) (fun I5 =>
Q (0 : Int32) I5))
else
(pX6_isIn mo a1 (-50 : Int32) (50 : Int32) I1 (fun r2 =>
if r2 = 0 then
(Q (-1 : Int32) I1)
else
(if (I1 mo 45) = (8 : Int32) then
(Q (-1 : Int32) I1)
else
(vp_in (I1 mo 45) 8 ∧ (nm (wI I1 (mo + 24) ((I1 mo 45).toNatClampNeg) a1) (fun I3 =>
nm (wI I3 mo 45 ((I3 mo 45) + (1 : Int32))) (fun I4 =>
Q (I4 mo 45) I4))))))))
def pX6_behind (mo : Nat) (a1 : Int32) (a2 : Int32) (I : MI) (Q : Int32 → Prop) : Prop :=
jn1 (fun k2 =>
if a1 = (-1 : Int32) then
(k2 (-1 : Int32))
else
(vp_in a2 8 ∧ (pX6_lesser mo (99 : Int32) (a1 + (I (mo + 24) a2.toNatClampNeg)) I (fun r3 =>
k2 r3)))) (fun t1 =>
if (1 : Int32) ≤ t1 then
(Q t1)
else
(Q (-1 : Int32)))
def pX6_mostLeft (mo : Nat) (a1 : Int32) (a2 : Int32) (I : MI) (Q : Int32 → MI → Prop) : Prop :=
nm ((sl (1 : Int32) (I mo 45)) - (1 : Int32)) (fun v1 =>
L2 (fun X4 i4_2 I3 =>
if v1 < i4_2 then
(vp_in v1 256 ∧ (Q (I3 (mo + 25) v1.toNatClampNeg) I3))
else
(jn1 (fun k6 =>
jn0 (fun k7 =>
if i4_2 = 0 then
(if a2 = (-1 : Int32) then
(k6 a1)
else
(k7))
else
(k7)) (
k6 (-1 : Int32))) (fun t5 =>
vp_in i4_2 256 ∧ (nm (wI I3 (mo + 25) i4_2.toNatClampNeg t5) (fun I8 =>
jn1 (fun k10 =>
if a2 = (-1 : Int32) then
(k10 I8)
else
(if i4_2 = (sl (1 : Int32) a2) then
(pX6_behind mo a1 a2 I8 (fun r11 =>
vp_in i4_2 256 ∧ (nm (wI I8 (mo + 25) i4_2.toNatClampNeg r11) (fun I12 =>
k10 I12))))
else
(k10 I8))) (fun I9 =>
L2 (fun X15 i5_13 I14 =>
if (I14 mo 45) ≤ i5_13 then
(X4 (i4_2 + (1 : Int32)) I14)
else
(pX6_lies mo i4_2 i5_13 I14 (fun r16 =>
jn1 (fun k18 =>
if r16 = 0 then
(k18 I14)
else
(jn0 (fun k19 =>
if a2 = (-1 : Int32) then
(k19)
else
(pX6_lies mo (i4_2 &&& ((sl (1 : Int32) i5_13) ^^^ (-1 : Int32))) a2 I14 (fun r20 =>
if r20 = 0 then
(k18 I14)
else
(k19)))) (
vp_in i4_2 256 ∧ (vp_in (i4_2 &&& ((sl (1 : Int32) i5_13) ^^^ (-1 : Int32))) 256 ∧ (pX6_behind mo (I14 (mo + 25) (i4_2 &&& ((sl (1 : Int32) i5_13) ^^^ (-1 : Int32))).toNatClampNeg) i5_13 I14 (fun r21 =>
pX6_greater mo (I14 (mo + 25) i4_2.toNatClampNeg) r21 I14 (fun r22 =>
vp_in i4_2 256 ∧ (nm (wI I14 (mo + 25) i4_2.toNatClampNeg r22) (fun I23 =>
k18 I23))))))))) (fun I17 =>
X15 (i5_13 + (1 : Int32)) I17)))) (0 : Int32) I9)))))) (0 : Int32) I)
def pX6_bears (mo : Nat) (a1 : Int32) (a2 : Int32) (I : MI) (Q : Int32 → MI → Prop) : Prop :=
nm (wI I mo 0 (0 : Int32)) (fun I1 =>
pX6_isIn mo a1 (1 : Int32) (99 : Int32) I1 (fun r2 =>
if r2 = 0 then
(Q (-1 : Int32) I1)
else
(pX6_isIn mo a2 (0 : Int32) (1 : Int32) I1 (fun r3 =>
if r3 = 0 then
(Q (-1 : Int32) I1)
else
(if a2 = (1 : Int32) then
(pX6_mostLeft mo a1 (-1 : Int32) I1 (fun r9 I10 =>
Q r9 I10))
else
(L2 (fun X6 i3_4 I5 =>
if (I5 mo 45) ≤ i3_4 then
(Q (-1 : Int32) I5)
else
(pX6_mostLeft mo a1 i3_4 I5 (fun r7 I8 =>
if r7 = (-1 : Int32) then
(X6 (i3_4 + (1 : Int32)) I8)
else
(Q i3_4 I8)))) (0 : Int32) I1))))))
def pX6_added (mo : Nat) (a1 : Int32) (a2 : Int32) (I : MI) (Q : Int32 → Prop) : Prop :=
if a1 < ((1000000007 : Int32) - a2) then
(Q (a1 + a2))
else
(Q (a1 - ((1000000007 : Int32) - a2)))
def pX6_findsCarried (mo : Nat) (a1 : Int32) (I : MI) (Q : MI → Prop) : Prop :=
L2 (fun X3 i2_1 I2 =>
if (10025 : Int32) ≤ i2_1 then
(L2 (fun X6 i2_4 I5 =>
if (I5 (mo + 1) 10) ≤ i2_4 then
(Q I5)
else
(pX6_letterAt mo i2_4 I5 (fun r7 =>
vp_in (r7 + (3 : Int32)) 174 ∧ (nm (I5 (mo + 1) (r7 + (3 : Int32)).toNatClampNeg) (fun v8 =>
L2 (fun X11 i4_9 I10 =>
if i4_9 < 0 then
(X6 (i2_4 + (1 : Int32)) I10)
else
(L2 (fun X14 i5_12 I13 =>
if a1 < (i5_12 + v8) then
(X11 (i4_9 + (-1 : Int32)) I13)
else
(vp_in ((((401 : Int32) * (i4_9 + (1 : Int32))) + i5_12) + v8) 10025 ∧ (vp_in (((401 : Int32) * i4_9) + i5_12) 10025 ∧ (pX6_added mo (I13 (mo + 26) ((((401 : Int32) * (i4_9 + (1 : Int32))) + i5_12) + v8).toNatClampNeg) (I13 (mo + 26) (((401 : Int32) * i4_9) + i5_12).toNatClampNeg) I13 (fun r15 =>
vp_in ((((401 : Int32) * (i4_9 + (1 : Int32))) + i5_12) + v8) 10025 ∧ (nm (wI I13 (mo + 26) (((((401 : Int32) * (i4_9 + (1 : Int32))) + i5_12) + v8).toNatClampNeg) r15) (fun I16 =>
X14 (i5_12 + (1 : Int32)) I16))))))) (0 : Int32) I10)) i2_4 I5))))) (0 : Int32) I2)
else
(jn1 (fun k18 =>
if i2_1 = 0 then
(k18 (1 : Int32))
else
(k18 (0 : Int32))) (fun t17 =>
vp_in i2_1 10025 ∧ (nm (wI I2 (mo + 26) i2_1.toNatClampNeg t17) (fun I19 =>
X3 (i2_1 + (1 : Int32)) I19))))) (0 : Int32) I
def pX6_carries (mo : Nat) (a1 : Int32) (a2 : Int32) (I : MI) (Q : Int32 → MI → Prop) : Prop :=
nm (wI I mo 0 (0 : Int32)) (fun I1 =>
pX6_isIn mo a1 (1 : Int32) (400 : Int32) I1 (fun r2 =>
if r2 = 0 then
(Q (-1 : Int32) I1)
else
(pX6_isIn mo a2 (0 : Int32) (1 : Int32) I1 (fun r3 =>
if r3 = 0 then
(Q (-1 : Int32) I1)
else
(L3 (fun X7 i3_4 i4_5 i5_6 =>
if (99 : Int32) < i5_6 then
(if a2 = 0 then
(Q i3_4 I1)
else
(pX6_findsCarried mo a1 I1 (fun I8 =>
L2 (fun X11 i5_9 i6_10 =>
if a1 < i6_10 then
(Q i5_9 I8)
else
(vp_in (((401 : Int32) * i3_4) + i6_10) 10025 ∧ (pX6_added mo i5_9 (I8 (mo + 26) (((401 : Int32) * i3_4) + i6_10).toNatClampNeg) I8 (fun r12 =>
X11 r12 (i6_10 + (1 : Int32)))))) (0 : Int32) (0 : Int32))))
else
(L3 (fun X16 i3_13 i4_14 i6_15 =>
if (I1 (mo + 1) 10) ≤ i6_15 then
(X7 i3_13 i4_14 (i5_6 + (1 : Int32)))
else
(pX6_letterAt mo i6_15 I1 (fun r17 =>
vp_in (r17 + (3 : Int32)) 174 ∧ (jn2 (fun k20 =>
if (I1 (mo + 1) (r17 + (3 : Int32)).toNatClampNeg) = i5_6 then
(if (i4_14 + i5_6) ≤ a1 then
(nm (i4_14 + i5_6) (fun v21 =>
nm (i3_13 + (1 : Int32)) (fun v22 =>
k20 v22 v21)))
else
(k20 i3_13 i4_14))
else
(k20 i3_13 i4_14)) (fun v3_18 v4_19 =>
X16 v3_18 v4_19 (i6_15 + (1 : Int32))))))) i3_4 i4_5 (0 : Int32))) (0 : Int32) (0 : Int32) (1 : Int32))))))
def pX6_owes (mo : Nat) (a1 : Int32) (a2 : Int32) (a3 : Int32) (I : MI) (Q : Int32 → MI → Prop) : Prop :=
nm (wI I mo 0 (0 : Int32)) (fun I1 =>
if a1 = (-1 : Int32) then
(nm (wI I1 mo 49 (0 : Int32)) (fun I8 =>
L2 (fun X11 i4_9 I10 =>
if (12 : Int32) ≤ i4_9 then
(Q (0 : Int32) I10)
else
(vp_in i4_9 12 ∧ (nm (wI I10 (mo + 27) i4_9.toNatClampNeg (0 : Int32)) (fun I12 =>
X11 (i4_9 + (1 : Int32)) I12)))) (0 : Int32) I8))
else
(pX6_isIn mo a1 (0 : Int32) (11 : Int32) I1 (fun r2 =>
if r2 = 0 then
(Q (-1 : Int32) I1)
else
(pX6_isIn mo a2 (0 : Int32) (11 : Int32) I1 (fun r3 =>
if r3 = 0 then
(Q (-1 : Int32) I1)
else
(if a1 = a2 then
(Q (-1 : Int32) I1)
else
(pX6_isIn mo a3 (1 : Int32) (99 : Int32) I1 (fun r4 =>
if r4 = 0 then
(Q (-1 : Int32) I1)
else
(if (I1 mo 49) = (16 : Int32) then
(Q (-1 : Int32) I1)
else
(vp_in a1 12 ∧ (vp_in a1 12 ∧ (nm (wI I1 (mo + 27) a1.toNatClampNeg ((I1 (mo + 27) a1.toNatClampNeg) - a3)) (fun I5 =>
vp_in a2 12 ∧ (vp_in a2 12 ∧ (nm (wI I5 (mo + 27) a2.toNatClampNeg ((I5 (mo + 27) a2.toNatClampNeg) + a3)) (fun I6 =>
nm (wI I6 mo 49 ((I6 mo 49) + (1 : Int32))) (fun I7 =>
Q (I7 mo 49) I7)))))))))))))))))
def pX6_netOf (mo : Nat) (a1 : Int32) (I : MI) (Q : Int32 → Prop) : Prop :=
L2 (fun X3 i2_1 i3_2 =>
if (12 : Int32) ≤ i3_2 then
(Q i2_1)
else
(pX6_lies mo a1 i3_2 I (fun r4 =>
jn1 (fun k6 =>
if r4 = 0 then
(k6 i2_1)
else
(vp_in i3_2 12 ∧ (nm (i2_1 + (I (mo + 27) i3_2.toNatClampNeg)) (fun v7 =>
k6 v7)))) (fun v2_5 =>
X3 v2_5 (i3_2 + (1 : Int32)))))) (0 : Int32) (0 : Int32)
def pX6_onesOf (mo : Nat) (a1 : Int32) (I : MI) (Q : Int32 → Prop) : Prop :=
L2 (fun X3 i2_1 i3_2 =>
if i3_2 = 0 then
(Q i2_1)
else
(nm (i2_1 + (1 : Int32)) (fun v4 =>
nm (i3_2 &&& (i3_2 - (1 : Int32))) (fun v5 =>
X3 v4 v5)))) (0 : Int32) a1
def pX6_fewestPayments (mo : Nat)  (I : MI) (Q : Int32 → MI → Prop) : Prop :=
L2 (fun X3 i1_1 i2_2 =>
if (12 : Int32) ≤ i2_2 then
(nm (wI I (mo + 28) 0 (0 : Int32)) (fun I4 =>
L2 (fun X7 i2_5 I6 =>
if i1_1 < i2_5 then
(pX6_onesOf mo i1_1 I6 (fun r8 =>
vp_in i1_1 4096 ∧ (Q (r8 - (I6 (mo + 28) i1_1.toNatClampNeg)) I6)))
else
(jn1 (fun k10 =>
if (i2_5 &&& (i1_1 ^^^ (-1 : Int32))) = 0 then
(L2 (fun X13 i3_11 i4_12 =>
if (12 : Int32) ≤ i4_12 then
(pX6_netOf mo i2_5 I6 (fun r14 =>
jn1 (fun k16 =>
if r14 = 0 then
(k16 (1 : Int32))
else
(k16 (0 : Int32))) (fun t15 =>
vp_in i2_5 4096 ∧ (nm (wI I6 (mo + 28) i2_5.toNatClampNeg (i3_11 + t15)) (fun I17 =>
k10 I17)))))
else
(pX6_lies mo i2_5 i4_12 I6 (fun r18 =>
jn1 (fun k20 =>
if r18 = 0 then
(k20 i3_11)
else
(vp_in (i2_5 &&& ((sl (1 : Int32) i4_12) ^^^ (-1 : Int32))) 4096 ∧ (pX6_greater mo i3_11 (I6 (mo + 28) (i2_5 &&& ((sl (1 : Int32) i4_12) ^^^ (-1 : Int32))).toNatClampNeg) I6 (fun r21 =>
k20 r21)))) (fun v3_19 =>
X13 v3_19 (i4_12 + (1 : Int32)))))) (0 : Int32) (0 : Int32))
else
(k10 I6)) (fun I9 =>
X7 (i2_5 + (1 : Int32)) I9))) (1 : Int32) I4))
else
(vp_in i2_2 12 ∧ (jn1 (fun k23 =>
if (I (mo + 27) i2_2.toNatClampNeg) = 0 then
(k23 i1_1)
else
(nm (i1_1 ||| (sl (1 : Int32) i2_2)) (fun v24 =>
k23 v24))) (fun v1_22 =>
X3 v1_22 (i2_2 + (1 : Int32)))))) (0 : Int32) (0 : Int32)
def pX6_net (mo : Nat) (a1 : Int32) (I : MI) (Q : Int32 → MI → Prop) : Prop :=
nm (wI I mo 0 (0 : Int32)) (fun I1 =>
pX6_isIn mo a1 (-1 : Int32) (11 : Int32) I1 (fun r2 =>
if r2 = 0 then
(Q (-10000 : Int32) I1)
else
(if a1 = (-1 : Int32) then
(pX6_fewestPayments mo I1 (fun r3 I4 =>
Q r3 I4))
else
(vp_in a1 12 ∧ (Q (I1 (mo + 27) a1.toNatClampNeg) I1)))))
def pX6_chain (mo : Nat) (a1 : Int32) (a2 : Int32) (a3 : Int32) (a4 : Int32) (I : MI) (Q : Int32 → MI → Prop) : Prop :=
nm (wI I mo 0 (0 : Int32)) (fun I1 =>
pX6_isIn mo a1 (1 : Int32) (9 : Int32) I1 (fun r2 =>
if r2 = 0 then
(Q (-1 : Int32) I1)
else
(pX6_isIn mo a2 (1 : Int32) (9999 : Int32) I1 (fun r3 =>
if r3 = 0 then
(Q (-1 : Int32) I1)
else
(pX6_isIn mo a4 (0 : Int32) (1 : Int32) I1 (fun r4 =>
if r4 = 0 then
(Q (-1 : Int32) I1)
else
(jn0 (fun k5 =>
if a4 = 0 then
(pX6_isIn mo a3 (0 : Int32) (99 : Int32) I1 (fun r6 =>
if r6 = 0 then
(Q (-1 : Int32) I1)
else
(k5)))
else
(k5)) (
jn1 (fun k8 =>
if a4 = 0 then
(k8 a3)
else
(k8 (99 : Int32))) (fun t7 =>
L3 (fun X12 i5_9 i6_10 i8_11 =>
if t7 < i8_11 then
(Q (-1 : Int32) I1)
else
(jn0 (fun k13 =>
if a4 = (1 : Int32) then
(if i5_9 = a2 then
(Q i8_11 I1)
else
(k13))
else
(k13)) (
if i8_11 = t7 then
(if a4 = 0 then
(Q i5_9 I1)
else
(Q (-1 : Int32) I1))
else
(pX6_lesser mo (a1 * i6_10) (a2 - i5_9) I1 (fun r14 =>
nm (i5_9 + r14) (fun v15 =>
X12 v15 r14 (i8_11 + (1 : Int32)))))))) (1 : Int32) (1 : Int32) (0 : Int32))))))))))
def pX6_has (mo : Nat) (a1 : Int32) (a2 : Int32) (I : MI) (Q : Int32 → MI → Prop) : Prop :=
nm (wI I mo 0 (0 : Int32)) (fun I1 =>
pX6_isIn mo a1 (0 : Int32) (25 : Int32) I1 (fun r2 =>
if r2 = 0 then
(Q (0 : Int32) I1)
else
(pX6_isIn mo a2 (0 : Int32) (9 : Int32) I1 (fun r3 =>
if r3 = 0 then
(Q (0 : Int32) I1)
else
(vp_in a1 26 ∧ (nm (wI I1 (mo + 29) a1.toNatClampNeg a2) (fun I4 =>
Q (1 : Int32) I4)))))))
def pX6_spell (mo : Nat) (a1 : Int32) (I : MI) (Q : Int32 → MI → Prop) : Prop :=
nm (wI I mo 0 (0 : Int32)) (fun I1 =>
if a1 = (-1 : Int32) then
(nm (wI I1 mo 53 (0 : Int32)) (fun I5 =>
Q (0 : Int32) I5))
else
(pX6_isIn mo a1 (0 : Int32) (25 : Int32) I1 (fun r2 =>
if r2 = 0 then
(Q (-1 : Int32) I1)
else
(if (I1 mo 53) = (8 : Int32) then
(Q (-1 : Int32) I1)
else
(vp_in (I1 mo 53) 8 ∧ (nm (wI I1 (mo + 30) ((I1 mo 53).toNatClampNeg) a1) (fun I3 =>
nm (wI I3 mo 53 ((I3 mo 53) + (1 : Int32))) (fun I4 =>
Q (I4 mo 53) I4))))))))
def pX6_needOf (mo : Nat) (a1 : Int32) (a2 : Int32) (I : MI) (Q : Int32 → Prop) : Prop :=
L2 (fun X3 i3_1 i4_2 =>
if a2 ≤ i4_2 then
(Q i3_1)
else
(vp_in i4_2 8 ∧ (jn1 (fun k5 =>
if (I (mo + 30) i4_2.toNatClampNeg) = a1 then
(nm (i3_1 + (1 : Int32)) (fun v6 =>
k5 v6))
else
(k5 i3_1)) (fun v3_4 =>
X3 v3_4 (i4_2 + (1 : Int32)))))) (0 : Int32) (0 : Int32)
def pX6_lays (mo : Nat) (a1 : Int32) (I : MI) (Q : Int32 → MI → Prop) : Prop :=
nm (wI I mo 0 (0 : Int32)) (fun I1 =>
pX6_isIn mo a1 (0 : Int32) (1 : Int32) I1 (fun r2 =>
if r2 = 0 then
(Q (-1 : Int32) I1)
else
(jn1 (fun k4 =>
if (I1 mo 53) = 0 then
(k4 (0 : Int32))
else
(k4 (100000000 : Int32))) (fun t3 =>
L3 (fun X8 i2_5 i3_6 i4_7 =>
if (I1 mo 53) ≤ i4_7 then
(if a1 = 0 then
(Q i2_5 I1)
else
(Q i3_6 I1))
else
(vp_in i4_7 8 ∧ (vp_in (I1 (mo + 30) i4_7.toNatClampNeg) 26 ∧ (vp_in i4_7 8 ∧ (pX6_needOf mo (I1 (mo + 30) i4_7.toNatClampNeg) (I1 mo 53) I1 (fun r9 =>
r9 ≠ 0 ∧ (pX6_lesser mo i2_5 ((I1 (mo + 29) (I1 (mo + 30) i4_7.toNatClampNeg).toNatClampNeg) / r9) I1 (fun r10 =>
vp_in i4_7 8 ∧ (pX6_needOf mo (I1 (mo + 30) i4_7.toNatClampNeg) (i4_7 + (1 : Int32)) I1 (fun r11 =>
r11 ≠ 0 ∧ (nm ((i3_6 * (i4_7 + (1 : Int32))) / r11) (fun v12 =>
X8 r10 v12 (i4_7 + (1 : Int32)))))))))))))) t3 (1 : Int32) (0 : Int32)))))
def pX6_answer (mo : Nat) (a1 : Int32) (a2 : Int32) (I : MI) (Q : Int32 → MI → Prop) : Prop :=
nm (wI I mo 0 (0 : Int32)) (fun I1 =>
if a1 = (-1 : Int32) then
(nm (wI I1 mo 55 (0 : Int32)) (fun I6 =>
L2 (fun X9 i3_7 I8 =>
if (49 : Int32) ≤ i3_7 then
(Q (0 : Int32) I8)
else
(vp_in i3_7 49 ∧ (nm (wI I8 (mo + 31) i3_7.toNatClampNeg (0 : Int32)) (fun I10 =>
X9 (i3_7 + (1 : Int32)) I10)))) (0 : Int32) I6))
else
(pX6_isIn mo a1 (0 : Int32) (6 : Int32) I1 (fun r2 =>
if r2 = 0 then
(Q (-1 : Int32) I1)
else
(pX6_isIn mo a2 (0 : Int32) (6 : Int32) I1 (fun r3 =>
if r3 = 0 then
(Q (-1 : Int32) I1)
else
(if (I1 mo 55) = (12 : Int32) then
(Q (-1 : Int32) I1)
else
(vp_in (((7 : Int32) * a1) + a2) 49 ∧ (vp_in (((7 : Int32) * a1) + a2) 49 ∧ (nm (wI I1 (mo + 31) ((((7 : Int32) * a1) + a2).toNatClampNeg) ((I1 (mo + 31) (((7 : Int32) * a1) + a2).toNatClampNeg) + (1 : Int32))) (fun I4 =>
nm (wI I4 mo 55 ((I4 mo 55) + (1 : Int32))) (fun I5 =>
Q (I5 mo 55) I5)))))))))))
def pX6_likelyOf (mo : Nat) (a1 : Int32) (I : MI) (Q : Int32 → Prop) : Prop :=
L2 (fun X3 i2_1 i3_2 =>
if (7 : Int32) ≤ i3_2 then
(Q i2_1)
else
(vp_in (((7 : Int32) * a1) + i3_2) 49 ∧ (jn1 (fun k5 =>
if i2_1 = (-1 : Int32) then
(k5 (0 : Int32))
else
(vp_in (((7 : Int32) * a1) + i2_1) 49 ∧ (k5 (I (mo + 31) (((7 : Int32) * a1) + i2_1).toNatClampNeg)))) (fun t4 =>
jn1 (fun k7 =>
if (I (mo + 31) (((7 : Int32) * a1) + i3_2).toNatClampNeg) ≤ t4 then
(k7 i2_1)
else
(k7 i3_2)) (fun v2_6 =>
X3 v2_6 (i3_2 + (1 : Int32))))))) (-1 : Int32) (0 : Int32)
def pX6_followsOf (mo : Nat) (a1 : Int32) (I : MI) (Q : Int32 → Prop) : Prop :=
pX6_likelyOf mo a1 I (fun r1 =>
if r1 = (-1 : Int32) then
(Q (0 : Int32))
else
(L3 (fun X5 i2_2 i3_3 i4_4 =>
pX6_lies mo i2_2 i3_3 I (fun r6 =>
if r6 = 0 then
(nm (i2_2 ||| (sl (1 : Int32) i3_3)) (fun v7 =>
pX6_likelyOf mo i3_3 I (fun r8 =>
nm (i4_4 + (1 : Int32)) (fun v9 =>
if r8 = (-1 : Int32) then
(Q (-1 : Int32))
else
(X5 v7 r8 v9)))))
else
(Q i4_4))) (0 : Int32) a1 (0 : Int32)))
def pX6_likely (mo : Nat) (a1 : Int32) (a2 : Int32) (I : MI) (Q : Int32 → MI → Prop) : Prop :=
nm (wI I mo 0 (0 : Int32)) (fun I1 =>
pX6_isIn mo a1 (0 : Int32) (6 : Int32) I1 (fun r2 =>
if r2 = 0 then
(Q (-1 : Int32) I1)
else
(pX6_isIn mo a2 (0 : Int32) (1 : Int32) I1 (fun r3 =>
if r3 = 0 then
(Q (-1 : Int32) I1)
else
(if a2 = 0 then
(pX6_likelyOf mo a1 I1 (fun r5 =>
Q r5 I1))
else
(pX6_followsOf mo a1 I1 (fun r4 =>
Q r4 I1)))))))
def pX6_face (mo : Nat) (a1 : Int32) (a2 : Int32) (I : MI) (Q : Int32 → MI → Prop) : Prop :=
nm (wI I mo 0 (0 : Int32)) (fun I1 =>
if a1 = (-1 : Int32) then
(nm (wI I1 mo 57 (0 : Int32)) (fun I7 =>
Q (0 : Int32) I7))
else
(pX6_isIn mo a1 (0 : Int32) (63 : Int32) I1 (fun r2 =>
if r2 = 0 then
(Q (-1 : Int32) I1)
else
(pX6_isIn mo a2 (-2 : Int32) (2 : Int32) I1 (fun r3 =>
if r3 = 0 then
(Q (-1 : Int32) I1)
else
(if (I1 mo 57) = (8 : Int32) then
(Q (-1 : Int32) I1)
else
(vp_in (I1 mo 57) 8 ∧ (nm (wI I1 (mo + 32) ((I1 mo 57).toNatClampNeg) a1) (fun I4 =>
vp_in (I4 mo 57) 8 ∧ (nm (wI I4 (mo + 33) ((I4 mo 57).toNatClampNeg) a2) (fun I5 =>
nm (wI I5 mo 57 ((I5 mo 57) + (1 : Int32))) (fun I6 =>
Q (I6 mo 57) I6))))))))))))
def pX6_changeUp (mo : Nat) (a1 : Int32) (a2 : Int32) (I : MI) (Q : Int32 → Prop) : Prop :=
Q ((sr a1 ((2 : Int32) * a2)) &&& (3 : Int32))
def pX6_canBe (mo : Nat) (a1 : Int32) (I : MI) (Q : Int32 → Prop) : Prop :=
L1 (fun X2 i2_1 =>
if (I mo 57) ≤ i2_1 then
(Q (1 : Int32))
else
(L2 (fun X5 i3_3 i4_4 =>
if (6 : Int32) ≤ i4_4 then
(vp_in i2_1 8 ∧ (if i3_3 = (I (mo + 33) i2_1.toNatClampNeg) then
(X2 (i2_1 + (1 : Int32)))
else
(Q (0 : Int32))))
else
(vp_in i2_1 8 ∧ (pX6_lies mo (I (mo + 32) i2_1.toNatClampNeg) i4_4 I (fun r6 =>
jn1 (fun k8 =>
if r6 = 0 then
(k8 i3_3)
else
(pX6_changeUp mo a1 i4_4 I (fun r9 =>
nm ((i3_3 + r9) - (1 : Int32)) (fun v10 =>
k8 v10)))) (fun v3_7 =>
X5 v3_7 (i4_4 + (1 : Int32))))))) (0 : Int32) (0 : Int32))) (0 : Int32)
def pX6_kindsFor (mo : Nat) (a1 : Int32) (I : MI) (Q : Int32 → Prop) : Prop :=
L2 (fun X3 i2_1 i3_2 =>
if (6 : Int32) ≤ i3_2 then
(Q i2_1)
else
(pX6_changeUp mo a1 i3_2 I (fun r4 =>
jn1 (fun k6 =>
if r4 = 0 then
(k6 (3 : Int32))
else
(pX6_changeUp mo a1 i3_2 I (fun r7 =>
if r7 = (1 : Int32) then
(k6 (2 : Int32))
else
(k6 (1 : Int32))))) (fun t5 =>
nm (i2_1 * t5) (fun v8 =>
X3 v8 (i3_2 + (1 : Int32))))))) (1 : Int32) (0 : Int32)
def pX6_faces (mo : Nat) (a1 : Int32) (I : MI) (Q : Int32 → MI → Prop) : Prop :=
nm (wI I mo 0 (0 : Int32)) (fun I1 =>
pX6_isIn mo a1 (0 : Int32) (1 : Int32) I1 (fun r2 =>
if r2 = 0 then
(Q (-1 : Int32) I1)
else
(L4 (fun X7 i2_3 i3_4 i4_5 i5_6 =>
if (4096 : Int32) ≤ i5_6 then
(if a1 = 0 then
(Q i2_3 I1)
else
(L2 (fun X10 i5_8 i6_9 =>
if (6 : Int32) ≤ i6_9 then
(Q i5_8 I1)
else
(jn1 (fun k12 =>
if i3_4 = (-1 : Int32) then
(k12 i5_8)
else
(pX6_changeUp mo i4_5 i6_9 I1 (fun r13 =>
if r13 = 0 then
(nm (i5_8 ||| (sl (1 : Int32) i6_9)) (fun v14 =>
k12 v14))
else
(k12 i5_8)))) (fun v5_11 =>
X10 v5_11 (i6_9 + (1 : Int32))))) (0 : Int32) (0 : Int32)))
else
(pX6_canBe mo i5_6 I1 (fun r15 =>
jn3 (fun k19 =>
if r15 = 0 then
(k19 i2_3 i3_4 i4_5)
else
(jn1 (fun k21 =>
if i3_4 = (-1 : Int32) then
(k21 i5_6)
else
(k21 i3_4)) (fun v3_20 =>
nm (i4_5 ||| (i5_6 ^^^ v3_20)) (fun v22 =>
pX6_kindsFor mo i5_6 I1 (fun r23 =>
nm (i2_3 + r23) (fun v24 =>
k19 v24 v3_20 v22)))))) (fun v2_16 v3_17 v4_18 =>
X7 v2_16 v3_17 v4_18 (i5_6 + (1 : Int32)))))) (0 : Int32) (-1 : Int32) (0 : Int32) (0 : Int32))))
def pX6_joy (mo : Nat) (a1 : Int32) (I : MI) (Q : Int32 → MI → Prop) : Prop :=
nm (wI I mo 0 (0 : Int32)) (fun I1 =>
jn0 (fun k2 =>
if (I1 mo 6) = 0 then
(k2)
else
(pX6_isIn mo a1 (0 : Int32) (1 : Int32) I1 (fun r3 =>
if r3 = 0 then
(k2)
else
(L3 (fun X7 i2_4 i3_5 i4_6 =>
if (I1 mo 6) ≤ i4_6 then
(if a1 = 0 then
(Q i2_4 I1)
else
(Q i3_5 I1))
else
(L4 (fun X12 i2_8 i3_9 i5_10 i6_11 =>
if (I1 mo 6) ≤ i6_11 then
(X7 i2_8 i3_9 (i4_6 + (1 : Int32)))
else
(vp_in ((18 : Int32) + i6_11) 174 ∧ (nm (i5_10 + (I1 (mo + 1) ((18 : Int32) + i6_11).toNatClampNeg)) (fun v13 =>
jn1 (fun k15 =>
if v13 ≤ i2_8 then
(k15 i3_9)
else
(k15 i4_6)) (fun t14 =>
pX6_greater mo i2_8 v13 I1 (fun r16 =>
X12 r16 t14 v13 (i6_11 + (1 : Int32)))))))) i2_4 i3_5 (0 : Int32) i4_6)) (-100000000 : Int32) (0 : Int32) (0 : Int32))))) (
Q (-100 : Int32) I1))
def pX6_game (mo : Nat) (a1 : Int32) (I : MI) (Q : Int32 → MI → Prop) : Prop :=
nm (wI I mo 0 (0 : Int32)) (fun I1 =>
pX6_isIn mo a1 (0 : Int32) (1 : Int32) I1 (fun r2 =>
if r2 = 0 then
(Q (-1 : Int32) I1)
else
(L2 (fun X5 i2_3 i3_4 =>
if (I1 mo 6) ≤ i3_4 then
(L1 (fun X7 i3_6 =>
if (I1 mo 6) ≤ i3_6 then
(Q (-1 : Int32) I1)
else
(pX6_lettersFor mo i3_6 I1 (fun r8 =>
nm (i2_3 ^^^ (irm r8 (3 : Int32))) (fun v9 =>
L1 (fun X11 i6_10 =>
pX6_lesser mo r8 (2 : Int32) I1 (fun r12 =>
if r12 < i6_10 then
(X7 (i3_6 + (1 : Int32)))
else
(if (irm (r8 - i6_10) (3 : Int32)) = v9 then
(if a1 = 0 then
(Q i3_6 I1)
else
(Q i6_10 I1))
else
(X11 (i6_10 + (1 : Int32)))))) (1 : Int32))))) (0 : Int32))
else
(pX6_lettersFor mo i3_4 I1 (fun r13 =>
nm (i2_3 ^^^ (irm r13 (3 : Int32))) (fun v14 =>
X5 v14 (i3_4 + (1 : Int32)))))) (0 : Int32) (0 : Int32))))
def pX6_keeps (mo : Nat) (a1 : Int32) (I : MI) (Q : Int32 → MI → Prop) : Prop :=
nm (wI I mo 62 ((I mo 62) + (1 : Int32))) (fun I1 =>
if (I1 mo 60) = 0 then
(vp_in ((I1 mo 62) - (1 : Int32)) 2300 ∧ (Q (I1 (mo + 34) ((I1 mo 62) - (1 : Int32)).toNatClampNeg) I1))
else
(vp_in ((I1 mo 62) - (1 : Int32)) 2300 ∧ (nm (wI I1 (mo + 34) (((I1 mo 62) - (1 : Int32)).toNatClampNeg) a1) (fun I2 =>
Q a1 I2))))
def pX6_keepsMany (mo : Nat)  (I : MI) (Q : MI → Prop) : Prop :=
pX6_keeps mo (I mo 6) I (fun r1 I2 =>
nm (wI I2 mo 6 r1) (fun I3 =>
pX6_keeps mo (I3 mo 32) I3 (fun r4 I5 =>
nm (wI I5 mo 32 r4) (fun I6 =>
pX6_keeps mo (I6 mo 34) I6 (fun r7 I8 =>
nm (wI I8 mo 34 r7) (fun I9 =>
pX6_keeps mo (I9 mo 36) I9 (fun r10 I11 =>
nm (wI I11 mo 36 r10) (fun I12 =>
pX6_keeps mo (I12 mo 45) I12 (fun r13 I14 =>
nm (wI I14 mo 45 r13) (fun I15 =>
pX6_keeps mo (I15 mo 49) I15 (fun r16 I17 =>
nm (wI I17 mo 49 r16) (fun I18 =>
pX6_keeps mo (I18 mo 53) I18 (fun r19 I20 =>
nm (wI I20 mo 53 r19) (fun I21 =>
pX6_keeps mo (I21 mo 55) I21 (fun r22 I23 =>
nm (wI I23 mo 55 r22) (fun I24 =>
pX6_keeps mo (I24 mo 57) I24 (fun r25 I26 =>
nm (wI I26 mo 57 r25) (fun I27 =>
Q I27))))))))))))))))))
def pX6_keepsTold (mo : Nat)  (I : MI) (Q : MI → Prop) : Prop :=
L2 (fun X3 i1_1 I2 =>
if (12 : Int32) ≤ i1_1 then
(L2 (fun X6 i1_4 I5 =>
if (8 : Int32) ≤ i1_4 then
(L2 (fun X9 i1_7 I8 =>
if (26 : Int32) ≤ i1_7 then
(L2 (fun X12 i1_10 I11 =>
if (49 : Int32) ≤ i1_10 then
(L2 (fun X15 i1_13 I14 =>
if (64 : Int32) ≤ i1_13 then
(L2 (fun X18 i1_16 I17 =>
if (16 : Int32) ≤ i1_16 then
(L2 (fun X21 i1_19 I20 =>
if (144 : Int32) ≤ i1_19 then
(Q I20)
else
(vp_in i1_19 288 ∧ (pX6_keeps mo (I20 (mo + 18) i1_19.toNatClampNeg) I20 (fun r22 I23 =>
vp_in i1_19 288 ∧ (nm (wI I23 (mo + 18) i1_19.toNatClampNeg r22) (fun I24 =>
X21 (i1_19 + (1 : Int32)) I24)))))) (0 : Int32) I17)
else
(vp_in i1_16 32 ∧ (pX6_keeps mo (I17 (mo + 17) i1_16.toNatClampNeg) I17 (fun r25 I26 =>
vp_in i1_16 32 ∧ (nm (wI I26 (mo + 17) i1_16.toNatClampNeg r25) (fun I27 =>
X18 (i1_16 + (1 : Int32)) I27)))))) (0 : Int32) I14)
else
(vp_in i1_13 128 ∧ (pX6_keeps mo (I14 (mo + 16) i1_13.toNatClampNeg) I14 (fun r28 I29 =>
vp_in i1_13 128 ∧ (nm (wI I29 (mo + 16) i1_13.toNatClampNeg r28) (fun I30 =>
X15 (i1_13 + (1 : Int32)) I30)))))) (0 : Int32) I11)
else
(vp_in i1_10 49 ∧ (pX6_keeps mo (I11 (mo + 31) i1_10.toNatClampNeg) I11 (fun r31 I32 =>
vp_in i1_10 49 ∧ (nm (wI I32 (mo + 31) i1_10.toNatClampNeg r31) (fun I33 =>
X12 (i1_10 + (1 : Int32)) I33)))))) (0 : Int32) I8)
else
(vp_in i1_7 26 ∧ (pX6_keeps mo (I8 (mo + 29) i1_7.toNatClampNeg) I8 (fun r34 I35 =>
vp_in i1_7 26 ∧ (nm (wI I35 (mo + 29) i1_7.toNatClampNeg r34) (fun I36 =>
X9 (i1_7 + (1 : Int32)) I36)))))) (0 : Int32) I5)
else
(vp_in i1_4 8 ∧ (pX6_keeps mo (I5 (mo + 24) i1_4.toNatClampNeg) I5 (fun r37 I38 =>
vp_in i1_4 8 ∧ (nm (wI I38 (mo + 24) i1_4.toNatClampNeg r37) (fun I39 =>
vp_in i1_4 8 ∧ (pX6_keeps mo (I39 (mo + 30) i1_4.toNatClampNeg) I39 (fun r40 I41 =>
vp_in i1_4 8 ∧ (nm (wI I41 (mo + 30) i1_4.toNatClampNeg r40) (fun I42 =>
vp_in i1_4 8 ∧ (pX6_keeps mo (I42 (mo + 32) i1_4.toNatClampNeg) I42 (fun r43 I44 =>
vp_in i1_4 8 ∧ (nm (wI I44 (mo + 32) i1_4.toNatClampNeg r43) (fun I45 =>
vp_in i1_4 8 ∧ (pX6_keeps mo (I45 (mo + 33) i1_4.toNatClampNeg) I45 (fun r46 I47 =>
vp_in i1_4 8 ∧ (nm (wI I47 (mo + 33) i1_4.toNatClampNeg r46) (fun I48 =>
X6 (i1_4 + (1 : Int32)) I48)))))))))))))))))) (0 : Int32) I2)
else
(vp_in i1_1 12 ∧ (pX6_keeps mo (I2 (mo + 4) i1_1.toNatClampNeg) I2 (fun r49 I50 =>
vp_in i1_1 12 ∧ (nm (wI I50 (mo + 4) i1_1.toNatClampNeg r49) (fun I51 =>
vp_in i1_1 12 ∧ (pX6_keeps mo (I51 (mo + 27) i1_1.toNatClampNeg) I51 (fun r52 I53 =>
vp_in i1_1 12 ∧ (nm (wI I53 (mo + 27) i1_1.toNatClampNeg r52) (fun I54 =>
X3 (i1_1 + (1 : Int32)) I54)))))))))) (0 : Int32) I
def pX6_keepsLaw (mo : Nat)  (I : MI) (Q : MI → Prop) : Prop :=
pX6_keeps mo (I (mo + 8) 0) I (fun r1 I2 =>
nm (wI I2 (mo + 8) 0 r1) (fun I3 =>
L2 (fun X6 i1_4 I5 =>
if (16 : Int32) ≤ i1_4 then
(L2 (fun X9 i1_7 I8 =>
if (400 : Int32) ≤ i1_7 then
(Q I8)
else
(vp_in i1_7 1200 ∧ (pX6_keeps mo (I8 (mo + 13) i1_7.toNatClampNeg) I8 (fun r10 I11 =>
vp_in i1_7 1200 ∧ (nm (wI I11 (mo + 13) i1_7.toNatClampNeg r10) (fun I12 =>
vp_in i1_7 1200 ∧ (pX6_keeps mo (I12 (mo + 14) i1_7.toNatClampNeg) I12 (fun r13 I14 =>
vp_in i1_7 1200 ∧ (nm (wI I14 (mo + 14) i1_7.toNatClampNeg r13) (fun I15 =>
X9 (i1_7 + (1 : Int32)) I15)))))))))) (0 : Int32) I5)
else
(vp_in i1_4 48 ∧ (pX6_keeps mo (I5 (mo + 9) i1_4.toNatClampNeg) I5 (fun r16 I17 =>
vp_in i1_4 48 ∧ (nm (wI I17 (mo + 9) i1_4.toNatClampNeg r16) (fun I18 =>
vp_in i1_4 48 ∧ (pX6_keeps mo (I18 (mo + 10) i1_4.toNatClampNeg) I18 (fun r19 I20 =>
vp_in i1_4 48 ∧ (nm (wI I20 (mo + 10) i1_4.toNatClampNeg r19) (fun I21 =>
vp_in i1_4 48 ∧ (pX6_keeps mo (I21 (mo + 11) i1_4.toNatClampNeg) I21 (fun r22 I23 =>
vp_in i1_4 48 ∧ (nm (wI I23 (mo + 11) i1_4.toNatClampNeg r22) (fun I24 =>
vp_in i1_4 48 ∧ (pX6_keeps mo (I24 (mo + 12) i1_4.toNatClampNeg) I24 (fun r25 I26 =>
vp_in i1_4 48 ∧ (nm (wI I26 (mo + 12) i1_4.toNatClampNeg r25) (fun I27 =>
X6 (i1_4 + (1 : Int32)) I27)))))))))))))))))) (0 : Int32) I3))
def pX6_image (mo : Nat) (a1 : Int32) (I : MI) (Q : Int32 → MI → Prop) : Prop :=
nm (wI I mo 0 (0 : Int32)) (fun I1 =>
jn0 (fun k2 =>
if a1 = 0 then
(if (I1 mo 61) = 0 then
(Q (0 : Int32) I1)
else
(k2))
else
(k2)) (
(a1 = 0 ∨ a1 = 1) ∧ (nm (wI I1 mo 60 a1) (fun I3 =>
nm (wI I3 mo 61 (1 : Int32)) (fun I4 =>
nm (wI I4 mo 62 (0 : Int32)) (fun I5 =>
L2 (fun X8 i2_6 I7 =>
if (174 : Int32) ≤ i2_6 then
(pX6_keepsMany mo I7 (fun I9 =>
pX6_keepsTold mo I9 (fun I10 =>
L2 (fun X13 i2_11 I12 =>
if (600 : Int32) ≤ i2_11 then
(pX6_keepsLaw mo I12 (fun I14 =>
if a1 = 0 then
(nm (wI I14 mo 3 (0 : Int32)) (fun I15 =>
Q (1 : Int32) I15))
else
(Q (1 : Int32) I14)))
else
(vp_in i2_11 600 ∧ (pX6_keeps mo (I12 (mo + 5) i2_11.toNatClampNeg) I12 (fun r16 I17 =>
vp_in i2_11 600 ∧ (nm (wI I17 (mo + 5) i2_11.toNatClampNeg r16) (fun I18 =>
X13 (i2_11 + (1 : Int32)) I18)))))) (0 : Int32) I10)))
else
(vp_in i2_6 174 ∧ (pX6_keeps mo (I7 (mo + 1) i2_6.toNatClampNeg) I7 (fun r19 I20 =>
vp_in i2_6 174 ∧ (nm (wI I20 (mo + 1) i2_6.toNatClampNeg r19) (fun I21 =>
X8 (i2_6 + (1 : Int32)) I21)))))) (0 : Int32) I5))))))
def pX6_look (mo : Nat) (a1 : Int32) (I : MI) (Q : Int32 → MI → Prop) : Prop :=
nm (wI I mo 0 (0 : Int32)) (fun I1 =>
if a1 = 0 then
(Q (I1 mo 6) I1)
else
(if a1 = (1 : Int32) then
(Q (I1 (mo + 1) 10) I1)
else
(if a1 = (2 : Int32) then
(pX6_health mo I1 (fun r2 =>
Q r2 I1))
else
(if a1 = (3 : Int32) then
(Q (I1 (mo + 1) 5) I1)
else
(if a1 = (4 : Int32) then
(Q (I1 (mo + 1) 6) I1)
else
(if a1 = (5 : Int32) then
(Q (I1 (mo + 1) 7) I1)
else
(if a1 = (6 : Int32) then
(Q (I1 (mo + 1) 3) I1)
else
(if a1 = (7 : Int32) then
(Q (I1 (mo + 1) 8) I1)
else
(if a1 = (8 : Int32) then
(Q (I1 (mo + 1) 0) I1)
else
(if a1 = (9 : Int32) then
(Q (I1 (mo + 1) 2) I1)
else
(if a1 = (10 : Int32) then
(Q (I1 (mo + 1) 1) I1)
else
(if a1 = (11 : Int32) then
(Q (I1 (mo + 8) 0) I1)
else
(if a1 = (12 : Int32) then
(Q (I1 mo 32) I1)
else
(if a1 = (13 : Int32) then
(Q (I1 mo 34) I1)
else
(if a1 = (14 : Int32) then
(Q (I1 mo 36) I1)
else
(if a1 = (15 : Int32) then
(Q (I1 mo 3) I1)
else
(Q (-1 : Int32) I1)))))))))))))))))
