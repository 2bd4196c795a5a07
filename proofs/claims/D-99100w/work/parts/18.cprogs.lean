/-! the component: the pure programs, printed by a program out of the code -/
set_option maxRecDepth 100000
def pX0_word (o : Nat) (a1 : Int32) (I : MI) (r : Rh) (Q : MI → Prop) : Prop :=
L2 (fun X3 i2_1 I2 =>
if i2_1 < 0 then
(Q I2)
else
(vp_in (I2 o 1) 400 ∧ (nm (wI I2 (o + 1) ((I2 o 1).toNatClampNeg) (vp_nar .byte (((sr a1 i2_1)).toInt8.toInt32))) (fun I4 =>
nm (wI I4 o 1 ((I4 o 1) + (1 : Int32))) (fun I5 =>
X3 (i2_1 + (-8 : Int32)) I5))))) (24 : Int32) I
def pX0_feed (o : Nat) (a1 : Int32) (a2 : Int32) (a3 : Int32) (a4 : Int32) (a5 : Int32) (I : MI) (r : Rh) (Q : Int32 → MI → Prop) : Prop :=
if ((I o 1) + (20 : Int32)) ≤ (400 : Int32) then
(pX0_word o a1 I r (fun I1 =>
pX0_word o a2 I1 r (fun I2 =>
pX0_word o a3 I2 r (fun I3 =>
pX0_word o a4 I3 r (fun I4 =>
pX0_word o a5 I4 r (fun I5 =>
Q (I5 o 1) I5))))))
else
(Q (-1 : Int32) I)
def pX0_isIn (a1 : Int32) (a2 : Int32) (a3 : Int32) (I : MI) (r : Rh) (Q : Int32 → Prop) : Prop :=
jn0 (fun k1 =>
if a1 < a2 then
(k1)
else
(if a3 < a1 then
(k1)
else
(Q (1 : Int32)))) (
Q (0 : Int32))
def pX0_end (o : Nat) (a1 : Int32) (I : MI) (r : Rh) (Q : Int32 → MI → Prop) : Prop :=
pX0_isIn a1 (0 : Int32) (I o 1) I r (fun r1 =>
if r1 = 0 then
(Q (0 : Int32) I)
else
(nm (wI I o 1 a1) (fun I2 =>
Q (1 : Int32) I2)))
def pX0_forgets (o : Nat) (I : MI) (r : Rh) (Q : Int32 → MI → Prop) : Prop :=
nm (wI I o 8 (0 : Int32)) (fun I1 =>
Q (1 : Int32) I1)
def pX0_fault (o : Nat) (a1 : Int32) (I : MI) (r : Rh) (Q : Int32 → Prop) : Prop :=
if a1 = 0 then
(Q (I o 2))
else
(if a1 = (1 : Int32) then
(Q (I o 3))
else
(Q (-1 : Int32)))
def pX5_begins (o : Nat) (a1 : Int32) (a2 : Int32) (a3 : Int32) (I : MI) (r : Rh) (Q : MI → Prop) : Prop :=
nm (wI I o 0 a1) (fun I1 =>
nm (wI I1 o 1 a2) (fun I2 =>
nm (wI I2 o 2 a3) (fun I3 =>
nm (wI I3 o 3 (0 : Int32)) (fun I4 =>
Q I4))))
def pX5_takes (o : Nat) (a1 : Nat) (I : MI) (r : Rh) (Q : MI → Prop) : Prop :=
pX5_begins o (I a1 0) (I a1 1) (I a1 2) I r (fun I1 =>
nm (wI I1 o 3 (I1 a1 3)) (fun I2 =>
Q I2))
def pX3_begins (o : Nat) (a1 : Int32) (a2 : Int32) (a3 : Int32) (a4 : Int32) (I : MI) (r : Rh) (Q : MI → Prop) : Prop :=
nm (wI I o 0 a1) (fun I1 =>
nm (wI I1 o 1 a2) (fun I2 =>
nm (wI I2 o 2 a3) (fun I3 =>
nm (wI I3 o 3 a4) (fun I4 =>
nm (wI I4 o 4 (0 : Int32)) (fun I5 =>
Q I5)))))
def pX3_takes (o : Nat) (a1 : Nat) (I : MI) (r : Rh) (Q : MI → Prop) : Prop :=
pX3_begins o (I a1 0) (I a1 1) (I a1 2) (I a1 3) I r (fun I1 =>
nm (wI I1 o 4 (I1 a1 4)) (fun I2 =>
Q I2))
def pX2_takes (o : Nat) (a1 : Nat) (I : MI) (r : Rh) (Q : MI → Prop) : Prop :=
nm (wI I o 1 (I a1 1)) (fun I1 =>
L2 (fun X4 i2_2 I3 =>
if (I3 o 1) ≤ i2_2 then
(Q I3)
else
(vp_in i2_2 24 ∧ ∃ b5, rP r (o + 1) i2_2.toNatClampNeg = some b5 ∧ (vp_in i2_2 24 ∧ ∃ b8, rP r (a1 + 1) i2_2.toNatClampNeg = some b8 ∧ (pX3_takes b5 b8 I3 r (fun I11 =>
X4 (i2_2 + (1 : Int32)) I11))))) (0 : Int32) I1)
def pX1_moves (o : Nat) (a1 : Nat) (I : MI) (r : Rh) (Q : MI → Prop) : Prop :=
L2 (fun X3 i2_1 I2 =>
if (12 : Int32) ≤ i2_1 then
(L2 (fun X6 i2_4 I5 =>
if (7 : Int32) ≤ i2_4 then
(pX2_takes (o + 2) (a1 + 2) I5 r (fun I7 =>
nm (wI I7 o 15 (I7 a1 15)) (fun I8 =>
nm (wI I8 o 16 (I8 a1 16)) (fun I9 =>
nm (wI I9 o 17 (I9 a1 17)) (fun I10 =>
nm (wI I10 o 18 (I10 a1 18)) (fun I11 =>
nm (wI I11 o 19 (I11 a1 19)) (fun I12 =>
nm (wI I12 o 20 (I12 a1 20)) (fun I13 =>
nm (wI I13 o 21 (I13 a1 21)) (fun I14 =>
nm (wI I14 o 22 (I14 a1 22)) (fun I15 =>
nm (wI I15 o 23 (I15 a1 23)) (fun I16 =>
nm (wI I16 o 24 (I16 a1 24)) (fun I17 =>
Q I17))))))))))))
else
(vp_in i2_4 7 ∧ (vp_in i2_4 7 ∧ (nm (wI I5 (o + 28) i2_4.toNatClampNeg (I5 (a1 + 28) i2_4.toNatClampNeg)) (fun I18 =>
X6 (i2_4 + (1 : Int32)) I18))))) (0 : Int32) I2)
else
(vp_in i2_1 12 ∧ (vp_in i2_1 12 ∧ (pX5_takes (o + 247 + i2_1.toNatClampNeg) (a1 + 247 + i2_1.toNatClampNeg) I2 r (fun I21 =>
X3 (i2_1 + (1 : Int32)) I21))))) (0 : Int32) I
def pX0_undo (o : Nat) (I : MI) (r : Rh) (Q : Int32 → MI → Prop) : Prop :=
if (I o 8) = 0 then
(Q (0 : Int32) I)
else
(nm (wI I o 8 ((I o 8) - (1 : Int32))) (fun I1 =>
vp_in (I1 o 8) 6 ∧ ∃ b2, rP r (o + 779) (I1 o 8).toNatClampNeg = some b2 ∧ (pX1_moves (o + 2) b2 I1 r (fun I5 =>
Q (1 : Int32) I5))))
def pX0_state (o : Nat) (a1 : Int32) (I : MI) (r : Rh) (Q : Int32 → MI → Prop) : Prop :=
nm (I (o + 2) 23) (fun v1 =>
nm (wI I (o + 2) 23 a1) (fun I2 =>
pX0_forgets o I2 r (fun r3 I4 =>
Q v1 I4)))
def pX0_door_2 (o : Nat) (a1 : Int32) (I : MI) (r : Rh) (Q : Nat → Prop) : Prop :=
vp_in a1 12 ∧ (Q (o + 249 + a1.toNatClampNeg))
def pX0_door (o : Nat) (a1 : Int32) (a2 : Int32) (a3 : Int32) (I : MI) (r : Rh) (Q : Int32 → MI → Prop) : Prop :=
pX0_isIn a1 (-9 : Int32) (9 : Int32) I r (fun r1 =>
if r1 = 0 then
(Q (-1 : Int32) I)
else
(pX0_isIn a2 (0 : Int32) (9 : Int32) I r (fun r2 =>
if r2 = 0 then
(Q (-1 : Int32) I)
else
(pX0_isIn a3 (0 : Int32) (999 : Int32) I r (fun r3 =>
if r3 = 0 then
(Q (-1 : Int32) I)
else
(if (I (o + 2) 14) = (12 : Int32) then
(Q (-1 : Int32) I)
else
(pX0_door_2 o (I (o + 2) 14) I r (fun b4 =>
rK r b4 = 5 ∧ (pX5_begins b4 a1 a2 a3 I r (fun I6 =>
nm (wI I6 (o + 2) 14 ((I6 (o + 2) 14) + (1 : Int32))) (fun I7 =>
pX0_forgets o I7 r (fun r8 I9 =>
Q ((I9 (o + 2) 14) - (1 : Int32)) I9))))))))))))
def pX0_isDoor (o : Nat) (a1 : Int32) (I : MI) (r : Rh) (Q : Int32 → Prop) : Prop :=
pX0_isIn a1 (0 : Int32) ((I (o + 2) 14) - (1 : Int32)) I r (fun r1 =>
(r1 = 0 ∨ r1 = 1) ∧ Q r1)
def pX0_canSet (o : Nat) (a1 : Int32) (a2 : Int32) (a3 : Int32) (I : MI) (r : Rh) (Q : Int32 → Prop) : Prop :=
if a1 = (0 : Int32) then
(pX0_isDoor o a2 I r (fun r2 =>
jn0 (fun k3 =>
if r2 = 0 then
(k3)
else
(pX0_isIn a3 (-9 : Int32) (9 : Int32) I r (fun r4 =>
if r4 = 0 then
(k3)
else
(Q (1 : Int32))))) (
Q (0 : Int32))))
else
(if a1 = (1 : Int32) then
(pX0_isDoor o a2 I r (fun r6 =>
jn0 (fun k7 =>
if r6 = 0 then
(k7)
else
(pX0_isIn a3 (0 : Int32) (9 : Int32) I r (fun r8 =>
if r8 = 0 then
(k7)
else
(Q (1 : Int32))))) (
Q (0 : Int32))))
else
(if a1 = (2 : Int32) then
(pX0_isDoor o a2 I r (fun r10 =>
jn0 (fun k11 =>
if r10 = 0 then
(k11)
else
(pX0_isIn a3 (0 : Int32) (999 : Int32) I r (fun r12 =>
if r12 = 0 then
(k11)
else
(Q (1 : Int32))))) (
Q (0 : Int32))))
else
(pX0_isIn a1 (3 : Int32) (4 : Int32) I r (fun r13 =>
jn0 (fun k14 =>
if r13 = 0 then
(k14)
else
(pX0_isIn a3 (0 : Int32) (99 : Int32) I r (fun r15 =>
if r15 = 0 then
(k14)
else
(Q (1 : Int32))))) (
Q (0 : Int32))))))
def pX0_set (o : Nat) (a1 : Int32) (a2 : Int32) (a3 : Int32) (I : MI) (r : Rh) (Q : Int32 → MI → Prop) : Prop :=
pX0_canSet o a1 a2 a3 I r (fun r1 =>
if r1 = 0 then
(Q (0 : Int32) I)
else
(jn1 (fun k3 =>
if a1 = (0 : Int32) then
(pX0_door_2 o a2 I r (fun b5 =>
rK r b5 = 5 ∧ (nm (wI I b5 0 a3) (fun I7 =>
k3 I7))))
else
(if a1 = (1 : Int32) then
(pX0_door_2 o a2 I r (fun b9 =>
rK r b9 = 5 ∧ (nm (wI I b9 1 a3) (fun I11 =>
k3 I11))))
else
(if a1 = (2 : Int32) then
(pX0_door_2 o a2 I r (fun b13 =>
rK r b13 = 5 ∧ (nm (wI I b13 2 a3) (fun I15 =>
k3 I15))))
else
(if a1 = (3 : Int32) then
(nm (wI I (o + 2) 15 a3) (fun I17 =>
k3 I17))
else
(nm (wI I (o + 2) 16 a3) (fun I18 =>
k3 I18)))))) (fun I2 =>
pX0_forgets o I2 r (fun r19 I20 =>
(r19 = 0 ∨ r19 = 1) ∧ Q r19 I20))))
def pX0_isKind (a1 : Int32) (I : MI) (r : Rh) (Q : Int32 → Prop) : Prop :=
pX0_isIn a1 (0 : Int32) (6 : Int32) I r (fun r1 =>
(r1 = 0 ∨ r1 = 1) ∧ Q r1)
def pX0_remembers (o : Nat) (I : MI) (r : Rh) (Q : MI → Rh → Prop) : Prop :=
jn2 (fun k3 =>
if (I o 8) = (6 : Int32) then
(vp_in (0 : Int32) 6 ∧ ∃ b5, rP r (o + 779) (0 : Int32).toNatClampNeg = some b5 ∧ (L2 (fun X10 i2_8 r9 =>
KpS o r9 ∧ (WkS b5 r9 ∧ (if (6 : Int32) ≤ i2_8 then
(vp_in (5 : Int32) 6 ∧ (nm (wP r9 (o + 779) (5 : Int32).toNatClampNeg (some b5)) (fun r13 =>
KpS o r13 ∧ (WkS b5 r13 ∧ (nm (wI I o 8 ((I o 8) - (1 : Int32))) (fun I16 =>
k3 I16 r13))))))
else
(vp_in i2_8 6 ∧ ∃ b17, rP r9 (o + 779) i2_8.toNatClampNeg = some b17 ∧ (vp_in (i2_8 - (1 : Int32)) 6 ∧ (nm (wP r9 (o + 779) (i2_8 - (1 : Int32)).toNatClampNeg (some b17)) (fun r20 =>
KpS o r20 ∧ (WkS b5 r20 ∧ (X10 (i2_8 + (1 : Int32)) r20))))))))) (1 : Int32) r))
else
(k3 I r)) (fun I1 r2 =>
KpS o r2 ∧ (vp_in (I1 o 8) 6 ∧ ∃ b23, rP r2 (o + 779) (I1 o 8).toNatClampNeg = some b23 ∧ (pX1_moves b23 (o + 2) I1 r2 (fun I26 =>
nm (wI I26 o 8 ((I26 o 8) + (1 : Int32))) (fun I27 =>
Q I27 r2)))))
def pX2_comes (o : Nat) (a1 : Int32) (a2 : Int32) (a3 : Int32) (a4 : Int32) (I : MI) (r : Rh) (Q : Int32 → MI → Prop) : Prop :=
if (I o 1) = (24 : Int32) then
(Q (0 : Int32) I)
else
(vp_in (I o 1) 24 ∧ ∃ b1, rP r (o + 1) (I o 1).toNatClampNeg = some b1 ∧ (pX3_begins b1 a1 a2 a3 a4 I r (fun I4 =>
nm (wI I4 o 1 ((I4 o 1) + (1 : Int32))) (fun I5 =>
Q (1 : Int32) I5))))
def pX1_notes (o : Nat) (a1 : Int32) (a2 : Int32) (a3 : Int32) (I : MI) (r : Rh) (Q : MI → Prop) : Prop :=
if (I o 27) = 0 then
(if (I o 24) = (150 : Int32) then
(Q I)
else
(vp_in (I o 24) 150 ∧ (nm (wI I (o + 31 + (I o 24).toNatClampNeg) 0 (I o 21)) (fun I2 =>
nm (wI I2 (o + 31 + (I o 24).toNatClampNeg) 1 a1) (fun I3 =>
nm (wI I3 (o + 31 + (I o 24).toNatClampNeg) 2 a2) (fun I4 =>
nm (wI I4 (o + 31 + (I o 24).toNatClampNeg) 3 a3) (fun I5 =>
nm (wI I5 o 24 ((I5 o 24) + (1 : Int32))) (fun I6 =>
Q I6))))))))
else
(Q I)
def pX1_posts (o : Nat) (a1 : Int32) (a2 : Int32) (a3 : Int32) (I : MI) (r : Rh) (Q : Int32 → MI → Prop) : Prop :=
pX2_comes (o + 2) (I o 22) a1 a2 a3 I r (fun r1 I2 =>
if r1 = 0 then
(Q (0 : Int32) I2)
else
(pX1_notes o (0 : Int32) (I2 o 22) a1 I2 r (fun I3 =>
nm (wI I3 o 22 ((I3 o 22) + (1 : Int32))) (fun I4 =>
Q (1 : Int32) I4))))
def pX0_post (o : Nat) (a1 : Int32) (a2 : Int32) (a3 : Int32) (I : MI) (r : Rh) (Q : Int32 → MI → Rh → Prop) : Prop :=
pX0_isDoor o a1 I r (fun r1 =>
if r1 = 0 then
(Q (-1 : Int32) I r)
else
(pX0_isKind a2 I r (fun r2 =>
if r2 = 0 then
(Q (-1 : Int32) I r)
else
(pX0_isIn a3 (1 : Int32) (99 : Int32) I r (fun r3 =>
if r3 = 0 then
(Q (-1 : Int32) I r)
else
(if (I (o + 4) 1) = (24 : Int32) then
(Q (-1 : Int32) I r)
else
(pX0_remembers o I r (fun I4 s5 =>
KpS o s5 ∧ (pX1_posts (o + 2) a1 a2 a3 I4 s5 (fun r7 I8 =>
Q ((I8 (o + 2) 22) - (1 : Int32)) I8 s5))))))))))
def pX2_place (o : Nat) (a1 : Int32) (I : MI) (r : Rh) (Q : Int32 → Prop) : Prop :=
L1 (fun X2 i2_1 =>
if (I o 1) ≤ i2_1 then
(Q (-1 : Int32))
else
(vp_in i2_1 24 ∧ ∃ b3, rP r (o + 1) i2_1.toNatClampNeg = some b3 ∧ (if (I b3 0) = a1 then
(Q i2_1)
else
(X2 (i2_1 + (1 : Int32)))))) (0 : Int32)
def pJ2_size (o : Nat) (I : MI) (r : Rh) (Q : Int32 → Prop) : Prop :=
Q (I o 2)
def pJ4_checkIndex (a1 : Int32) (a2 : Int32) (a3 : Option Nat) (I : MI) (r : Rh) (Q : Int32 → Prop) : Prop :=
jn0 (fun k1 =>
if a1 < 0 then
(k1)
else
(if a1 < a2 then
(Q a1)
else
(k1))) (
False)
def pJ3_checkIndex (a1 : Int32) (a2 : Int32) (I : MI) (r : Rh) (Q : Int32 → Prop) : Prop :=
pJ4_checkIndex a1 a2 none I r (fun r1 =>
Q r1)
def pJ2_elementData (o : Nat) (a1 : Int32) (I : MI) (r : Rh) (Q : Nat → Prop) : Prop :=
∃ b1, rP r o 1 = some b1 ∧ (rK r b1 = 56 ∧ (vp_in a1 (rL r b1) ∧ ∃ b4, rP r b1 a1.toNatClampNeg = some b4 ∧ (Q b4)))
def pJ2_get (o : Nat) (a1 : Int32) (I : MI) (r : Rh) (Q : Nat → Prop) : Prop :=
pJ3_checkIndex a1 (I o 2) I r (fun r1 =>
pJ2_elementData o a1 I r (fun b2 =>
Q b2))
def pX0_held (a1 : Int32) (a2 : Int32) (a3 : Int32) (I : MI) (r : Rh) (Q : Int32 → Prop) : Prop :=
Q (imx a2 (imn a3 a1))
def pX5_looks (o : Nat) (a1 : Int32) (I : MI) (r : Rh) (Q : MI → Prop) : Prop :=
pX0_held ((I o 0) + a1) (-9 : Int32) (9 : Int32) I r (fun r1 =>
nm (wI I o 0 r1) (fun I2 =>
Q I2))
def pX1_does (o : Nat) (a1 : Nat) (a2 : Int32) (I : MI) (r : Rh) (Q : MI → Prop) : Prop :=
vp_in (I a1 1) 12 ∧ (jn1 (fun k3 =>
if (I a1 2) = (0 : Int32) then
(pX5_looks (o + 247 + (I a1 1).toNatClampNeg) (-1 : Int32) I r (fun I5 =>
k3 I5))
else
(if (I a1 2) = (1 : Int32) then
(nm (wI I (o + 247 + (I a1 1).toNatClampNeg) 2 ((I (o + 247 + (I a1 1).toNatClampNeg) 2) - a2)) (fun I7 =>
pX5_looks (o + 247 + (I a1 1).toNatClampNeg) (-1 : Int32) I7 r (fun I8 =>
k3 I8)))
else
(if (I a1 2) = (2 : Int32) then
(pX5_looks (o + 247 + (I a1 1).toNatClampNeg) (1 : Int32) I r (fun I10 =>
k3 I10))
else
(if (I a1 2) = (3 : Int32) then
(pX5_looks (o + 247 + (I a1 1).toNatClampNeg) (-1 : Int32) I r (fun I12 =>
nm (wI I12 o 15 (imx (0 : Int32) ((I12 o 15) - a2))) (fun I13 =>
k3 I13)))
else
(if (I a1 2) = (4 : Int32) then
(nm (wI I o 16 (imx (0 : Int32) ((I o 16) - a2))) (fun I15 =>
k3 I15))
else
(if (I a1 2) = (6 : Int32) then
(pX5_looks (o + 247 + (I a1 1).toNatClampNeg) (2 : Int32) I r (fun I17 =>
k3 I17))
else
(k3 I))))))) (fun I2 =>
if (I2 a1 2) = 0 then
(if (50 : Int32) ≤ (I2 a1 3) then
(nm (wI I2 o 17 ((I2 o 17) + (1 : Int32))) (fun I19 =>
nm (wI I19 o 15 (imn (99 : Int32) ((I19 o 15) + (5 : Int32)))) (fun I20 =>
Q I20)))
else
(Q I2))
else
(Q I2)))
def pX2_goes (o : Nat) (a1 : Int32) (I : MI) (r : Rh) (Q : MI → Rh → Prop) : Prop :=
vp_in a1 24 ∧ ∃ b1, rP r (o + 1) a1.toNatClampNeg = some b1 ∧ (nm (a1 + (1 : Int32)) (fun v4 =>
L2 (fun X7 i3_5 r6 =>
BgS o r6 ∧ (rK r6 b1 = 3 ∧ (if (I o 1) ≤ i3_5 then
(vp_in ((I o 1) - (1 : Int32)) 24 ∧ (nm (wP r6 (o + 1) ((I o 1) - (1 : Int32)).toNatClampNeg (some b1)) (fun r10 =>
BgS o r10 ∧ (rK r10 b1 = 3 ∧ (nm (wI I o 1 ((I o 1) - (1 : Int32))) (fun I13 =>
Q I13 r10))))))
else
(vp_in i3_5 24 ∧ ∃ b14, rP r6 (o + 1) i3_5.toNatClampNeg = some b14 ∧ (vp_in (i3_5 - (1 : Int32)) 24 ∧ (nm (wP r6 (o + 1) (i3_5 - (1 : Int32)).toNatClampNeg (some b14)) (fun r17 =>
BgS o r17 ∧ (rK r17 b1 = 3 ∧ (X7 (i3_5 + (1 : Int32)) r17))))))))) v4 r))
def pX1_draw (o : Nat) (a1 : Int32) (I : MI) (r : Rh) (Q : Int32 → MI → Prop) : Prop :=
nm (wI I o 23 (((1664525 : Int32) * (I o 23)) + (1013904223 : Int32))) (fun I1 =>
a1 ≠ 0 ∧ (Q (irm (us (I1 o 23) (8 : Int32)) a1) I1))
def pX0_rain (o : Nat) (a1 : Int32) (I : MI) (r : Rh) (Q : Int32 → MI → Rh → Prop) : Prop :=
pX0_isIn a1 (0 : Int32) (9 : Int32) I r (fun r1 =>
if r1 = 0 then
(Q (0 : Int32) I r)
else
(pX0_remembers o I r (fun I2 s3 =>
KpS o s3 ∧ (nm (wI I2 (o + 2) 20 a1) (fun I5 =>
Q (1 : Int32) I5 s3)))))
def pX1_isPosted (o : Nat) (I : MI) (r : Rh) (Q : MI → Prop) : Prop :=
L2 (fun X3 i1_1 I2 =>
∃ b4, rP r o 11 = some b4 ∧ (rK r b4 = 9 ∧ (pJ2_size b4 I2 r (fun r7 =>
if r7 ≤ i1_1 then
(Q I2)
else
(∃ b8, rP r o 11 = some b8 ∧ (rK r b8 = 9 ∧ (pJ2_get b8 i1_1 I2 r (fun b11 =>
rK r b11 = 15 ∧ (jn1 (fun k14 =>
if (I2 b11 0) = (I2 o 21) then
(pX1_posts o (I2 b11 1) (I2 b11 2) (I2 b11 3) I2 r (fun r15 I16 =>
if r15 = 0 then
(nm (wI I16 o 18 ((I16 o 18) + (1 : Int32))) (fun I17 =>
pX1_notes o (3 : Int32) (-1 : Int32) (I17 b11 1) I17 r (fun I18 =>
k14 I18)))
else
(k14 I16)))
else
(k14 I2)) (fun I13 =>
X3 (i1_1 + (1 : Int32)) I13)))))))))) (0 : Int32) I
def pX1_ages (o : Nat) (I : MI) (r : Rh) (Q : MI → Rh → Prop) : Prop :=
nm ((I (o + 2) 1) - (1 : Int32)) (fun v1 =>
L2 (fun X4 i1_2 I3 =>
if i1_2 < 0 then
(L3 (fun X8 i1_5 I6 r7 =>
WkS o r7 ∧ (if (I6 (o + 2) 1) ≤ i1_5 then
(Q I6 r7)
else
(vp_in i1_5 24 ∧ ∃ b10, rP r7 (o + 3) i1_5.toNatClampNeg = some b10 ∧ (if (9 : Int32) ≤ (I6 b10 4) then
(vp_in i1_5 24 ∧ ∃ b13, rP r7 (o + 3) i1_5.toNatClampNeg = some b13 ∧ (vp_in i1_5 24 ∧ ∃ b16, rP r7 (o + 3) i1_5.toNatClampNeg = some b16 ∧ (pX1_notes o (3 : Int32) (I6 b13 0) (I6 b16 1) I6 r7 (fun I19 =>
pX2_goes (o + 2) i1_5 I19 r7 (fun I20 s21 =>
WkS o s21 ∧ (nm (wI I20 o 18 ((I20 o 18) + (1 : Int32))) (fun I23 =>
X8 i1_5 I23 s21)))))))
else
(X8 (i1_5 + (1 : Int32)) I6 r7))))) (0 : Int32) I3 r)
else
(vp_in i1_2 24 ∧ ∃ b24, rP r (o + 3) i1_2.toNatClampNeg = some b24 ∧ (nm (wI I3 b24 4 ((I3 b24 4) + (1 : Int32))) (fun I27 =>
X4 (i1_2 + (-1 : Int32)) I27)))) v1 I)
def pJ6_signum (a1 : Int32) (I : MI) (r : Rh) (Q : Int32 → Prop) : Prop :=
Q ((sr a1 (31 : Int32)) ||| (us (-a1) (31 : Int32)))
def pX5_calms (o : Nat) (I : MI) (r : Rh) (Q : MI → Prop) : Prop :=
pJ6_signum (I o 0) I r (fun r1 =>
nm (wI I o 0 ((I o 0) - r1)) (fun I2 =>
Q I2))
def pX0_street (o : Nat) (a1 : Int32) (a2 : Int32) (I : MI) (r : Rh) (Q : Int32 → Prop) : Prop :=
∃ b1, rP r (o + 2) 13 = some b1 ∧ (rK r b1 = 50 ∧ (vp_in (((12 : Int32) * a1) + a2) (rL r b1) ∧ (Q (I b1 (((12 : Int32) * a1) + a2).toNatClampNeg))))
def pX2_forDoor (o : Nat) (a1 : Int32) (I : MI) (r : Rh) (Q : Int32 → Prop) : Prop :=
L2 (fun X3 i2_1 i3_2 =>
if (I o 1) ≤ i3_2 then
(Q i2_1)
else
(vp_in i3_2 24 ∧ ∃ b4, rP r (o + 1) i3_2.toNatClampNeg = some b4 ∧ (jn1 (fun k8 =>
if (I b4 1) = a1 then
(k8 (1 : Int32))
else
(k8 (0 : Int32))) (fun t7 =>
nm (i2_1 + t7) (fun v9 =>
X3 v9 (i3_2 + (1 : Int32))))))) (0 : Int32) (0 : Int32)
def pX0_of (o : Nat) (a1 : Int32) (a2 : Int32) (I : MI) (r : Rh) (Q : Int32 → Prop) : Prop :=
pX0_isDoor o a1 I r (fun r1 =>
if r1 = 0 then
(Q (-100 : Int32))
else
(pX0_door_2 o a1 I r (fun b2 =>
rK r b2 = 5 ∧ (if a2 = (0 : Int32) then
(Q (I b2 0))
else
(if a2 = (1 : Int32) then
(Q (I b2 1))
else
(if a2 = (2 : Int32) then
(Q (I b2 2))
else
(if a2 = (3 : Int32) then
(Q (I b2 3))
else
(if a2 = (4 : Int32) then
(pX2_forDoor (o + 4) a1 I r (fun r9 =>
Q r9))
else
(pX0_isDoor o (a2 - (10 : Int32)) I r (fun r10 =>
if r10 = 0 then
(Q (-100 : Int32))
else
(pX0_street o a1 (a2 - (10 : Int32)) I r (fun r11 =>
Q r11))))))))))))
def pX0_given (o : Nat) (a1 : Int32) (I : MI) (r : Rh) (Q : Int32 → Prop) : Prop :=
pX0_isKind a1 I r (fun r1 =>
if r1 = 0 then
(Q (-1 : Int32))
else
(vp_in a1 7 ∧ (Q (I (o + 30) a1.toNatClampNeg))))
def pX0_book (o : Nat) (a1 : Int32) (a2 : Int32) (I : MI) (r : Rh) (Q : Int32 → Prop) : Prop :=
pX0_isIn a1 (0 : Int32) ((I (o + 2) 24) - (1 : Int32)) I r (fun r1 =>
jn0 (fun k2 =>
if r1 = 0 then
(k2)
else
(pX0_isIn a2 (0 : Int32) (3 : Int32) I r (fun r3 =>
if r3 = 0 then
(k2)
else
(vp_in a1 150 ∧ (vp_in a2 4 ∧ (Q (I (o + 33 + a1.toNatClampNeg) a2.toNatClampNeg))))))) (
Q (-2 : Int32)))
def pX1_thinks (o : Nat) (a1 : Nat) (I : MI) (r : Rh) (Q : MI → Rh → Prop) : Prop :=
pX1_moves o a1 I r (fun I1 =>
nm (wI I1 o 14 (I1 a1 14)) (fun I2 =>
∃ b3, rP r a1 10 = some b3 ∧ (rK r b3 = 9 ∧ (nm (wP r o 10 (some b3)) (fun r6 =>
WkS o r6 ∧ (WkS a1 r6 ∧ (∃ b9, rP r6 a1 11 = some b9 ∧ (rK r6 b9 = 9 ∧ (nm (wP r6 o 11 (some b9)) (fun r12 =>
WkS o r12 ∧ (WkS a1 r12 ∧ (∃ b15, rP r12 a1 12 = some b15 ∧ (rK r12 b15 = 50 ∧ (nm (wP r12 o 12 (some b15)) (fun r18 =>
WkS o r18 ∧ (WkS a1 r18 ∧ (nm (wI I2 o 25 (I2 a1 25)) (fun I21 =>
∃ b22, rP r18 a1 13 = some b22 ∧ (rK r18 b22 = 50 ∧ (nm (wP r18 o 13 (some b22)) (fun r25 =>
WkS o r25 ∧ (WkS a1 r25 ∧ (nm (wI I21 o 26 (I21 a1 26)) (fun I28 =>
Q I28 r25))))))))))))))))))))))))
def pX0_laysGoals (o : Nat) (a1 : Int32) (I : MI) (r : Rh) (Q : Int32 → MI → Prop) : Prop :=
L3 (fun X4 i2_1 i3_2 I3 =>
if (I3 (o + 2) 14) ≤ i3_2 then
(Q i2_1 I3)
else
(jn2 (fun k7 =>
if i3_2 = a1 then
(k7 i2_1 I3)
else
(pX2_forDoor (o + 4) i3_2 I3 r (fun r8 =>
if r8 = 0 then
(k7 i2_1 I3)
else
(if i2_1 = (Int32.ofNat 8) then
(Q (-1 : Int32) I3)
else
(vp_in i2_1 8 ∧ (nm (wI I3 (o + 2604) i2_1.toNatClampNeg i3_2) (fun I9 =>
k7 (i2_1 + (1 : Int32)) I9))))))) (fun v2_5 I6 =>
X4 v2_5 (i3_2 + (1 : Int32)) I6))) (0 : Int32) (0 : Int32) I
def pX0_laysFar (o : Nat) (I : MI) (r : Rh) (Q : MI → Prop) : Prop :=
L2 (fun X3 i1_1 I2 =>
if (I2 (o + 2) 14) ≤ i1_1 then
(L2 (fun X6 i1_4 I5 =>
if (I5 (o + 2) 14) ≤ i1_4 then
(Q I5)
else
(L2 (fun X9 i2_7 I8 =>
if (I8 (o + 2) 14) ≤ i2_7 then
(X6 (i1_4 + (1 : Int32)) I8)
else
(L2 (fun X12 i3_10 I11 =>
if (I11 (o + 2) 14) ≤ i3_10 then
(X9 (i2_7 + (1 : Int32)) I11)
else
(vp_in i2_7 12 ∧ (vp_in i2_7 12 ∧ (vp_in i3_10 12 ∧ (vp_in i2_7 12 ∧ (vp_in i1_4 12 ∧ (vp_in i1_4 12 ∧ (vp_in i3_10 12 ∧ (vp_in i3_10 12 ∧ (nm (wI I11 (o + 2335 + i2_7.toNatClampNeg) i3_10.toNatClampNeg (imn (I11 (o + 2335 + i2_7.toNatClampNeg) i3_10.toNatClampNeg) ((I11 (o + 2335 + i2_7.toNatClampNeg) i1_4.toNatClampNeg) + (I11 (o + 2335 + i1_4.toNatClampNeg) i3_10.toNatClampNeg)))) (fun I17 =>
X12 (i3_10 + (1 : Int32)) I17))))))))))) (0 : Int32) I8)) (0 : Int32) I5)) (0 : Int32) I2)
else
(L2 (fun X20 i2_18 I19 =>
if (I19 (o + 2) 14) ≤ i2_18 then
(X3 (i1_1 + (1 : Int32)) I19)
else
(vp_in i1_1 12 ∧ (jn1 (fun k23 =>
if i1_1 = i2_18 then
(k23 (0 : Int32))
else
(pX0_street o i1_1 i2_18 I19 r (fun r24 =>
if r24 = (-1 : Int32) then
(k23 (100000000 : Int32))
else
(pX0_street o i1_1 i2_18 I19 r (fun r25 =>
k23 r25))))) (fun t22 =>
vp_in i2_18 12 ∧ (nm (wI I19 (o + 2335 + i1_1.toNatClampNeg) i2_18.toNatClampNeg t22) (fun I26 =>
X20 (i2_18 + (1 : Int32)) I26)))))) (0 : Int32) I2)) (0 : Int32) I
def pX0_laysWalks (o : Nat) (a1 : Int32) (a2 : Int32) (I : MI) (r : Rh) (Q : MI → Prop) : Prop :=
L2 (fun X3 i3_1 I2 =>
if (sl (1 : Int32) a2) ≤ i3_1 then
(Q I2)
else
(L2 (fun X6 i4_4 I5 =>
if a2 ≤ i4_4 then
(X3 (i3_1 + (1 : Int32)) I5)
else
(vp_in i3_1 256 ∧ (vp_in i4_4 8 ∧ (nm (wI I5 (o + 2348 + i3_1.toNatClampNeg) i4_4.toNatClampNeg (100000000 : Int32)) (fun I8 =>
jn1 (fun k10 =>
if ((sr i3_1 i4_4) &&& (1 : Int32)) = 0 then
(k10 I8)
else
(nm (i3_1 &&& ((sl (1 : Int32) i4_4) ^^^ (-1 : Int32))) (fun v11 =>
jn1 (fun k13 =>
if v11 = 0 then
(vp_in i3_1 256 ∧ (vp_in a1 12 ∧ (vp_in i4_4 8 ∧ (vp_in (I8 (o + 2604) i4_4.toNatClampNeg) 12 ∧ (vp_in i4_4 8 ∧ (nm (wI I8 (o + 2348 + i3_1.toNatClampNeg) i4_4.toNatClampNeg (imn (100000000 : Int32) (I8 (o + 2335 + a1.toNatClampNeg) (I8 (o + 2604) i4_4.toNatClampNeg).toNatClampNeg))) (fun I16 =>
k13 I16)))))))
else
(k13 I8)) (fun I12 =>
L2 (fun X19 i6_17 I18 =>
if a2 ≤ i6_17 then
(k10 I18)
else
(jn1 (fun k21 =>
if ((sr v11 i6_17) &&& (1 : Int32)) = (1 : Int32) then
(vp_in i3_1 256 ∧ (vp_in i3_1 256 ∧ (vp_in i4_4 8 ∧ (vp_in v11 256 ∧ (vp_in i6_17 8 ∧ (vp_in i6_17 8 ∧ (vp_in (I18 (o + 2604) i6_17.toNatClampNeg) 12 ∧ (vp_in i4_4 8 ∧ (vp_in (I18 (o + 2604) i4_4.toNatClampNeg) 12 ∧ (vp_in i4_4 8 ∧ (nm (wI I18 (o + 2348 + i3_1.toNatClampNeg) i4_4.toNatClampNeg (imn (I18 (o + 2348 + i3_1.toNatClampNeg) i4_4.toNatClampNeg) ((I18 (o + 2348 + v11.toNatClampNeg) i6_17.toNatClampNeg) + (I18 (o + 2335 + (I18 (o + 2604) i6_17.toNatClampNeg).toNatClampNeg) (I18 (o + 2604) i4_4.toNatClampNeg).toNatClampNeg)))) (fun I26 =>
k21 I26))))))))))))
else
(k21 I18)) (fun I20 =>
X19 (i6_17 + (1 : Int32)) I20))) (0 : Int32) I12)))) (fun I9 =>
X6 (i4_4 + (1 : Int32)) I9)))))) (0 : Int32) I2)) (1 : Int32) I
def pX0_shortest (o : Nat) (a1 : Int32) (a2 : Int32) (I : MI) (r : Rh) (Q : Int32 → MI → Prop) : Prop :=
pX0_isDoor o a1 I r (fun r1 =>
if r1 = 0 then
(Q (-1 : Int32) I)
else
(pX0_isIn a2 (0 : Int32) (1 : Int32) I r (fun r2 =>
if r2 = 0 then
(Q (-1 : Int32) I)
else
(pX0_laysGoals o a1 I r (fun r3 I4 =>
if (1 : Int32) ≤ r3 then
(pX0_laysFar o I4 r (fun I5 =>
pX0_laysWalks o a1 r3 I5 r (fun I6 =>
nm ((sl (1 : Int32) r3) - (1 : Int32)) (fun v7 =>
L2 (fun X10 i5_8 i6_9 =>
if r3 ≤ i6_9 then
(vp_in v7 256 ∧ (vp_in i5_8 8 ∧ (if (I6 (o + 2348 + v7.toNatClampNeg) i5_8.toNatClampNeg) < (100000000 : Int32) then
(if a2 = 0 then
(vp_in v7 256 ∧ (vp_in i5_8 8 ∧ (Q (I6 (o + 2348 + v7.toNatClampNeg) i5_8.toNatClampNeg) I6)))
else
(vp_in i5_8 8 ∧ (Q (I6 (o + 2604) i5_8.toNatClampNeg) I6)))
else
(Q (-1 : Int32) I6))))
else
(vp_in v7 256 ∧ (vp_in i6_9 8 ∧ (vp_in v7 256 ∧ (vp_in i5_8 8 ∧ (jn1 (fun k16 =>
if (I6 (o + 2348 + v7.toNatClampNeg) i5_8.toNatClampNeg) ≤ (I6 (o + 2348 + v7.toNatClampNeg) i6_9.toNatClampNeg) then
(k16 i5_8)
else
(k16 i6_9)) (fun v5_15 =>
X10 v5_15 (i6_9 + (1 : Int32))))))))) (0 : Int32) (1 : Int32)))))
else
(if r3 = (-1 : Int32) then
(Q (-1 : Int32) I4)
else
(if a2 = 0 then
(Q (0 : Int32) I4)
else
(Q a1 I4))))))))
def pX0_box (o : Nat) (a1 : Int32) (I : MI) (r : Rh) (Q : Int32 → MI → Prop) : Prop :=
pX0_isIn a1 (0 : Int32) (1 : Int32) I r (fun r1 =>
if r1 = 0 then
(Q (-1 : Int32) I)
else
(pX0_laysFar o I r (fun I2 =>
L3 (fun X6 i2_3 i3_4 i4_5 =>
if (I2 (o + 2) 14) ≤ i4_5 then
(jn0 (fun k7 =>
if i2_3 = (-1 : Int32) then
(k7)
else
(if a1 = 0 then
(k7)
else
(Q i3_4 I2))) (
Q i2_3 I2))
else
(L2 (fun X10 i5_8 i6_9 =>
if (I2 (o + 2) 14) ≤ i6_9 then
(jn2 (fun k13 =>
if i5_8 < i3_4 then
(k13 i4_5 i5_8)
else
(k13 i2_3 i3_4)) (fun v2_11 v3_12 =>
X6 v2_11 v3_12 (i4_5 + (1 : Int32))))
else
(vp_in i4_5 12 ∧ (vp_in i6_9 12 ∧ (nm (imx i5_8 (I2 (o + 2335 + i4_5.toNatClampNeg) i6_9.toNatClampNeg)) (fun v15 =>
X10 v15 (i6_9 + (1 : Int32))))))) (0 : Int32) (0 : Int32))) (-1 : Int32) (100000000 : Int32) (0 : Int32))))
def pX4_ends (o : Nat) (n_o : Nat) (I : MI) (r : Rh) (Q : Int32 → MI → Prop) : Prop :=
nm (wI I o 1 (0 : Int32)) (fun I1 =>
Q (0 : Int32) I1)
def pX4_tells (o : Nat) (n_o : Nat) (a1 : Int32) (a2 : Int32) (a3 : Int32) (I : MI) (r : Rh) (Q : Int32 → MI → Prop) : Prop :=
if (I o 1) = (Int32.ofNat n_o) then
(Q (-1 : Int32) I)
else
(vp_in (I o 1) n_o ∧ (nm (wI I (o + 2 + (I o 1).toNatClampNeg) 0 a1) (fun I2 =>
vp_in (I2 o 1) n_o ∧ (nm (wI I2 (o + 2 + (I2 o 1).toNatClampNeg) 1 a2) (fun I4 =>
vp_in (I4 o 1) n_o ∧ (nm (wI I4 (o + 2 + (I4 o 1).toNatClampNeg) 2 a3) (fun I6 =>
nm (wI I6 o 1 ((I6 o 1) + (1 : Int32))) (fun I7 =>
Q (I7 o 1) I7))))))))
def pX0_blow (o : Nat) (a1 : Int32) (I : MI) (r : Rh) (Q : Int32 → MI → Prop) : Prop :=
if a1 = 0 then
(pX4_ends (o + 183) 8 I r (fun r4 I5 =>
Q r4 I5))
else
(pX0_isIn a1 (-50 : Int32) (50 : Int32) I r (fun r1 =>
if r1 = 0 then
(Q (-1 : Int32) I)
else
(pX4_tells (o + 183) 8 a1 (0 : Int32) (0 : Int32) I r (fun r2 I3 =>
Q r2 I3))))
def pJ6_bitCount (a1 : Int32) (I : MI) (r : Rh) (Q : Int32 → Prop) : Prop :=
nm (a1 - ((us a1 (1 : Int32)) &&& (1431655765 : Int32))) (fun v1 =>
nm ((v1 &&& (858993459 : Int32)) + ((us v1 (2 : Int32)) &&& (858993459 : Int32))) (fun v2 =>
nm ((v2 + (us v2 (4 : Int32))) &&& (252645135 : Int32)) (fun v3 =>
nm (v3 + (us v3 (8 : Int32))) (fun v4 =>
nm (v4 + (us v4 (16 : Int32))) (fun v5 =>
Q (v5 &&& (63 : Int32)))))))
def pX0_laysBlows (o : Nat) (a1 : Int32) (a2 : Int32) (I : MI) (r : Rh) (Q : MI → Prop) : Prop :=
nm (I (o + 183) 1) (fun v1 =>
L2 (fun X4 i4_2 I3 =>
if (sl (1 : Int32) v1) ≤ i4_2 then
(Q I3)
else
(jn1 (fun k6 =>
if i4_2 = 0 then
(k6 a1)
else
(k6 (-1 : Int32))) (fun t5 =>
vp_in i4_2 256 ∧ (nm (wI I3 (o + 2605) i4_2.toNatClampNeg t5) (fun I7 =>
L2 (fun X10 i5_8 I9 =>
if v1 ≤ i5_8 then
(X4 (i4_2 + (1 : Int32)) I9)
else
(jn1 (fun k12 =>
if ((sr i4_2 i5_8) &&& (1 : Int32)) = (1 : Int32) then
(vp_in (i4_2 &&& ((sl (1 : Int32) i5_8) ^^^ (-1 : Int32))) 256 ∧ (k12 (I9 (o + 2605) (i4_2 &&& ((sl (1 : Int32) i5_8) ^^^ (-1 : Int32))).toNatClampNeg)))
else
(k12 (-1 : Int32))) (fun t11 =>
jn1 (fun k14 =>
if t11 = (-1 : Int32) then
(k14 I9)
else
(jn0 (fun k15 =>
if a2 = (-1 : Int32) then
(k15)
else
(pJ6_bitCount i4_2 I9 r (fun r16 =>
if r16 = (1 : Int32) then
(if i5_8 = a2 then
(k15)
else
(k14 I9))
else
(k15)))) (
vp_in i5_8 8 ∧ (nm (imn (99 : Int32) (t11 + (I9 (o + 185 + i5_8.toNatClampNeg) 0))) (fun v18 =>
jn1 (fun k20 =>
if (1 : Int32) ≤ v18 then
(vp_in i4_2 256 ∧ (k20 (imx (I9 (o + 2605) i4_2.toNatClampNeg) v18)))
else
(vp_in i4_2 256 ∧ (k20 (I9 (o + 2605) i4_2.toNatClampNeg)))) (fun t19 =>
vp_in i4_2 256 ∧ (nm (wI I9 (o + 2605) i4_2.toNatClampNeg t19) (fun I21 =>
k14 I21)))))))) (fun I13 =>
X10 (i5_8 + (1 : Int32)) I13)))) (0 : Int32) I7))))) (0 : Int32) I)
def pX0_bears (o : Nat) (a1 : Int32) (a2 : Int32) (I : MI) (r : Rh) (Q : Int32 → MI → Prop) : Prop :=
pX0_isIn a1 (1 : Int32) (99 : Int32) I r (fun r1 =>
if r1 = 0 then
(Q (-1 : Int32) I)
else
(pX0_isIn a2 (0 : Int32) (1 : Int32) I r (fun r2 =>
if r2 = 0 then
(Q (-1 : Int32) I)
else
(nm ((sl (1 : Int32) (I (o + 183) 1)) - (1 : Int32)) (fun v3 =>
pX0_laysBlows o a1 (-1 : Int32) I r (fun I4 =>
jn0 (fun k5 =>
if a2 = (1 : Int32) then
(k5)
else
(vp_in v3 256 ∧ (if (I4 (o + 2605) v3.toNatClampNeg) = (-1 : Int32) then
(k5)
else
(L2 (fun X8 i4_6 I7 =>
if (I7 (o + 183) 1) ≤ i4_6 then
(Q (-1 : Int32) I7)
else
(pX0_laysBlows o a1 i4_6 I7 r (fun I9 =>
vp_in v3 256 ∧ (if (I9 (o + 2605) v3.toNatClampNeg) = (-1 : Int32) then
(X8 (i4_6 + (1 : Int32)) I9)
else
(Q i4_6 I9))))) (0 : Int32) I4)))) (
vp_in v3 256 ∧ (Q (I4 (o + 2605) v3.toNatClampNeg) I4))))))))
def pX0_manyWithin (o : Nat) (a1 : Int32) (I : MI) (r : Rh) (Q : Int32 → Prop) : Prop :=
L3 (fun X4 i2_1 i3_2 i4_3 =>
if (99 : Int32) < i4_3 then
(Q i3_2)
else
(L3 (fun X8 i2_5 i3_6 i5_7 =>
if (I (o + 4) 1) ≤ i5_7 then
(X4 i2_5 i3_6 (i4_3 + (1 : Int32)))
else
(vp_in i5_7 24 ∧ ∃ b9, rP r (o + 5) i5_7.toNatClampNeg = some b9 ∧ (jn2 (fun k14 =>
if (I b9 3) = i4_3 then
(if i4_3 ≤ i2_5 then
(nm (i2_5 - i4_3) (fun v15 =>
k14 v15 (i3_6 + (1 : Int32))))
else
(k14 i2_5 i3_6))
else
(k14 i2_5 i3_6)) (fun v2_12 v3_13 =>
X8 v2_12 v3_13 (i5_7 + (1 : Int32)))))) i2_1 i3_2 (0 : Int32))) a1 (0 : Int32) (1 : Int32)
def pX0_carries (o : Nat) (a1 : Int32) (a2 : Int32) (I : MI) (r : Rh) (Q : Int32 → MI → Prop) : Prop :=
pX0_isIn a1 (1 : Int32) (400 : Int32) I r (fun r1 =>
if r1 = 0 then
(Q (-1 : Int32) I)
else
(pX0_isIn a2 (0 : Int32) (1 : Int32) I r (fun r2 =>
if r2 = 0 then
(Q (-1 : Int32) I)
else
(L2 (fun X5 i3_3 I4 =>
if (24 : Int32) < i3_3 then
(L2 (fun X8 i3_6 I7 =>
if (I7 (o + 4) 1) ≤ i3_6 then
(pX0_manyWithin o a1 I7 r (fun r9 =>
L2 (fun X12 i4_10 i5_11 =>
if a1 < i5_11 then
(if a2 = 0 then
(Q r9 I7)
else
(Q i4_10 I7))
else
(vp_in r9 25 ∧ (vp_in i5_11 401 ∧ (nm (irm (i4_10 + (I7 (o + 2607 + r9.toNatClampNeg) i5_11.toNatClampNeg)) (1000000007 : Int32)) (fun v14 =>
X12 v14 (i5_11 + (1 : Int32))))))) (0 : Int32) (0 : Int32)))
else
(vp_in i3_6 24 ∧ ∃ b15, rP r (o + 5) i3_6.toNatClampNeg = some b15 ∧ (nm (I7 b15 3) (fun v18 =>
nm (i3_6 + (1 : Int32)) (fun v19 =>
L2 (fun X22 i5_20 I21 =>
if i5_20 ≤ 0 then
(X8 (i3_6 + (1 : Int32)) I21)
else
(L2 (fun X25 i6_23 I24 =>
if i6_23 < v18 then
(X22 (i5_20 + (-1 : Int32)) I24)
else
(vp_in i5_20 25 ∧ (vp_in i5_20 25 ∧ (vp_in i6_23 401 ∧ (vp_in (i5_20 - (1 : Int32)) 25 ∧ (vp_in (i6_23 - v18) 401 ∧ (vp_in i6_23 401 ∧ (nm (wI I24 (o + 2607 + i5_20.toNatClampNeg) i6_23.toNatClampNeg (irm ((I24 (o + 2607 + i5_20.toNatClampNeg) i6_23.toNatClampNeg) + (I24 (o + 2607 + (i5_20 - (1 : Int32)).toNatClampNeg) (i6_23 - v18).toNatClampNeg)) (1000000007 : Int32))) (fun I29 =>
X25 (i6_23 + (-1 : Int32)) I29))))))))) a1 I21)) v19 I7))))) (0 : Int32) I4)
else
(L2 (fun X32 i4_30 I31 =>
if a1 < i4_30 then
(X5 (i3_3 + (1 : Int32)) I31)
else
(vp_in i3_3 25 ∧ (jn1 (fun k35 =>
jn0 (fun k36 =>
if i3_3 = 0 then
(if i4_30 = 0 then
(k35 (1 : Int32))
else
(k36))
else
(k36)) (
k35 (0 : Int32))) (fun t34 =>
vp_in i4_30 401 ∧ (nm (wI I31 (o + 2607 + i3_3.toNatClampNeg) i4_30.toNatClampNeg t34) (fun I37 =>
X32 (i4_30 + (1 : Int32)) I37)))))) (0 : Int32) I4)) (0 : Int32) I))))
def pX0_owes (o : Nat) (a1 : Int32) (a2 : Int32) (a3 : Int32) (I : MI) (r : Rh) (Q : Int32 → MI → Prop) : Prop :=
if a1 = (-1 : Int32) then
(pX4_ends (o + 193) 16 I r (fun r7 I8 =>
Q r7 I8))
else
(pX0_isIn a1 (0 : Int32) (11 : Int32) I r (fun r1 =>
jn0 (fun k2 =>
if r1 = 0 then
(k2)
else
(pX0_isIn a2 (0 : Int32) (11 : Int32) I r (fun r3 =>
if r3 = 0 then
(k2)
else
(if a1 = a2 then
(k2)
else
(pX0_isIn a3 (1 : Int32) (99 : Int32) I r (fun r4 =>
if r4 = 0 then
(k2)
else
(pX4_tells (o + 193) 16 a1 a2 a3 I r (fun r5 I6 =>
Q r5 I6)))))))) (
Q (-1 : Int32) I)))
def pX0_netOf (o : Nat) (a1 : Int32) (I : MI) (r : Rh) (Q : Int32 → Prop) : Prop :=
L2 (fun X3 i2_1 i3_2 =>
if (I (o + 193) 1) ≤ i3_2 then
(Q i2_1)
else
(vp_in i3_2 16 ∧ (nm (i2_1 + ((((sr a1 (I (o + 195 + i3_2.toNatClampNeg) 1)) &&& (1 : Int32)) - ((sr a1 (I (o + 195 + i3_2.toNatClampNeg) 0)) &&& (1 : Int32))) * (I (o + 195 + i3_2.toNatClampNeg) 2))) (fun v5 =>
X3 v5 (i3_2 + (1 : Int32)))))) (0 : Int32) (0 : Int32)
def pX0_fewest (o : Nat) (I : MI) (r : Rh) (Q : Int32 → MI → Prop) : Prop :=
L2 (fun X3 i1_1 i2_2 =>
if (12 : Int32) ≤ i2_2 then
(L2 (fun X6 i2_4 I5 =>
if i1_1 < i2_4 then
(pJ6_bitCount i1_1 I5 r (fun r7 =>
vp_in i1_1 4096 ∧ (Q (r7 - (I5 (o + 2632) i1_1.toNatClampNeg)) I5)))
else
(vp_in i2_4 4096 ∧ (nm (wI I5 (o + 2632) i2_4.toNatClampNeg (0 : Int32)) (fun I8 =>
jn1 (fun k10 =>
if i2_4 = 0 then
(k10 I8)
else
(if (i2_4 &&& (i1_1 ^^^ (-1 : Int32))) = 0 then
(L2 (fun X13 i3_11 I12 =>
if (12 : Int32) ≤ i3_11 then
(vp_in i2_4 4096 ∧ (pX0_netOf o i2_4 I12 r (fun r14 =>
jn1 (fun k16 =>
if r14 = 0 then
(k16 (1 : Int32))
else
(k16 (0 : Int32))) (fun t15 =>
vp_in i2_4 4096 ∧ (nm (wI I12 (o + 2632) i2_4.toNatClampNeg ((I12 (o + 2632) i2_4.toNatClampNeg) + t15)) (fun I17 =>
k10 I17))))))
else
(jn1 (fun k19 =>
if ((sr i2_4 i3_11) &&& (1 : Int32)) = (1 : Int32) then
(vp_in i2_4 4096 ∧ (vp_in (i2_4 &&& ((sl (1 : Int32) i3_11) ^^^ (-1 : Int32))) 4096 ∧ (vp_in i2_4 4096 ∧ (nm (wI I12 (o + 2632) i2_4.toNatClampNeg (imx (I12 (o + 2632) i2_4.toNatClampNeg) (I12 (o + 2632) (i2_4 &&& ((sl (1 : Int32) i3_11) ^^^ (-1 : Int32))).toNatClampNeg))) (fun I20 =>
k19 I20)))))
else
(k19 I12)) (fun I18 =>
X13 (i3_11 + (1 : Int32)) I18))) (0 : Int32) I8)
else
(k10 I8))) (fun I9 =>
X6 (i2_4 + (1 : Int32)) I9))))) (0 : Int32) I)
else
(pX0_netOf o (sl (1 : Int32) i2_2) I r (fun r21 =>
jn1 (fun k23 =>
if r21 = 0 then
(k23 (0 : Int32))
else
(k23 (sl (1 : Int32) i2_2))) (fun t22 =>
nm (i1_1 ||| t22) (fun v24 =>
X3 v24 (i2_2 + (1 : Int32))))))) (0 : Int32) (0 : Int32)
def pX0_net (o : Nat) (a1 : Int32) (I : MI) (r : Rh) (Q : Int32 → MI → Prop) : Prop :=
if a1 = (-1 : Int32) then
(pX0_fewest o I r (fun r3 I4 =>
Q r3 I4))
else
(pX0_isIn a1 (0 : Int32) (11 : Int32) I r (fun r1 =>
if r1 = 0 then
(Q (-10000 : Int32) I)
else
(pX0_netOf o (sl (1 : Int32) a1) I r (fun r2 =>
Q r2 I))))
def pX0_chain (o : Nat) (a1 : Int32) (a2 : Int32) (a3 : Int32) (a4 : Int32) (I : MI) (r : Rh) (Q : Int32 → Prop) : Prop :=
pX0_isIn a1 (1 : Int32) (9 : Int32) I r (fun r1 =>
if r1 = 0 then
(Q (-1 : Int32))
else
(pX0_isIn a2 (1 : Int32) (9999 : Int32) I r (fun r2 =>
if r2 = 0 then
(Q (-1 : Int32))
else
(jn0 (fun k3 =>
if a4 = 0 then
(pX0_isIn a3 (0 : Int32) (99 : Int32) I r (fun r4 =>
if r4 = 0 then
(Q (-1 : Int32))
else
(k3)))
else
(k3)) (
pX0_isIn a4 (0 : Int32) (1 : Int32) I r (fun r5 =>
if r5 = 0 then
(Q (-1 : Int32))
else
(L3 (fun X9 i5_6 i6_7 i7_8 =>
if (99 : Int32) < i7_8 then
(Q (-1 : Int32))
else
(jn0 (fun k10 =>
if a4 = 0 then
(if i7_8 = a3 then
(Q i5_6)
else
(k10))
else
(k10)) (
jn0 (fun k11 =>
if a4 = (1 : Int32) then
(if i5_6 = a2 then
(Q i7_8)
else
(k11))
else
(k11)) (
nm (imn (a1 * i6_7) (a2 - i5_6)) (fun v12 =>
nm (i5_6 + v12) (fun v13 =>
X9 v13 v12 (i7_8 + (1 : Int32)))))))) (1 : Int32) (1 : Int32) (0 : Int32))))))))
def pX0_has (o : Nat) (a1 : Int32) (a2 : Int32) (I : MI) (r : Rh) (Q : Int32 → MI → Prop) : Prop :=
pX0_isIn a1 (0 : Int32) (25 : Int32) I r (fun r1 =>
if r1 = 0 then
(Q (0 : Int32) I)
else
(pX0_isIn a2 (0 : Int32) (9 : Int32) I r (fun r2 =>
if r2 = 0 then
(Q (0 : Int32) I)
else
(vp_in a1 26 ∧ (nm (wI I (o + 31) a1.toNatClampNeg a2) (fun I3 =>
Q (1 : Int32) I3))))))
def pX0_spell (o : Nat) (a1 : Int32) (I : MI) (r : Rh) (Q : Int32 → MI → Prop) : Prop :=
if a1 = (-1 : Int32) then
(pX4_ends (o + 211) 8 I r (fun r4 I5 =>
Q r4 I5))
else
(pX0_isIn a1 (0 : Int32) (25 : Int32) I r (fun r1 =>
if r1 = 0 then
(Q (-1 : Int32) I)
else
(pX4_tells (o + 211) 8 a1 (0 : Int32) (0 : Int32) I r (fun r2 I3 =>
Q r2 I3))))
def pX0_inWord (o : Nat) (a1 : Int32) (a2 : Int32) (I : MI) (r : Rh) (Q : Int32 → Prop) : Prop :=
L2 (fun X3 i3_1 i4_2 =>
if a2 ≤ i4_2 then
(Q i3_1)
else
(vp_in i4_2 8 ∧ (jn1 (fun k6 =>
if (I (o + 213 + i4_2.toNatClampNeg) 0) = a1 then
(k6 (1 : Int32))
else
(k6 (0 : Int32))) (fun t5 =>
nm (i3_1 + t5) (fun v7 =>
X3 v7 (i4_2 + (1 : Int32))))))) (0 : Int32) (0 : Int32)
def pX0_lays (o : Nat) (a1 : Int32) (I : MI) (r : Rh) (Q : Int32 → Prop) : Prop :=
pX0_isIn a1 (0 : Int32) (1 : Int32) I r (fun r1 =>
if r1 = 0 then
(Q (-1 : Int32))
else
(nm (I (o + 211) 1) (fun v2 =>
jn1 (fun k4 =>
if v2 = 0 then
(k4 (0 : Int32))
else
(k4 (9 : Int32))) (fun t3 =>
L3 (fun X8 i3_5 i4_6 i5_7 =>
if v2 ≤ i5_7 then
(if a1 = 0 then
(Q i3_5)
else
(Q i4_6))
else
(vp_in i5_7 8 ∧ (nm (I (o + 213 + i5_7.toNatClampNeg) 0) (fun v10 =>
vp_in v10 26 ∧ (pX0_inWord o v10 v2 I r (fun r11 =>
r11 ≠ 0 ∧ (nm (imn i3_5 ((I (o + 31) v10.toNatClampNeg) / r11)) (fun v12 =>
pX0_inWord o v10 (i5_7 + (1 : Int32)) I r (fun r13 =>
r13 ≠ 0 ∧ (nm ((i4_6 * (i5_7 + (1 : Int32))) / r13) (fun v14 =>
X8 v12 v14 (i5_7 + (1 : Int32))))))))))))) t3 (1 : Int32) (0 : Int32)))))
def pX0_answer (o : Nat) (a1 : Int32) (a2 : Int32) (I : MI) (r : Rh) (Q : Int32 → MI → Prop) : Prop :=
if a1 = (-1 : Int32) then
(pX4_ends (o + 221) 12 I r (fun r6 I7 =>
Q r6 I7))
else
(pX0_isKind a1 I r (fun r1 =>
jn0 (fun k2 =>
if r1 = 0 then
(k2)
else
(pX0_isKind a2 I r (fun r3 =>
if r3 = 0 then
(k2)
else
(pX4_tells (o + 221) 12 a1 a2 (0 : Int32) I r (fun r4 I5 =>
Q r4 I5))))) (
Q (-1 : Int32) I)))
def pX0_answered (o : Nat) (a1 : Int32) (a2 : Int32) (I : MI) (r : Rh) (Q : Int32 → Prop) : Prop :=
L2 (fun X3 i3_1 i4_2 =>
if (I (o + 221) 1) ≤ i4_2 then
(Q i3_1)
else
(vp_in i4_2 12 ∧ (jn1 (fun k6 =>
jn0 (fun k7 =>
if (I (o + 223 + i4_2.toNatClampNeg) 0) = a1 then
(vp_in i4_2 12 ∧ (if (I (o + 223 + i4_2.toNatClampNeg) 1) = a2 then
(k6 (1 : Int32))
else
(k7)))
else
(k7)) (
k6 (0 : Int32))) (fun t5 =>
nm (i3_1 + t5) (fun v9 =>
X3 v9 (i4_2 + (1 : Int32))))))) (0 : Int32) (0 : Int32)
def pX0_likelyOf (o : Nat) (a1 : Int32) (I : MI) (r : Rh) (Q : Int32 → Prop) : Prop :=
L2 (fun X3 i2_1 i3_2 =>
if (7 : Int32) ≤ i3_2 then
(pX0_answered o a1 i2_1 I r (fun r4 =>
if r4 = 0 then
(Q (-1 : Int32))
else
(Q i2_1)))
else
(pX0_answered o a1 i3_2 I r (fun r5 =>
pX0_answered o a1 i2_1 I r (fun r6 =>
jn1 (fun k8 =>
if r5 ≤ r6 then
(k8 i2_1)
else
(k8 i3_2)) (fun t7 =>
X3 t7 (i3_2 + (1 : Int32))))))) (0 : Int32) (1 : Int32)
def pX0_likely (o : Nat) (a1 : Int32) (a2 : Int32) (I : MI) (r : Rh) (Q : Int32 → Prop) : Prop :=
pX0_isKind a1 I r (fun r1 =>
if r1 = 0 then
(Q (-1 : Int32))
else
(pX0_isIn a2 (0 : Int32) (1 : Int32) I r (fun r2 =>
if r2 = 0 then
(Q (-1 : Int32))
else
(if a2 = 0 then
(pX0_likelyOf o a1 I r (fun r11 =>
Q r11))
else
(pX0_likelyOf o a1 I r (fun r3 =>
if r3 = (-1 : Int32) then
(Q (0 : Int32))
else
(L3 (fun X7 i3_4 i4_5 i5_6 =>
jn0 (fun k8 =>
if i5_6 = (-1 : Int32) then
(k8)
else
(if ((sr i3_4 i5_6) &&& (1 : Int32)) = 0 then
(nm (i3_4 ||| (sl (1 : Int32) i5_6)) (fun v9 =>
pX0_likelyOf o i5_6 I r (fun r10 =>
X7 v9 (i4_5 + (1 : Int32)) r10)))
else
(k8))) (
if i5_6 = (-1 : Int32) then
(Q (-1 : Int32))
else
(Q i4_5))) (0 : Int32) (0 : Int32) a1)))))))
def pX0_face (o : Nat) (a1 : Int32) (a2 : Int32) (I : MI) (r : Rh) (Q : Int32 → MI → Prop) : Prop :=
if a1 = (-1 : Int32) then
(pX4_ends (o + 235) 8 I r (fun r6 I7 =>
Q r6 I7))
else
(pX0_isIn a1 (0 : Int32) (63 : Int32) I r (fun r1 =>
jn0 (fun k2 =>
if r1 = 0 then
(k2)
else
(pX0_isIn a2 (-2 : Int32) (2 : Int32) I r (fun r3 =>
if r3 = 0 then
(k2)
else
(pX4_tells (o + 235) 8 a1 a2 (0 : Int32) I r (fun r4 I5 =>
Q r4 I5))))) (
Q (-1 : Int32) I)))
def pX0_change (a1 : Int32) (a2 : Int32) (I : MI) (r : Rh) (Q : Int32 → Prop) : Prop :=
Q (((sr a1 ((2 : Int32) * a2)) &&& (3 : Int32)) - (1 : Int32))
def pX0_allows (o : Nat) (a1 : Int32) (I : MI) (r : Rh) (Q : Int32 → Prop) : Prop :=
L1 (fun X2 i2_1 =>
if (I (o + 235) 1) ≤ i2_1 then
(Q (1 : Int32))
else
(L2 (fun X5 i3_3 i4_4 =>
if (6 : Int32) ≤ i4_4 then
(vp_in i2_1 8 ∧ (if i3_3 = (I (o + 237 + i2_1.toNatClampNeg) 1) then
(X2 (i2_1 + (1 : Int32)))
else
(Q (0 : Int32))))
else
(vp_in i2_1 8 ∧ (jn1 (fun k9 =>
if ((sr (I (o + 237 + i2_1.toNatClampNeg) 0) i4_4) &&& (1 : Int32)) = (1 : Int32) then
(pX0_change a1 i4_4 I r (fun r10 =>
k9 r10))
else
(k9 (0 : Int32))) (fun t8 =>
nm (i3_3 + t8) (fun v11 =>
X5 v11 (i4_4 + (1 : Int32))))))) (0 : Int32) (0 : Int32))) (0 : Int32)
def pX0_kinds (a1 : Int32) (I : MI) (r : Rh) (Q : Int32 → Prop) : Prop :=
if 0 ≤ a1 then
(if a1 = 0 then
(Q (2 : Int32))
else
(Q (1 : Int32)))
else
(Q (3 : Int32))
def pX0_faces (o : Nat) (a1 : Int32) (I : MI) (r : Rh) (Q : Int32 → MI → Prop) : Prop :=
pX0_isIn a1 (0 : Int32) (1 : Int32) I r (fun r1 =>
if r1 = 0 then
(Q (-1 : Int32) I)
else
(L2 (fun X4 i3_2 I3 =>
if (6 : Int32) ≤ i3_2 then
(L3 (fun X8 i2_5 i3_6 I7 =>
if (4096 : Int32) ≤ i3_6 then
(L2 (fun X11 i3_9 i4_10 =>
if (6 : Int32) ≤ i4_10 then
(if a1 = 0 then
(Q (irm i2_5 (1000000007 : Int32)) I7)
else
(Q i3_9 I7))
else
(vp_in i4_10 6 ∧ (pJ6_bitCount (I7 (o + 2633) i4_10.toNatClampNeg) I7 r (fun r12 =>
jn1 (fun k14 =>
if r12 = (1 : Int32) then
(k14 (sl (1 : Int32) i4_10))
else
(k14 (0 : Int32))) (fun t13 =>
nm (i3_9 ||| t13) (fun v15 =>
X11 v15 (i4_10 + (1 : Int32)))))))) (0 : Int32) (0 : Int32))
else
(pX0_allows o i3_6 I7 r (fun r16 =>
jn2 (fun k19 =>
if r16 = 0 then
(k19 i2_5 I7)
else
(L3 (fun X23 i4_20 i5_21 I22 =>
if (6 : Int32) ≤ i5_21 then
(nm (i2_5 + i4_20) (fun v24 =>
k19 v24 I22))
else
(pX0_change i3_6 i5_21 I22 r (fun r25 =>
pX0_kinds r25 I22 r (fun r26 =>
nm (i4_20 * r26) (fun v27 =>
vp_in i5_21 6 ∧ (pX0_change i3_6 i5_21 I22 r (fun r28 =>
vp_in i5_21 6 ∧ (nm (wI I22 (o + 2633) i5_21.toNatClampNeg ((I22 (o + 2633) i5_21.toNatClampNeg) ||| (sl (1 : Int32) (r28 + (1 : Int32))))) (fun I29 =>
X23 v27 (i5_21 + (1 : Int32)) I29))))))))) (1 : Int32) (0 : Int32) I7)) (fun v2_17 I18 =>
X8 v2_17 (i3_6 + (1 : Int32)) I18)))) (0 : Int32) (0 : Int32) I3)
else
(vp_in i3_2 6 ∧ (nm (wI I3 (o + 2633) i3_2.toNatClampNeg (0 : Int32)) (fun I30 =>
X4 (i3_2 + (1 : Int32)) I30)))) (0 : Int32) I))
def pX0_joy (o : Nat) (a1 : Int32) (I : MI) (r : Rh) (Q : Int32 → Prop) : Prop :=
pX0_isIn a1 (0 : Int32) (1 : Int32) I r (fun r1 =>
jn0 (fun k2 =>
if r1 = 0 then
(k2)
else
(if (I (o + 2) 14) = 0 then
(k2)
else
(L3 (fun X6 i2_3 i3_4 i4_5 =>
if (I (o + 2) 14) ≤ i4_5 then
(if a1 = 0 then
(Q i2_3)
else
(Q i3_4))
else
(L4 (fun X11 i2_7 i3_8 i5_9 i6_10 =>
if (I (o + 2) 14) ≤ i6_10 then
(X6 i2_7 i3_8 (i4_5 + (1 : Int32)))
else
(pX0_door_2 o i6_10 I r (fun b12 =>
rK r b12 = 5 ∧ (nm (i5_9 + (I b12 0)) (fun v14 =>
jn1 (fun k16 =>
if v14 ≤ i2_7 then
(k16 i3_8)
else
(k16 i4_5)) (fun t15 =>
nm (imx i2_7 v14) (fun v17 =>
X11 v17 t15 v14 (i6_10 + (1 : Int32))))))))) i2_3 i3_4 (0 : Int32) i4_5)) (-100000000 : Int32) (0 : Int32) (0 : Int32)))) (
Q (-100 : Int32)))
def pX0_game (o : Nat) (a1 : Int32) (I : MI) (r : Rh) (Q : Int32 → Prop) : Prop :=
pX0_isIn a1 (0 : Int32) (1 : Int32) I r (fun r1 =>
if r1 = 0 then
(Q (-1 : Int32))
else
(L2 (fun X4 i2_2 i3_3 =>
if (I (o + 2) 14) ≤ i3_3 then
(L1 (fun X6 i3_5 =>
if (I (o + 2) 14) ≤ i3_5 then
(Q (-1 : Int32))
else
(pX2_forDoor (o + 4) i3_5 I r (fun r7 =>
L1 (fun X9 i5_8 =>
jn0 (fun k10 =>
if (2 : Int32) < i5_8 then
(k10)
else
(if r7 < i5_8 then
(k10)
else
(if (i2_2 ^^^ (irm r7 (3 : Int32))) = (irm (r7 - i5_8) (3 : Int32)) then
(if a1 = 0 then
(Q i3_5)
else
(Q i5_8))
else
(X9 (i5_8 + (1 : Int32)))))) (
X6 (i3_5 + (1 : Int32)))) (1 : Int32)))) (0 : Int32))
else
(pX2_forDoor (o + 4) i3_3 I r (fun r11 =>
nm (i2_2 ^^^ (irm r11 (3 : Int32))) (fun v12 =>
X4 v12 (i3_3 + (1 : Int32)))))) (0 : Int32) (0 : Int32)))
def pX4_takes (o : Nat) (n_o : Nat) (a1 : Nat) (n_a1 : Nat) (I : MI) (r : Rh) (Q : MI → Prop) : Prop :=
nm (wI I o 1 (I a1 1)) (fun I1 =>
L2 (fun X4 i2_2 I3 =>
if (I3 o 1) ≤ i2_2 then
(Q I3)
else
(L2 (fun X7 i3_5 I6 =>
if (3 : Int32) ≤ i3_5 then
(X4 (i2_2 + (1 : Int32)) I6)
else
(vp_in i2_2 n_o ∧ (vp_in i2_2 n_a1 ∧ (vp_in i3_5 3 ∧ (vp_in i3_5 3 ∧ (nm (wI I6 (o + 2 + i2_2.toNatClampNeg) i3_5.toNatClampNeg (I6 (a1 + 2 + i2_2.toNatClampNeg) i3_5.toNatClampNeg)) (fun I10 =>
X7 (i3_5 + (1 : Int32)) I10))))))) (0 : Int32) I3)) (0 : Int32) I1)
def pX1_takes (o : Nat) (a1 : Nat) (I : MI) (r : Rh) (Q : MI → Rh → Prop) : Prop :=
pX1_thinks o a1 I r (fun I1 s2 =>
WkS o s2 ∧ (WkS a1 s2 ∧ (L2 (fun X7 i2_5 I6 =>
if (I6 o 24) ≤ i2_5 then
(L2 (fun X10 i2_8 I9 =>
if (Int32.ofNat 26) ≤ i2_8 then
(pX4_takes (o + 181) 8 (a1 + 181) 8 I9 s2 (fun I11 =>
pX4_takes (o + 191) 16 (a1 + 191) 16 I11 s2 (fun I12 =>
pX4_takes (o + 209) 8 (a1 + 209) 8 I12 s2 (fun I13 =>
pX4_takes (o + 219) 12 (a1 + 219) 12 I13 s2 (fun I14 =>
pX4_takes (o + 233) 8 (a1 + 233) 8 I14 s2 (fun I15 =>
Q I15 s2))))))
else
(vp_in i2_8 26 ∧ (vp_in i2_8 26 ∧ (nm (wI I9 (o + 29) i2_8.toNatClampNeg (I9 (a1 + 29) i2_8.toNatClampNeg)) (fun I16 =>
X10 (i2_8 + (1 : Int32)) I16))))) (0 : Int32) I6)
else
(L2 (fun X19 i3_17 I18 =>
if (4 : Int32) ≤ i3_17 then
(X7 (i2_5 + (1 : Int32)) I18)
else
(vp_in i2_5 150 ∧ (vp_in i2_5 150 ∧ (vp_in i3_17 4 ∧ (vp_in i3_17 4 ∧ (nm (wI I18 (o + 31 + i2_5.toNatClampNeg) i3_17.toNatClampNeg (I18 (a1 + 31 + i2_5.toNatClampNeg) i3_17.toNatClampNeg)) (fun I22 =>
X19 (i3_17 + (1 : Int32)) I22))))))) (0 : Int32) I6)) (0 : Int32) I1)))
def pX0_image (o : Nat) (a1 : Int32) (I : MI) (r : Rh) (Q : Int32 → MI → Rh → Prop) : Prop :=
jn0 (fun k1 =>
if a1 = 0 then
(if (I o 9) = 0 then
(Q (0 : Int32) I r)
else
(k1))
else
(k1)) (
jn2 (fun k4 =>
if a1 = 0 then
(pX1_takes (o + 2) (o + 261) I r (fun I6 s7 =>
KpS o s7 ∧ (k4 I6 s7)))
else
(pX1_takes (o + 261) (o + 2) I r (fun I9 s10 =>
KpS o s10 ∧ (k4 I9 s10)))) (fun I2 r3 =>
KpS o r3 ∧ (jn1 (fun k13 =>
if a1 = 0 then
(pX0_forgets o I2 r3 (fun r14 I15 =>
k13 I15))
else
(k13 I2)) (fun I12 =>
nm (wI I12 o 9 (1 : Int32)) (fun I16 =>
Q (1 : Int32) I16 r3)))))
def pX0_look (o : Nat) (a1 : Int32) (I : MI) (r : Rh) (Q : Int32 → Prop) : Prop :=
if a1 = (0 : Int32) then
(Q (I (o + 2) 14))
else
(if a1 = (1 : Int32) then
(Q (I (o + 4) 1))
else
(if a1 = (2 : Int32) then
(Q (I (o + 2) 15))
else
(if a1 = (3 : Int32) then
(Q (I (o + 2) 16))
else
(if a1 = (4 : Int32) then
(Q (I (o + 2) 17))
else
(if a1 = (5 : Int32) then
(Q (I (o + 2) 18))
else
(if a1 = (6 : Int32) then
(Q (I (o + 2) 19))
else
(if a1 = (7 : Int32) then
(Q (I (o + 2) 20))
else
(if a1 = (8 : Int32) then
(Q (I (o + 2) 21))
else
(if a1 = (9 : Int32) then
(Q (I (o + 2) 24))
else
(if a1 = (10 : Int32) then
(Q (I (o + 2) 23))
else
(if a1 = (11 : Int32) then
(∃ b13, rP r (o + 2) 10 = some b13 ∧ (rK r b13 = 9 ∧ (pJ2_size b13 I r (fun r16 =>
Q r16))))
else
(if a1 = (12 : Int32) then
(∃ b18, rP r (o + 2) 11 = some b18 ∧ (rK r b18 = 9 ∧ (pJ2_size b18 I r (fun r21 =>
Q r21))))
else
(if a1 = (13 : Int32) then
(Q (I (o + 2) 25))
else
(if a1 = (14 : Int32) then
(Q (I (o + 2) 26))
else
(if a1 = (15 : Int32) then
(Q (I o 8))
else
(Q (-1 : Int32)))))))))))))))))
def pX1_fact (o : Nat) (a1 : Int32) (I : MI) (r : Rh) (Q : Int32 → Prop) : Prop :=
∃ b1, rP r o 28 = some b1 ∧ (rK r b1 = 3 ∧ (vp_in (I b1 1) 12 ∧ (if a1 = (0 : Int32) then
(∃ b6, rP r o 28 = some b6 ∧ (rK r b6 = 3 ∧ (Q (I b6 2))))
else
(if a1 = (1 : Int32) then
(∃ b10, rP r o 28 = some b10 ∧ (rK r b10 = 3 ∧ (Q (I b10 3))))
else
(if a1 = (2 : Int32) then
(∃ b14, rP r o 28 = some b14 ∧ (rK r b14 = 3 ∧ (Q (I b14 4))))
else
(if a1 = (3 : Int32) then
(Q (I (o + 247 + (I b1 1).toNatClampNeg) 0))
else
(if a1 = (4 : Int32) then
(Q (I (o + 247 + (I b1 1).toNatClampNeg) 1))
else
(if a1 = (5 : Int32) then
(Q (I (o + 247 + (I b1 1).toNatClampNeg) 2))
else
(if a1 = (6 : Int32) then
(Q (I o 15))
else
(if a1 = (7 : Int32) then
(Q (I o 16))
else
(if a1 = (8 : Int32) then
(Q (I o 19))
else
(if a1 = (9 : Int32) then
(Q (I o 20))
else
(Q (I o 21))))))))))))))
