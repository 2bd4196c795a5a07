/-! constructors: programs and walks, printed by a program out of the code -/
set_option maxRecDepth 100000
def pX3_init (o : Nat) (I : MI) (r : Rh) (Q : MI → Prop) : Prop :=
Q I
def pX5_init (o : Nat) (I : MI) (r : Rh) (Q : MI → Prop) : Prop :=
Q I
def pX9_init (o : Nat) (I : MI) (r : Rh) (Q : MI → Prop) : Prop :=
Q I
def pJ0_init (o : Nat) (I : MI) (r : Rh) (Q : MI → Prop) : Prop :=
Q I
def pJ1_init (o : Nat) (I : MI) (r : Rh) (Q : MI → Prop) : Prop :=
pJ0_init o I r (fun I1 =>
nm (wI I1 o 0 (0 : Int32)) (fun I2 =>
Q I2))
def pJ2_init (e0 : Nat) (o : Nat) (I : MI) (r : Rh) (Q : MI → Rh → Prop) : Prop :=
pJ1_init o I r (fun I1 =>
nm (wP r o 1 (some (e0))) (fun r2 =>
rK r2 o = 9 ∧ (Q I1 r2)))
def pX10_init (o : Nat) (a1 : Int32) (I : MI) (r : Rh) (Q : MI → Rh → Prop) : Prop :=
pX9_init o I r (fun I1 =>
nm (wI I1 o 0 a1) (fun I2 =>
Q I2 r))
def pX11_init (o : Nat) (a1 : Int32) (I : MI) (r : Rh) (Q : MI → Rh → Prop) : Prop :=
pX9_init o I r (fun I1 =>
nm (wI I1 o 0 a1) (fun I2 =>
Q I2 r))
def pX12_init (o : Nat) (a1 : Option Nat) (a2 : Int32) (a3 : Option Nat) (I : MI) (r : Rh) (Q : MI → Rh → Prop) : Prop :=
pX9_init o I r (fun I1 =>
nm (wP r o 0 a1) (fun r2 =>
rK r2 o = 12 ∧ (nm (wI I1 o 2 a2) (fun I4 =>
nm (wP r2 o 1 a3) (fun r5 =>
rK r5 o = 12 ∧ (Q I4 r5))))))
def pX13_init (o : Nat) (a1 : Option Nat) (I : MI) (r : Rh) (Q : MI → Rh → Prop) : Prop :=
pX9_init o I r (fun I1 =>
nm (wP r o 0 a1) (fun r2 =>
rK r2 o = 13 ∧ (Q I1 r2)))
def pX14_init (o : Nat) (a1 : Int32) (a2 : Option Nat) (a3 : Option Nat) (I : MI) (r : Rh) (Q : MI → Rh → Prop) : Prop :=
nm (wI I o 0 a1) (fun I1 =>
nm (wP r o 1 a2) (fun r2 =>
rK r2 o = 14 ∧ (nm (wP r2 o 2 a3) (fun r4 =>
rK r4 o = 14 ∧ (Q I1 r4)))))
def pX15_init (o : Nat) (a1 : Int32) (a2 : Int32) (a3 : Int32) (a4 : Int32) (I : MI) (r : Rh) (Q : MI → Rh → Prop) : Prop :=
nm (wI I o 0 a1) (fun I1 =>
nm (wI I1 o 1 a2) (fun I2 =>
nm (wI I2 o 2 a3) (fun I3 =>
nm (wI I3 o 3 a4) (fun I4 =>
Q I4 r))))
def pX2_init (o : Nat) (cN cS : Nat) (I : MI) (r : Rh) (Q : MI → Rh → Prop) : Prop :=
Wt r r cN cS ∧ ((rN r + 1 ≤ cN ∧ rS r + 24 ≤ cS) ∧ (nm (aI I (rN r)) (fun I1 =>
nm (aR r (50 + 3) 24 24) (fun r2 =>
Wt r r2 cN cS ∧ (rK r2 o = 2 ∧ (rK r2 (rN r) = 53 ∧ rL r2 (rN r) = 24 ∧ (nm (wP r2 o 0 (some (rN r))) (fun r7 =>
Wt r r7 cN cS ∧ (rK r7 o = 2 ∧ (L3 (fun X13 i1_10 I11 r12 =>
Wt r r12 cN cS ∧ (rK r12 o = 2 ∧ (if (24 : Int32) ≤ i1_10 then
(rN r12 = cN ∧ rS r12 = cS ∧ Q I11 r12)
else
(∃ b16, rP r12 o 0 = some b16 ∧ (rK r12 b16 = 53 ∧ ((rN r12 + 1 ≤ cN ∧ rS r12 + 5 ≤ cS) ∧ (nm (aI I11 (rN r12)) (fun I19 =>
nm (aR r12 3 0 5) (fun r20 =>
Wt r r20 cN cS ∧ (rK r20 o = 2 ∧ (rK r20 (rN r12) = 3 ∧ (rK r20 b16 = 53 ∧ rL r20 b16 = (rL r12 b16) ∧ (pX3_init (rN r12) I19 r20 (fun I26 =>
vp_in i1_10 (rL r12 b16) ∧ (nm (wP r20 b16 i1_10.toNatClampNeg (some (rN r12))) (fun r27 =>
Wt r r27 cN cS ∧ (rK r27 o = 2 ∧ (X13 (i1_10 + (1 : Int32)) I26 r27)))))))))))))))))) (0 : Int32) I1 r7))))))))))
def pX4_init (o : Nat) (a1 : Int32) (cN cS : Nat) (I : MI) (r : Rh) (Q : MI → Rh → Prop) : Prop :=
Wt r r cN cS ∧ ((¬ a1 < 0 ∧ a1.toNatClampNeg * 4 ≤ 536870912) ∧ ((rN r + (1 + a1.toNatClampNeg) ≤ cN ∧ rS r + (a1.toNatClampNeg + a1.toNatClampNeg * 3) ≤ cS) ∧ (nm (mI I r a1.toNatClampNeg) (fun I2 =>
nm (mR r a1.toNatClampNeg 3) (fun r3 =>
Wt r r3 cN cS ∧ (rK r3 o = 4 ∧ (rK r3 (rN r) = 55 ∧ rL r3 (rN r) = a1.toNatClampNeg ∧ (nm (wP r3 o 0 (some (rN r))) (fun r8 =>
Wt r r8 cN cS ∧ (rK r8 o = 4 ∧ (rN r8 = cN ∧ rS r8 = cS ∧ Q I2 r8)))))))))))
def pX1_init (e0 : Nat) (o : Nat) (cN cS : Nat) (I : MI) (r : Rh) (Q : MI → Rh → Prop) : Prop :=
Wt r r cN cS ∧ ((rN r + 1 ≤ cN ∧ rS r + 12 ≤ cS) ∧ (nm (aI I (rN r)) (fun I1 =>
nm (aR r (50 + 2) 12 12) (fun r2 =>
Wt r r2 cN cS ∧ (rK r2 o = 1 ∧ (rK r2 (rN r) = 52 ∧ rL r2 (rN r) = 12 ∧ (nm (wP r2 o 0 (some (rN r))) (fun r7 =>
Wt r r7 cN cS ∧ (rK r7 o = 1 ∧ ((rN r7 + 1 ≤ cN ∧ rS r7 + 2 ≤ cS) ∧ (nm (aI I1 (rN r7)) (fun I10 =>
nm (aR r7 2 0 2) (fun r11 =>
Wt r r11 cN cS ∧ (rK r11 o = 1 ∧ (rK r11 (rN r7) = 2 ∧ (∃ c17 c18, (rN r11 ≤ c17 ∧ c17 ≤ cN ∧ rS r11 ≤ c18 ∧ c18 ≤ cS) ∧ pX2_init (rN r7) c17 c18 I10 r11 (fun I15 s16 =>
Wt r s16 cN cS ∧ (rK s16 o = 1 ∧ (rK s16 (rN r7) = 2 ∧ (nm (wP s16 o 1 (some (rN r7))) (fun r22 =>
Wt r r22 cN cS ∧ (rK r22 o = 1 ∧ ((rN r22 + 1 ≤ cN ∧ rS r22 + 7 ≤ cS) ∧ (nm (aI I15 (rN r22)) (fun I25 =>
nm (aR r22 50 7 7) (fun r26 =>
Wt r r26 cN cS ∧ (rK r26 o = 1 ∧ (rK r26 (rN r22) = 50 ∧ rL r26 (rN r22) = 7 ∧ (nm (wP r26 o 2 (some (rN r22))) (fun r31 =>
Wt r r31 cN cS ∧ (rK r31 o = 1 ∧ ((rN r31 + 1 ≤ cN ∧ rS r31 + 26 ≤ cS) ∧ (nm (aI I25 (rN r31)) (fun I34 =>
nm (aR r31 50 26 26) (fun r35 =>
Wt r r35 cN cS ∧ (rK r35 o = 1 ∧ (rK r35 (rN r31) = 50 ∧ rL r35 (rN r31) = 26 ∧ (nm (wP r35 o 3 (some (rN r31))) (fun r40 =>
Wt r r40 cN cS ∧ (rK r40 o = 1 ∧ ((rN r40 + (1 + 150) ≤ cN ∧ rS r40 + (150 + 150 * 4) ≤ cS) ∧ (nm (mI I34 r40 150) (fun I43 =>
nm (mR r40 150 4) (fun r44 =>
Wt r r44 cN cS ∧ (rK r44 o = 1 ∧ (rK r44 (rN r40) = 55 ∧ rL r44 (rN r40) = 150 ∧ (nm (wP r44 o 4 (some (rN r40))) (fun r49 =>
Wt r r49 cN cS ∧ (rK r49 o = 1 ∧ ((rN r49 + 1 ≤ cN ∧ rS r49 + 2 ≤ cS) ∧ (nm (aI I43 (rN r49)) (fun I52 =>
nm (aR r49 4 0 2) (fun r53 =>
Wt r r53 cN cS ∧ (rK r53 o = 1 ∧ (rK r53 (rN r49) = 4 ∧ (∃ c59 c60, (rN r53 ≤ c59 ∧ c59 ≤ cN ∧ rS r53 ≤ c60 ∧ c60 ≤ cS) ∧ pX4_init (rN r49) (8 : Int32) c59 c60 I52 r53 (fun I57 s58 =>
Wt r s58 cN cS ∧ (rK s58 o = 1 ∧ (rK s58 (rN r49) = 4 ∧ (nm (wP s58 o 5 (some (rN r49))) (fun r64 =>
Wt r r64 cN cS ∧ (rK r64 o = 1 ∧ ((rN r64 + 1 ≤ cN ∧ rS r64 + 2 ≤ cS) ∧ (nm (aI I57 (rN r64)) (fun I67 =>
nm (aR r64 4 0 2) (fun r68 =>
Wt r r68 cN cS ∧ (rK r68 o = 1 ∧ (rK r68 (rN r64) = 4 ∧ (∃ c74 c75, (rN r68 ≤ c74 ∧ c74 ≤ cN ∧ rS r68 ≤ c75 ∧ c75 ≤ cS) ∧ pX4_init (rN r64) (16 : Int32) c74 c75 I67 r68 (fun I72 s73 =>
Wt r s73 cN cS ∧ (rK s73 o = 1 ∧ (rK s73 (rN r64) = 4 ∧ (nm (wP s73 o 6 (some (rN r64))) (fun r79 =>
Wt r r79 cN cS ∧ (rK r79 o = 1 ∧ ((rN r79 + 1 ≤ cN ∧ rS r79 + 2 ≤ cS) ∧ (nm (aI I72 (rN r79)) (fun I82 =>
nm (aR r79 4 0 2) (fun r83 =>
Wt r r83 cN cS ∧ (rK r83 o = 1 ∧ (rK r83 (rN r79) = 4 ∧ (∃ c89 c90, (rN r83 ≤ c89 ∧ c89 ≤ cN ∧ rS r83 ≤ c90 ∧ c90 ≤ cS) ∧ pX4_init (rN r79) (8 : Int32) c89 c90 I82 r83 (fun I87 s88 =>
Wt r s88 cN cS ∧ (rK s88 o = 1 ∧ (rK s88 (rN r79) = 4 ∧ (nm (wP s88 o 7 (some (rN r79))) (fun r94 =>
Wt r r94 cN cS ∧ (rK r94 o = 1 ∧ ((rN r94 + 1 ≤ cN ∧ rS r94 + 2 ≤ cS) ∧ (nm (aI I87 (rN r94)) (fun I97 =>
nm (aR r94 4 0 2) (fun r98 =>
Wt r r98 cN cS ∧ (rK r98 o = 1 ∧ (rK r98 (rN r94) = 4 ∧ (∃ c104 c105, (rN r98 ≤ c104 ∧ c104 ≤ cN ∧ rS r98 ≤ c105 ∧ c105 ≤ cS) ∧ pX4_init (rN r94) (12 : Int32) c104 c105 I97 r98 (fun I102 s103 =>
Wt r s103 cN cS ∧ (rK s103 o = 1 ∧ (rK s103 (rN r94) = 4 ∧ (nm (wP s103 o 8 (some (rN r94))) (fun r109 =>
Wt r r109 cN cS ∧ (rK r109 o = 1 ∧ ((rN r109 + 1 ≤ cN ∧ rS r109 + 2 ≤ cS) ∧ (nm (aI I102 (rN r109)) (fun I112 =>
nm (aR r109 4 0 2) (fun r113 =>
Wt r r113 cN cS ∧ (rK r113 o = 1 ∧ (rK r113 (rN r109) = 4 ∧ (∃ c119 c120, (rN r113 ≤ c119 ∧ c119 ≤ cN ∧ rS r113 ≤ c120 ∧ c120 ≤ cS) ∧ pX4_init (rN r109) (8 : Int32) c119 c120 I112 r113 (fun I117 s118 =>
Wt r s118 cN cS ∧ (rK s118 o = 1 ∧ (rK s118 (rN r109) = 4 ∧ (nm (wP s118 o 9 (some (rN r109))) (fun r124 =>
Wt r r124 cN cS ∧ (rK r124 o = 1 ∧ ((rN r124 + 1 ≤ cN ∧ rS r124 + 3 ≤ cS) ∧ (nm (aI I117 (rN r124)) (fun I127 =>
nm (aR r124 9 0 3) (fun r128 =>
Wt r r128 cN cS ∧ (rK r128 o = 1 ∧ (rK r128 (rN r124) = 9 ∧ (pJ2_init e0 (rN r124) I127 r128 (fun I132 s133 =>
(rN s133 = rN r128 ∧ rS s133 = rS r128) ∧ (Wt r s133 cN cS ∧ (rK s133 o = 1 ∧ (rK s133 (rN r124) = 9 ∧ (nm (wP s133 o 10 (some (rN r124))) (fun r137 =>
Wt r r137 cN cS ∧ (rK r137 o = 1 ∧ ((rN r137 + 1 ≤ cN ∧ rS r137 + 3 ≤ cS) ∧ (nm (aI I132 (rN r137)) (fun I140 =>
nm (aR r137 9 0 3) (fun r141 =>
Wt r r141 cN cS ∧ (rK r141 o = 1 ∧ (rK r141 (rN r137) = 9 ∧ (pJ2_init e0 (rN r137) I140 r141 (fun I145 s146 =>
(rN s146 = rN r141 ∧ rS s146 = rS r141) ∧ (Wt r s146 cN cS ∧ (rK s146 o = 1 ∧ (rK s146 (rN r137) = 9 ∧ (nm (wP s146 o 11 (some (rN r137))) (fun r150 =>
Wt r r150 cN cS ∧ (rK r150 o = 1 ∧ ((rN r150 + 1 ≤ cN ∧ rS r150 + 16 ≤ cS) ∧ (nm (aI I145 (rN r150)) (fun I153 =>
nm (aR r150 50 16 16) (fun r154 =>
Wt r r154 cN cS ∧ (rK r154 o = 1 ∧ (rK r154 (rN r150) = 50 ∧ rL r154 (rN r150) = 16 ∧ (nm (wP r154 o 12 (some (rN r150))) (fun r159 =>
Wt r r159 cN cS ∧ (rK r159 o = 1 ∧ ((rN r159 + 1 ≤ cN ∧ rS r159 + 144 ≤ cS) ∧ (nm (aI I153 (rN r159)) (fun I162 =>
nm (aR r159 50 144 144) (fun r163 =>
Wt r r163 cN cS ∧ (rK r163 o = 1 ∧ (rK r163 (rN r159) = 50 ∧ rL r163 (rN r159) = 144 ∧ (nm (wP r163 o 13 (some (rN r159))) (fun r168 =>
Wt r r168 cN cS ∧ (rK r168 o = 1 ∧ (nm (wI I162 o 15 (99 : Int32)) (fun I171 =>
L3 (fun X175 i1_172 I173 r174 =>
Wt r r174 cN cS ∧ (rK r174 o = 1 ∧ (if (12 : Int32) ≤ i1_172 then
(L2 (fun X180 i1_178 I179 =>
∃ b181, rP r174 o 13 = some b181 ∧ (rK r174 b181 = 50 ∧ (if (Int32.ofNat (rL r174 b181)) ≤ i1_178 then
(rN r174 = cN ∧ rS r174 = cS ∧ Q I179 r174)
else
(∃ b184, rP r174 o 13 = some b184 ∧ (rK r174 b184 = 50 ∧ (vp_in i1_178 (rL r174 b184) ∧ (nm (wI I179 b184 i1_178.toNatClampNeg (-1 : Int32)) (fun I187 =>
X180 (i1_178 + (1 : Int32)) I187)))))))) (0 : Int32) I173)
else
(∃ b188, rP r174 o 0 = some b188 ∧ (rK r174 b188 = 52 ∧ ((rN r174 + 1 ≤ cN ∧ rS r174 + 4 ≤ cS) ∧ (nm (aI I173 (rN r174)) (fun I191 =>
nm (aR r174 5 0 4) (fun r192 =>
Wt r r192 cN cS ∧ (rK r192 o = 1 ∧ (rK r192 (rN r174) = 5 ∧ (rK r192 b188 = 52 ∧ rL r192 b188 = (rL r174 b188) ∧ (pX5_init (rN r174) I191 r192 (fun I198 =>
vp_in i1_172 (rL r174 b188) ∧ (nm (wP r192 b188 i1_172.toNatClampNeg (some (rN r174))) (fun r199 =>
Wt r r199 cN cS ∧ (rK r199 o = 1 ∧ (X175 (i1_172 + (1 : Int32)) I198 r199)))))))))))))))))) (0 : Int32) I171 r168))))))))))))))))))))))))))))))))))))))))))))))))))))))))))))))))))))))))))))))))))))))))))))))))))))))))))))))))))))))))))))))))))))))))))))))))))))))))))))))))))
def pX0_init (e0 : Nat) (o : Nat) (cN cS : Nat) (I : MI) (r : Rh) (Q : MI → Rh → Prop) : Prop :=
Wt r r cN cS ∧ ((rN r + 1 ≤ cN ∧ rS r + 400 ≤ cS) ∧ (nm (aI I (rN r)) (fun I1 =>
nm (aR r 51 400 400) (fun r2 =>
Wt r r2 cN cS ∧ (rK r2 o = 0 ∧ (rK r2 (rN r) = 51 ∧ rL r2 (rN r) = 400 ∧ (nm (wP r2 o 0 (some (rN r))) (fun r7 =>
Wt r r7 cN cS ∧ (rK r7 o = 0 ∧ (nm (wI I1 o 3 (-1 : Int32)) (fun I10 =>
(rN r7 + 1 ≤ cN ∧ rS r7 + 29 ≤ cS) ∧ (nm (aI I10 (rN r7)) (fun I11 =>
nm (aR r7 1 0 29) (fun r12 =>
Wt r r12 cN cS ∧ (rK r12 o = 0 ∧ (rK r12 (rN r7) = 1 ∧ (∃ c18 c19, (rN r12 ≤ c18 ∧ c18 ≤ cN ∧ rS r12 ≤ c19 ∧ c19 ≤ cS) ∧ pX1_init e0 (rN r7) c18 c19 I11 r12 (fun I16 s17 =>
Wt r s17 cN cS ∧ (rK s17 o = 0 ∧ (rK s17 (rN r7) = 1 ∧ (nm (wP s17 o 4 (some (rN r7))) (fun r23 =>
Wt r r23 cN cS ∧ (rK r23 o = 0 ∧ ((rN r23 + 1 ≤ cN ∧ rS r23 + 29 ≤ cS) ∧ (nm (aI I16 (rN r23)) (fun I26 =>
nm (aR r23 1 0 29) (fun r27 =>
Wt r r27 cN cS ∧ (rK r27 o = 0 ∧ (rK r27 (rN r23) = 1 ∧ (∃ c33 c34, (rN r27 ≤ c33 ∧ c33 ≤ cN ∧ rS r27 ≤ c34 ∧ c34 ≤ cS) ∧ pX1_init e0 (rN r23) c33 c34 I26 r27 (fun I31 s32 =>
Wt r s32 cN cS ∧ (rK s32 o = 0 ∧ (rK s32 (rN r23) = 1 ∧ (nm (wP s32 o 5 (some (rN r23))) (fun r38 =>
Wt r r38 cN cS ∧ (rK r38 o = 0 ∧ ((rN r38 + 1 ≤ cN ∧ rS r38 + 29 ≤ cS) ∧ (nm (aI I31 (rN r38)) (fun I41 =>
nm (aR r38 1 0 29) (fun r42 =>
Wt r r42 cN cS ∧ (rK r42 o = 0 ∧ (rK r42 (rN r38) = 1 ∧ (∃ c48 c49, (rN r42 ≤ c48 ∧ c48 ≤ cN ∧ rS r42 ≤ c49 ∧ c49 ≤ cS) ∧ pX1_init e0 (rN r38) c48 c49 I41 r42 (fun I46 s47 =>
Wt r s47 cN cS ∧ (rK s47 o = 0 ∧ (rK s47 (rN r38) = 1 ∧ (nm (wP s47 o 6 (some (rN r38))) (fun r53 =>
Wt r r53 cN cS ∧ (rK r53 o = 0 ∧ ((rN r53 + 1 ≤ cN ∧ rS r53 + 6 ≤ cS) ∧ (nm (aI I46 (rN r53)) (fun I56 =>
nm (aR r53 (50 + 4) 6 6) (fun r57 =>
Wt r r57 cN cS ∧ (rK r57 o = 0 ∧ (rK r57 (rN r53) = 54 ∧ rL r57 (rN r53) = 6 ∧ (nm (wP r57 o 7 (some (rN r53))) (fun r62 =>
Wt r r62 cN cS ∧ (rK r62 o = 0 ∧ (∃ b65, rP r62 o 6 = some b65 ∧ (rK r62 b65 = 1 ∧ (nm (wI I56 b65 27 (1 : Int32)) (fun I68 =>
L3 (fun X72 i1_69 I70 r71 =>
Wt r r71 cN cS ∧ (rK r71 o = 0 ∧ (if (6 : Int32) ≤ i1_69 then
((rN r71 + (1 + 12) ≤ cN ∧ rS r71 + (12 + 12 * 12) ≤ cS) ∧ (nm (mI I70 r71 12) (fun I75 =>
nm (mR r71 12 12) (fun r76 =>
Wt r r76 cN cS ∧ (rK r76 o = 0 ∧ (rK r76 (rN r71) = 55 ∧ rL r76 (rN r71) = 12 ∧ (nm (wP r76 o 10 (some (rN r71))) (fun r81 =>
Wt r r81 cN cS ∧ (rK r81 o = 0 ∧ ((rN r81 + (1 + 256) ≤ cN ∧ rS r81 + (256 + 256 * 8) ≤ cS) ∧ (nm (mI I75 r81 256) (fun I84 =>
nm (mR r81 256 8) (fun r85 =>
Wt r r85 cN cS ∧ (rK r85 o = 0 ∧ (rK r85 (rN r81) = 55 ∧ rL r85 (rN r81) = 256 ∧ (nm (wP r85 o 11 (some (rN r81))) (fun r90 =>
Wt r r90 cN cS ∧ (rK r90 o = 0 ∧ ((rN r90 + 1 ≤ cN ∧ rS r90 + 8 ≤ cS) ∧ (nm (aI I84 (rN r90)) (fun I93 =>
nm (aR r90 50 8 8) (fun r94 =>
Wt r r94 cN cS ∧ (rK r94 o = 0 ∧ (rK r94 (rN r90) = 50 ∧ rL r94 (rN r90) = 8 ∧ (nm (wP r94 o 12 (some (rN r90))) (fun r99 =>
Wt r r99 cN cS ∧ (rK r99 o = 0 ∧ ((rN r99 + 1 ≤ cN ∧ rS r99 + 256 ≤ cS) ∧ (nm (aI I93 (rN r99)) (fun I102 =>
nm (aR r99 50 256 256) (fun r103 =>
Wt r r103 cN cS ∧ (rK r103 o = 0 ∧ (rK r103 (rN r99) = 50 ∧ rL r103 (rN r99) = 256 ∧ (nm (wP r103 o 13 (some (rN r99))) (fun r108 =>
Wt r r108 cN cS ∧ (rK r108 o = 0 ∧ ((rN r108 + (1 + 25) ≤ cN ∧ rS r108 + (25 + 25 * 401) ≤ cS) ∧ (nm (mI I102 r108 25) (fun I111 =>
nm (mR r108 25 401) (fun r112 =>
Wt r r112 cN cS ∧ (rK r112 o = 0 ∧ (rK r112 (rN r108) = 55 ∧ rL r112 (rN r108) = 25 ∧ (nm (wP r112 o 14 (some (rN r108))) (fun r117 =>
Wt r r117 cN cS ∧ (rK r117 o = 0 ∧ ((rN r117 + 1 ≤ cN ∧ rS r117 + 4096 ≤ cS) ∧ (nm (aI I111 (rN r117)) (fun I120 =>
nm (aR r117 50 4096 4096) (fun r121 =>
Wt r r121 cN cS ∧ (rK r121 o = 0 ∧ (rK r121 (rN r117) = 50 ∧ rL r121 (rN r117) = 4096 ∧ (nm (wP r121 o 15 (some (rN r117))) (fun r126 =>
Wt r r126 cN cS ∧ (rK r126 o = 0 ∧ ((rN r126 + 1 ≤ cN ∧ rS r126 + 6 ≤ cS) ∧ (nm (aI I120 (rN r126)) (fun I129 =>
nm (aR r126 50 6 6) (fun r130 =>
Wt r r130 cN cS ∧ (rK r130 o = 0 ∧ (rK r130 (rN r126) = 50 ∧ rL r130 (rN r126) = 6 ∧ (nm (wP r130 o 16 (some (rN r126))) (fun r135 =>
Wt r r135 cN cS ∧ (rK r135 o = 0 ∧ (rN r135 = cN ∧ rS r135 = cS ∧ Q I129 r135))))))))))))))))))))))))))))))))))))))))))))))))))))))))))))))))
else
(∃ b138, rP r71 o 7 = some b138 ∧ (rK r71 b138 = 54 ∧ ((rN r71 + 1 ≤ cN ∧ rS r71 + 29 ≤ cS) ∧ (nm (aI I70 (rN r71)) (fun I141 =>
nm (aR r71 1 0 29) (fun r142 =>
Wt r r142 cN cS ∧ (rK r142 o = 0 ∧ (rK r142 (rN r71) = 1 ∧ (rK r142 b138 = 54 ∧ rL r142 b138 = (rL r71 b138) ∧ (∃ c150 c151, (rN r142 ≤ c150 ∧ c150 ≤ cN ∧ rS r142 ≤ c151 ∧ c151 ≤ cS) ∧ pX1_init e0 (rN r71) c150 c151 I141 r142 (fun I148 s149 =>
Wt r s149 cN cS ∧ (rK s149 o = 0 ∧ (rK s149 (rN r71) = 1 ∧ (rK s149 b138 = 54 ∧ rL s149 b138 = (rL r71 b138) ∧ (vp_in i1_69 (rL r71 b138) ∧ (nm (wP s149 b138 i1_69.toNatClampNeg (some (rN r71))) (fun r157 =>
Wt r r157 cN cS ∧ (rK r157 o = 0 ∧ (X72 (i1_69 + (1 : Int32)) I148 r157)))))))))))))))))))))) (0 : Int32) I68 r62))))))))))))))))))))))))))))))))))))))))))))))))))))))))))))))
def pX6_init (o : Nat) (cN cS : Nat) (I : MI) (r : Rh) (Q : MI → Rh → Prop) : Prop :=
Wt r r cN cS ∧ ((rN r + 1 ≤ cN ∧ rS r + 174 ≤ cS) ∧ (nm (aI I (rN r)) (fun I1 =>
nm (aR r 50 174 174) (fun r2 =>
Wt r r2 cN cS ∧ (rK r2 o = 6 ∧ (rK r2 (rN r) = 50 ∧ rL r2 (rN r) = 174 ∧ (nm (wP r2 o 1 (some (rN r))) (fun r7 =>
Wt r r7 cN cS ∧ (rK r7 o = 6 ∧ ((rN r7 + 1 ≤ cN ∧ rS r7 + 1044 ≤ cS) ∧ (nm (aI I1 (rN r7)) (fun I10 =>
nm (aR r7 50 1044 1044) (fun r11 =>
Wt r r11 cN cS ∧ (rK r11 o = 6 ∧ (rK r11 (rN r7) = 50 ∧ rL r11 (rN r7) = 1044 ∧ (nm (wP r11 o 2 (some (rN r7))) (fun r16 =>
Wt r r16 cN cS ∧ (rK r16 o = 6 ∧ ((rN r16 + 1 ≤ cN ∧ rS r16 + 174 ≤ cS) ∧ (nm (aI I10 (rN r16)) (fun I19 =>
nm (aR r16 50 174 174) (fun r20 =>
Wt r r20 cN cS ∧ (rK r20 o = 6 ∧ (rK r20 (rN r16) = 50 ∧ rL r20 (rN r16) = 174 ∧ (nm (wP r20 o 4 (some (rN r16))) (fun r25 =>
Wt r r25 cN cS ∧ (rK r25 o = 6 ∧ ((rN r25 + 1 ≤ cN ∧ rS r25 + 12 ≤ cS) ∧ (nm (aI I19 (rN r25)) (fun I28 =>
nm (aR r25 50 12 12) (fun r29 =>
Wt r r29 cN cS ∧ (rK r29 o = 6 ∧ (rK r29 (rN r25) = 50 ∧ rL r29 (rN r25) = 12 ∧ (nm (wP r29 o 7 (some (rN r25))) (fun r34 =>
Wt r r34 cN cS ∧ (rK r34 o = 6 ∧ ((rN r34 + 1 ≤ cN ∧ rS r34 + 600 ≤ cS) ∧ (nm (aI I28 (rN r34)) (fun I37 =>
nm (aR r34 50 600 600) (fun r38 =>
Wt r r38 cN cS ∧ (rK r38 o = 6 ∧ (rK r38 (rN r34) = 50 ∧ rL r38 (rN r34) = 600 ∧ (nm (wP r38 o 8 (some (rN r34))) (fun r43 =>
Wt r r43 cN cS ∧ (rK r43 o = 6 ∧ ((rN r43 + 1 ≤ cN ∧ rS r43 + 400 ≤ cS) ∧ (nm (aI I37 (rN r43)) (fun I46 =>
nm (aR r43 50 400 400) (fun r47 =>
Wt r r47 cN cS ∧ (rK r47 o = 6 ∧ (rK r47 (rN r43) = 50 ∧ rL r47 (rN r43) = 400 ∧ (nm (wP r47 o 9 (some (rN r43))) (fun r52 =>
Wt r r52 cN cS ∧ (rK r52 o = 6 ∧ ((rN r52 + 1 ≤ cN ∧ rS r52 + 153 ≤ cS) ∧ (nm (aI I46 (rN r52)) (fun I55 =>
nm (aR r52 50 153 153) (fun r56 =>
Wt r r56 cN cS ∧ (rK r56 o = 6 ∧ (rK r56 (rN r52) = 50 ∧ rL r56 (rN r52) = 153 ∧ (nm (wI I55 (rN r52) 0 (32 : Int32)) (fun I61 =>
nm (wI I61 (rN r52) 1 (111 : Int32)) (fun I62 =>
nm (wI I62 (rN r52) 2 (112 : Int32)) (fun I63 =>
nm (wI I63 (rN r52) 3 (101 : Int32)) (fun I64 =>
nm (wI I64 (rN r52) 4 (110 : Int32)) (fun I65 =>
nm (wI I65 (rN r52) 5 (115 : Int32)) (fun I66 =>
nm (wI I66 (rN r52) 6 (32 : Int32)) (fun I67 =>
nm (wI I67 (rN r52) 7 (103 : Int32)) (fun I68 =>
nm (wI I68 (rN r52) 8 (105 : Int32)) (fun I69 =>
nm (wI I69 (rN r52) 9 (118 : Int32)) (fun I70 =>
nm (wI I70 (rN r52) 10 (101 : Int32)) (fun I71 =>
nm (wI I71 (rN r52) 11 (115 : Int32)) (fun I72 =>
nm (wI I72 (rN r52) 12 (32 : Int32)) (fun I73 =>
nm (wI I73 (rN r52) 13 (116 : Int32)) (fun I74 =>
nm (wI I74 (rN r52) 14 (105 : Int32)) (fun I75 =>
nm (wI I75 (rN r52) 15 (114 : Int32)) (fun I76 =>
nm (wI I76 (rN r52) 16 (101 : Int32)) (fun I77 =>
nm (wI I77 (rN r52) 17 (115 : Int32)) (fun I78 =>
nm (wI I78 (rN r52) 18 (32 : Int32)) (fun I79 =>
nm (wI I79 (rN r52) 19 (119 : Int32)) (fun I80 =>
nm (wI I80 (rN r52) 20 (104 : Int32)) (fun I81 =>
nm (wI I81 (rN r52) 21 (101 : Int32)) (fun I82 =>
nm (wI I82 (rN r52) 22 (110 : Int32)) (fun I83 =>
nm (wI I83 (rN r52) 23 (32 : Int32)) (fun I84 =>
nm (wI I84 (rN r52) 24 (111 : Int32)) (fun I85 =>
nm (wI I85 (rN r52) 25 (114 : Int32)) (fun I86 =>
nm (wI I86 (rN r52) 26 (32 : Int32)) (fun I87 =>
nm (wI I87 (rN r52) 27 (97 : Int32)) (fun I88 =>
nm (wI I88 (rN r52) 28 (110 : Int32)) (fun I89 =>
nm (wI I89 (rN r52) 29 (100 : Int32)) (fun I90 =>
nm (wI I90 (rN r52) 30 (32 : Int32)) (fun I91 =>
nm (wI I91 (rN r52) 31 (110 : Int32)) (fun I92 =>
nm (wI I92 (rN r52) 32 (111 : Int32)) (fun I93 =>
nm (wI I93 (rN r52) 33 (116 : Int32)) (fun I94 =>
nm (wI I94 (rN r52) 34 (32 : Int32)) (fun I95 =>
nm (wI I95 (rN r52) 35 (107 : Int32)) (fun I96 =>
nm (wI I96 (rN r52) 36 (105 : Int32)) (fun I97 =>
nm (wI I97 (rN r52) 37 (110 : Int32)) (fun I98 =>
nm (wI I98 (rN r52) 38 (100 : Int32)) (fun I99 =>
nm (wI I99 (rN r52) 39 (32 : Int32)) (fun I100 =>
nm (wI I100 (rN r52) 40 (109 : Int32)) (fun I101 =>
nm (wI I101 (rN r52) 41 (117 : Int32)) (fun I102 =>
nm (wI I102 (rN r52) 42 (99 : Int32)) (fun I103 =>
nm (wI I103 (rN r52) 43 (104 : Int32)) (fun I104 =>
nm (wI I104 (rN r52) 44 (32 : Int32)) (fun I105 =>
nm (wI I105 (rN r52) 45 (97 : Int32)) (fun I106 =>
nm (wI I106 (rN r52) 46 (103 : Int32)) (fun I107 =>
nm (wI I107 (rN r52) 47 (101 : Int32)) (fun I108 =>
nm (wI I108 (rN r52) 48 (32 : Int32)) (fun I109 =>
nm (wI I109 (rN r52) 49 (102 : Int32)) (fun I110 =>
nm (wI I110 (rN r52) 50 (97 : Int32)) (fun I111 =>
nm (wI I111 (rN r52) 51 (99 : Int32)) (fun I112 =>
nm (wI I112 (rN r52) 52 (101 : Int32)) (fun I113 =>
nm (wI I113 (rN r52) 53 (32 : Int32)) (fun I114 =>
nm (wI I114 (rN r52) 54 (108 : Int32)) (fun I115 =>
nm (wI I115 (rN r52) 55 (111 : Int32)) (fun I116 =>
nm (wI I116 (rN r52) 56 (118 : Int32)) (fun I117 =>
nm (wI I117 (rN r52) 57 (101 : Int32)) (fun I118 =>
nm (wI I118 (rN r52) 58 (32 : Int32)) (fun I119 =>
nm (wI I119 (rN r52) 59 (112 : Int32)) (fun I120 =>
nm (wI I120 (rN r52) 60 (117 : Int32)) (fun I121 =>
nm (wI I121 (rN r52) 61 (114 : Int32)) (fun I122 =>
nm (wI I122 (rN r52) 62 (115 : Int32)) (fun I123 =>
nm (wI I123 (rN r52) 63 (101 : Int32)) (fun I124 =>
nm (wI I124 (rN r52) 64 (32 : Int32)) (fun I125 =>
nm (wI I125 (rN r52) 65 (104 : Int32)) (fun I126 =>
nm (wI I126 (rN r52) 66 (101 : Int32)) (fun I127 =>
nm (wI I127 (rN r52) 67 (97 : Int32)) (fun I128 =>
nm (wI I128 (rN r52) 68 (108 : Int32)) (fun I129 =>
nm (wI I129 (rN r52) 69 (116 : Int32)) (fun I130 =>
nm (wI I130 (rN r52) 70 (104 : Int32)) (fun I131 =>
nm (wI I131 (rN r52) 71 (32 : Int32)) (fun I132 =>
nm (wI I132 (rN r52) 72 (104 : Int32)) (fun I133 =>
nm (wI I133 (rN r52) 73 (117 : Int32)) (fun I134 =>
nm (wI I134 (rN r52) 74 (110 : Int32)) (fun I135 =>
nm (wI I135 (rN r52) 75 (103 : Int32)) (fun I136 =>
nm (wI I136 (rN r52) 76 (101 : Int32)) (fun I137 =>
nm (wI I137 (rN r52) 77 (114 : Int32)) (fun I138 =>
nm (wI I138 (rN r52) 78 (32 : Int32)) (fun I139 =>
nm (wI I139 (rN r52) 79 (104 : Int32)) (fun I140 =>
nm (wI I140 (rN r52) 80 (111 : Int32)) (fun I141 =>
nm (wI I141 (rN r52) 81 (117 : Int32)) (fun I142 =>
nm (wI I142 (rN r52) 82 (114 : Int32)) (fun I143 =>
nm (wI I143 (rN r52) 83 (32 : Int32)) (fun I144 =>
nm (wI I144 (rN r52) 84 (114 : Int32)) (fun I145 =>
nm (wI I145 (rN r52) 85 (97 : Int32)) (fun I146 =>
nm (wI I146 (rN r52) 86 (105 : Int32)) (fun I147 =>
nm (wI I147 (rN r52) 87 (110 : Int32)) (fun I148 =>
nm (wI I148 (rN r52) 88 (32 : Int32)) (fun I149 =>
nm (wI I149 (rN r52) 89 (100 : Int32)) (fun I150 =>
nm (wI I150 (rN r52) 90 (97 : Int32)) (fun I151 =>
nm (wI I151 (rN r52) 91 (121 : Int32)) (fun I152 =>
nm (wI I152 (rN r52) 92 (32 : Int32)) (fun I153 =>
nm (wI I153 (rN r52) 93 (111 : Int32)) (fun I154 =>
nm (wI I154 (rN r52) 94 (110 : Int32)) (fun I155 =>
nm (wI I155 (rN r52) 95 (32 : Int32)) (fun I156 =>
nm (wI I156 (rN r52) 96 (116 : Int32)) (fun I157 =>
nm (wI I157 (rN r52) 97 (111 : Int32)) (fun I158 =>
nm (wI I158 (rN r52) 98 (32 : Int32)) (fun I159 =>
nm (wI I159 (rN r52) 99 (119 : Int32)) (fun I160 =>
nm (wI I160 (rN r52) 100 (97 : Int32)) (fun I161 =>
nm (wI I161 (rN r52) 101 (108 : Int32)) (fun I162 =>
nm (wI I162 (rN r52) 102 (107 : Int32)) (fun I163 =>
nm (wI I163 (rN r52) 103 (32 : Int32)) (fun I164 =>
nm (wI I164 (rN r52) 104 (115 : Int32)) (fun I165 =>
nm (wI I165 (rN r52) 105 (116 : Int32)) (fun I166 =>
nm (wI I166 (rN r52) 106 (114 : Int32)) (fun I167 =>
nm (wI I167 (rN r52) 107 (101 : Int32)) (fun I168 =>
nm (wI I168 (rN r52) 108 (101 : Int32)) (fun I169 =>
nm (wI I169 (rN r52) 109 (116 : Int32)) (fun I170 =>
nm (wI I170 (rN r52) 110 (32 : Int32)) (fun I171 =>
nm (wI I171 (rN r52) 111 (110 : Int32)) (fun I172 =>
nm (wI I172 (rN r52) 112 (101 : Int32)) (fun I173 =>
nm (wI I173 (rN r52) 113 (119 : Int32)) (fun I174 =>
nm (wI I174 (rN r52) 114 (115 : Int32)) (fun I175 =>
nm (wI I175 (rN r52) 115 (32 : Int32)) (fun I176 =>
nm (wI I176 (rN r52) 116 (98 : Int32)) (fun I177 =>
nm (wI I177 (rN r52) 117 (105 : Int32)) (fun I178 =>
nm (wI I178 (rN r52) 118 (108 : Int32)) (fun I179 =>
nm (wI I179 (rN r52) 119 (108 : Int32)) (fun I180 =>
nm (wI I180 (rN r52) 120 (32 : Int32)) (fun I181 =>
nm (wI I181 (rN r52) 121 (107 : Int32)) (fun I182 =>
nm (wI I182 (rN r52) 122 (105 : Int32)) (fun I183 =>
nm (wI I183 (rN r52) 123 (115 : Int32)) (fun I184 =>
nm (wI I184 (rN r52) 124 (115 : Int32)) (fun I185 =>
nm (wI I185 (rN r52) 125 (32 : Int32)) (fun I186 =>
nm (wI I186 (rN r52) 126 (97 : Int32)) (fun I187 =>
nm (wI I187 (rN r52) 127 (110 : Int32)) (fun I188 =>
nm (wI I188 (rN r52) 128 (103 : Int32)) (fun I189 =>
nm (wI I189 (rN r52) 129 (101 : Int32)) (fun I190 =>
nm (wI I190 (rN r52) 130 (114 : Int32)) (fun I191 =>
nm (wI I191 (rN r52) 131 (32 : Int32)) (fun I192 =>
nm (wI I192 (rN r52) 132 (105 : Int32)) (fun I193 =>
nm (wI I193 (rN r52) 133 (110 : Int32)) (fun I194 =>
nm (wI I194 (rN r52) 134 (118 : Int32)) (fun I195 =>
nm (wI I195 (rN r52) 135 (105 : Int32)) (fun I196 =>
nm (wI I196 (rN r52) 136 (116 : Int32)) (fun I197 =>
nm (wI I197 (rN r52) 137 (97 : Int32)) (fun I198 =>
nm (wI I198 (rN r52) 138 (116 : Int32)) (fun I199 =>
nm (wI I199 (rN r52) 139 (105 : Int32)) (fun I200 =>
nm (wI I200 (rN r52) 140 (111 : Int32)) (fun I201 =>
nm (wI I201 (rN r52) 141 (110 : Int32)) (fun I202 =>
nm (wI I202 (rN r52) 142 (32 : Int32)) (fun I203 =>
nm (wI I203 (rN r52) 143 (116 : Int32)) (fun I204 =>
nm (wI I204 (rN r52) 144 (101 : Int32)) (fun I205 =>
nm (wI I205 (rN r52) 145 (120 : Int32)) (fun I206 =>
nm (wI I206 (rN r52) 146 (116 : Int32)) (fun I207 =>
nm (wI I207 (rN r52) 147 (32 : Int32)) (fun I208 =>
nm (wI I208 (rN r52) 148 (106 : Int32)) (fun I209 =>
nm (wI I209 (rN r52) 149 (111 : Int32)) (fun I210 =>
nm (wI I210 (rN r52) 150 (107 : Int32)) (fun I211 =>
nm (wI I211 (rN r52) 151 (101 : Int32)) (fun I212 =>
nm (wI I212 (rN r52) 152 (32 : Int32)) (fun I213 =>
nm (wP r56 o 15 (some (rN r52))) (fun r214 =>
Wt r r214 cN cS ∧ (rK r214 o = 6 ∧ ((rN r214 + 1 ≤ cN ∧ rS r214 + 2 ≤ cS) ∧ (nm (aI I213 (rN r214)) (fun I217 =>
nm (aR r214 50 2 2) (fun r218 =>
Wt r r218 cN cS ∧ (rK r218 o = 6 ∧ (rK r218 (rN r214) = 50 ∧ rL r218 (rN r214) = 2 ∧ (nm (wP r218 o 16 (some (rN r214))) (fun r223 =>
Wt r r223 cN cS ∧ (rK r223 o = 6 ∧ ((rN r223 + 1 ≤ cN ∧ rS r223 + 48 ≤ cS) ∧ (nm (aI I217 (rN r223)) (fun I226 =>
nm (aR r223 50 48 48) (fun r227 =>
Wt r r227 cN cS ∧ (rK r227 o = 6 ∧ (rK r227 (rN r223) = 50 ∧ rL r227 (rN r223) = 48 ∧ (nm (wP r227 o 17 (some (rN r223))) (fun r232 =>
Wt r r232 cN cS ∧ (rK r232 o = 6 ∧ ((rN r232 + 1 ≤ cN ∧ rS r232 + 48 ≤ cS) ∧ (nm (aI I226 (rN r232)) (fun I235 =>
nm (aR r232 50 48 48) (fun r236 =>
Wt r r236 cN cS ∧ (rK r236 o = 6 ∧ (rK r236 (rN r232) = 50 ∧ rL r236 (rN r232) = 48 ∧ (nm (wP r236 o 18 (some (rN r232))) (fun r241 =>
Wt r r241 cN cS ∧ (rK r241 o = 6 ∧ ((rN r241 + 1 ≤ cN ∧ rS r241 + 48 ≤ cS) ∧ (nm (aI I235 (rN r241)) (fun I244 =>
nm (aR r241 50 48 48) (fun r245 =>
Wt r r245 cN cS ∧ (rK r245 o = 6 ∧ (rK r245 (rN r241) = 50 ∧ rL r245 (rN r241) = 48 ∧ (nm (wP r245 o 19 (some (rN r241))) (fun r250 =>
Wt r r250 cN cS ∧ (rK r250 o = 6 ∧ ((rN r250 + 1 ≤ cN ∧ rS r250 + 48 ≤ cS) ∧ (nm (aI I244 (rN r250)) (fun I253 =>
nm (aR r250 50 48 48) (fun r254 =>
Wt r r254 cN cS ∧ (rK r254 o = 6 ∧ (rK r254 (rN r250) = 50 ∧ rL r254 (rN r250) = 48 ∧ (nm (wP r254 o 20 (some (rN r250))) (fun r259 =>
Wt r r259 cN cS ∧ (rK r259 o = 6 ∧ ((rN r259 + 1 ≤ cN ∧ rS r259 + 1200 ≤ cS) ∧ (nm (aI I253 (rN r259)) (fun I262 =>
nm (aR r259 50 1200 1200) (fun r263 =>
Wt r r263 cN cS ∧ (rK r263 o = 6 ∧ (rK r263 (rN r259) = 50 ∧ rL r263 (rN r259) = 1200 ∧ (nm (wP r263 o 21 (some (rN r259))) (fun r268 =>
Wt r r268 cN cS ∧ (rK r268 o = 6 ∧ ((rN r268 + 1 ≤ cN ∧ rS r268 + 1200 ≤ cS) ∧ (nm (aI I262 (rN r268)) (fun I271 =>
nm (aR r268 50 1200 1200) (fun r272 =>
Wt r r272 cN cS ∧ (rK r272 o = 6 ∧ (rK r272 (rN r268) = 50 ∧ rL r272 (rN r268) = 1200 ∧ (nm (wP r272 o 22 (some (rN r268))) (fun r277 =>
Wt r r277 cN cS ∧ (rK r277 o = 6 ∧ ((rN r277 + 1 ≤ cN ∧ rS r277 + 40 ≤ cS) ∧ (nm (aI I271 (rN r277)) (fun I280 =>
nm (aR r277 50 40 40) (fun r281 =>
Wt r r281 cN cS ∧ (rK r281 o = 6 ∧ (rK r281 (rN r277) = 50 ∧ rL r281 (rN r277) = 40 ∧ (nm (wP r281 o 26 (some (rN r277))) (fun r286 =>
Wt r r286 cN cS ∧ (rK r286 o = 6 ∧ (nm (wI I280 o 31 (-1 : Int32)) (fun I289 =>
(rN r286 + 1 ≤ cN ∧ rS r286 + 128 ≤ cS) ∧ (nm (aI I289 (rN r286)) (fun I290 =>
nm (aR r286 50 128 128) (fun r291 =>
Wt r r291 cN cS ∧ (rK r291 o = 6 ∧ (rK r291 (rN r286) = 50 ∧ rL r291 (rN r286) = 128 ∧ (nm (wP r291 o 33 (some (rN r286))) (fun r296 =>
Wt r r296 cN cS ∧ (rK r296 o = 6 ∧ ((rN r296 + 1 ≤ cN ∧ rS r296 + 32 ≤ cS) ∧ (nm (aI I290 (rN r296)) (fun I299 =>
nm (aR r296 50 32 32) (fun r300 =>
Wt r r300 cN cS ∧ (rK r300 o = 6 ∧ (rK r300 (rN r296) = 50 ∧ rL r300 (rN r296) = 32 ∧ (nm (wP r300 o 35 (some (rN r296))) (fun r305 =>
Wt r r305 cN cS ∧ (rK r305 o = 6 ∧ ((rN r305 + 1 ≤ cN ∧ rS r305 + 288 ≤ cS) ∧ (nm (aI I299 (rN r305)) (fun I308 =>
nm (aR r305 50 288 288) (fun r309 =>
Wt r r309 cN cS ∧ (rK r309 o = 6 ∧ (rK r309 (rN r305) = 50 ∧ rL r309 (rN r305) = 288 ∧ (nm (wP r309 o 37 (some (rN r305))) (fun r314 =>
Wt r r314 cN cS ∧ (rK r314 o = 6 ∧ ((rN r314 + 1 ≤ cN ∧ rS r314 + 11 ≤ cS) ∧ (nm (aI I308 (rN r314)) (fun I317 =>
nm (aR r314 50 11 11) (fun r318 =>
Wt r r318 cN cS ∧ (rK r318 o = 6 ∧ (rK r318 (rN r314) = 50 ∧ rL r318 (rN r314) = 11 ∧ (nm (wP r318 o 38 (some (rN r314))) (fun r323 =>
Wt r r323 cN cS ∧ (rK r323 o = 6 ∧ ((rN r323 + 1 ≤ cN ∧ rS r323 + 420 ≤ cS) ∧ (nm (aI I317 (rN r323)) (fun I326 =>
nm (aR r323 50 420 420) (fun r327 =>
Wt r r327 cN cS ∧ (rK r327 o = 6 ∧ (rK r327 (rN r323) = 50 ∧ rL r327 (rN r323) = 420 ∧ (nm (wP r327 o 39 (some (rN r323))) (fun r332 =>
Wt r r332 cN cS ∧ (rK r332 o = 6 ∧ ((rN r332 + 1 ≤ cN ∧ rS r332 + 144 ≤ cS) ∧ (nm (aI I326 (rN r332)) (fun I335 =>
nm (aR r332 50 144 144) (fun r336 =>
Wt r r336 cN cS ∧ (rK r336 o = 6 ∧ (rK r336 (rN r332) = 50 ∧ rL r336 (rN r332) = 144 ∧ (nm (wP r336 o 41 (some (rN r332))) (fun r341 =>
Wt r r341 cN cS ∧ (rK r341 o = 6 ∧ ((rN r341 + 1 ≤ cN ∧ rS r341 + 12 ≤ cS) ∧ (nm (aI I335 (rN r341)) (fun I344 =>
nm (aR r341 50 12 12) (fun r345 =>
Wt r r345 cN cS ∧ (rK r345 o = 6 ∧ (rK r345 (rN r341) = 50 ∧ rL r345 (rN r341) = 12 ∧ (nm (wP r345 o 43 (some (rN r341))) (fun r350 =>
Wt r r350 cN cS ∧ (rK r350 o = 6 ∧ ((rN r350 + 1 ≤ cN ∧ rS r350 + 2048 ≤ cS) ∧ (nm (aI I344 (rN r350)) (fun I353 =>
nm (aR r350 50 2048 2048) (fun r354 =>
Wt r r354 cN cS ∧ (rK r354 o = 6 ∧ (rK r354 (rN r350) = 50 ∧ rL r354 (rN r350) = 2048 ∧ (nm (wP r354 o 44 (some (rN r350))) (fun r359 =>
Wt r r359 cN cS ∧ (rK r359 o = 6 ∧ ((rN r359 + 1 ≤ cN ∧ rS r359 + 8 ≤ cS) ∧ (nm (aI I353 (rN r359)) (fun I362 =>
nm (aR r359 50 8 8) (fun r363 =>
Wt r r363 cN cS ∧ (rK r363 o = 6 ∧ (rK r363 (rN r359) = 50 ∧ rL r363 (rN r359) = 8 ∧ (nm (wP r363 o 46 (some (rN r359))) (fun r368 =>
Wt r r368 cN cS ∧ (rK r368 o = 6 ∧ ((rN r368 + 1 ≤ cN ∧ rS r368 + 256 ≤ cS) ∧ (nm (aI I362 (rN r368)) (fun I371 =>
nm (aR r368 50 256 256) (fun r372 =>
Wt r r372 cN cS ∧ (rK r372 o = 6 ∧ (rK r372 (rN r368) = 50 ∧ rL r372 (rN r368) = 256 ∧ (nm (wP r372 o 47 (some (rN r368))) (fun r377 =>
Wt r r377 cN cS ∧ (rK r377 o = 6 ∧ ((rN r377 + 1 ≤ cN ∧ rS r377 + 10025 ≤ cS) ∧ (nm (aI I371 (rN r377)) (fun I380 =>
nm (aR r377 50 10025 10025) (fun r381 =>
Wt r r381 cN cS ∧ (rK r381 o = 6 ∧ (rK r381 (rN r377) = 50 ∧ rL r381 (rN r377) = 10025 ∧ (nm (wP r381 o 48 (some (rN r377))) (fun r386 =>
Wt r r386 cN cS ∧ (rK r386 o = 6 ∧ ((rN r386 + 1 ≤ cN ∧ rS r386 + 12 ≤ cS) ∧ (nm (aI I380 (rN r386)) (fun I389 =>
nm (aR r386 50 12 12) (fun r390 =>
Wt r r390 cN cS ∧ (rK r390 o = 6 ∧ (rK r390 (rN r386) = 50 ∧ rL r390 (rN r386) = 12 ∧ (nm (wP r390 o 50 (some (rN r386))) (fun r395 =>
Wt r r395 cN cS ∧ (rK r395 o = 6 ∧ ((rN r395 + 1 ≤ cN ∧ rS r395 + 4096 ≤ cS) ∧ (nm (aI I389 (rN r395)) (fun I398 =>
nm (aR r395 50 4096 4096) (fun r399 =>
Wt r r399 cN cS ∧ (rK r399 o = 6 ∧ (rK r399 (rN r395) = 50 ∧ rL r399 (rN r395) = 4096 ∧ (nm (wP r399 o 51 (some (rN r395))) (fun r404 =>
Wt r r404 cN cS ∧ (rK r404 o = 6 ∧ ((rN r404 + 1 ≤ cN ∧ rS r404 + 26 ≤ cS) ∧ (nm (aI I398 (rN r404)) (fun I407 =>
nm (aR r404 50 26 26) (fun r408 =>
Wt r r408 cN cS ∧ (rK r408 o = 6 ∧ (rK r408 (rN r404) = 50 ∧ rL r408 (rN r404) = 26 ∧ (nm (wP r408 o 52 (some (rN r404))) (fun r413 =>
Wt r r413 cN cS ∧ (rK r413 o = 6 ∧ ((rN r413 + 1 ≤ cN ∧ rS r413 + 8 ≤ cS) ∧ (nm (aI I407 (rN r413)) (fun I416 =>
nm (aR r413 50 8 8) (fun r417 =>
Wt r r417 cN cS ∧ (rK r417 o = 6 ∧ (rK r417 (rN r413) = 50 ∧ rL r417 (rN r413) = 8 ∧ (nm (wP r417 o 54 (some (rN r413))) (fun r422 =>
Wt r r422 cN cS ∧ (rK r422 o = 6 ∧ ((rN r422 + 1 ≤ cN ∧ rS r422 + 49 ≤ cS) ∧ (nm (aI I416 (rN r422)) (fun I425 =>
nm (aR r422 50 49 49) (fun r426 =>
Wt r r426 cN cS ∧ (rK r426 o = 6 ∧ (rK r426 (rN r422) = 50 ∧ rL r426 (rN r422) = 49 ∧ (nm (wP r426 o 56 (some (rN r422))) (fun r431 =>
Wt r r431 cN cS ∧ (rK r431 o = 6 ∧ ((rN r431 + 1 ≤ cN ∧ rS r431 + 8 ≤ cS) ∧ (nm (aI I425 (rN r431)) (fun I434 =>
nm (aR r431 50 8 8) (fun r435 =>
Wt r r435 cN cS ∧ (rK r435 o = 6 ∧ (rK r435 (rN r431) = 50 ∧ rL r435 (rN r431) = 8 ∧ (nm (wP r435 o 58 (some (rN r431))) (fun r440 =>
Wt r r440 cN cS ∧ (rK r440 o = 6 ∧ ((rN r440 + 1 ≤ cN ∧ rS r440 + 8 ≤ cS) ∧ (nm (aI I434 (rN r440)) (fun I443 =>
nm (aR r440 50 8 8) (fun r444 =>
Wt r r444 cN cS ∧ (rK r444 o = 6 ∧ (rK r444 (rN r440) = 50 ∧ rL r444 (rN r440) = 8 ∧ (nm (wP r444 o 59 (some (rN r440))) (fun r449 =>
Wt r r449 cN cS ∧ (rK r449 o = 6 ∧ ((rN r449 + 1 ≤ cN ∧ rS r449 + 2300 ≤ cS) ∧ (nm (aI I443 (rN r449)) (fun I452 =>
nm (aR r449 50 2300 2300) (fun r453 =>
Wt r r453 cN cS ∧ (rK r453 o = 6 ∧ (rK r453 (rN r449) = 50 ∧ rL r453 (rN r449) = 2300 ∧ (nm (wP r453 o 63 (some (rN r449))) (fun r458 =>
Wt r r458 cN cS ∧ (rK r458 o = 6 ∧ (rN r458 = cN ∧ rS r458 = cS ∧ Q I452 r458)))))))))))))))))))))))))))))))))))))))))))))))))))))))))))))))))))))))))))))))))))))))))))))))))))))))))))))))))))))))))))))))))))))))))))))))))))))))))))))))))))))))))))))))))))))))))))))))))))))))))))))))))))))))))))))))))))))))))))))))))))))))))))))))))))))))))))))))))))))))))))))))))))))))))))))))))))))))))))))))))))))))))))))))))))))))))))))))))))))))))))))))))))))))))))))))))))))))))))))))))))))))))))))))))))))))))))))))))))))))))))))))))))))))))))))
def pX7_init (o : Nat) (a1 : Nat) (a2 : Int32) (cN cS : Nat) (I : MI) (r : Rh) (Q : MI → Rh → Prop) : Prop :=
Wt r r cN cS ∧ (nm (wP r o 9 (some a1)) (fun r1 =>
Wt r r1 cN cS ∧ (rK r1 o = 7 ∧ (KpS a1 r1 ∧ ((rN r1 + 1 ≤ cN ∧ rS r1 + 16 ≤ cS) ∧ (nm (aI I (rN r1)) (fun I5 =>
nm (aR r1 50 16 16) (fun r6 =>
Wt r r6 cN cS ∧ (rK r6 o = 7 ∧ (KpS a1 r6 ∧ (rK r6 (rN r1) = 50 ∧ rL r6 (rN r1) = 16 ∧ (nm (wP r6 o 1 (some (rN r1))) (fun r12 =>
Wt r r12 cN cS ∧ (rK r12 o = 7 ∧ (KpS a1 r12 ∧ ((rN r12 + 1 ≤ cN ∧ rS r12 + 144 ≤ cS) ∧ (nm (aI I5 (rN r12)) (fun I16 =>
nm (aR r12 50 144 144) (fun r17 =>
Wt r r17 cN cS ∧ (rK r17 o = 7 ∧ (KpS a1 r17 ∧ (rK r17 (rN r12) = 50 ∧ rL r17 (rN r12) = 144 ∧ (nm (wP r17 o 2 (some (rN r12))) (fun r23 =>
Wt r r23 cN cS ∧ (rK r23 o = 7 ∧ (KpS a1 r23 ∧ (nm (wI I16 o 0 a2) (fun I27 =>
L2 (fun X30 i3_28 I29 =>
∃ b31, rP r23 o 2 = some b31 ∧ (rK r23 b31 = 50 ∧ (if (Int32.ofNat (rL r23 b31)) ≤ i3_28 then
(rN r23 = cN ∧ rS r23 = cS ∧ Q I29 r23)
else
(∃ b34, rP r23 o 2 = some b34 ∧ (rK r23 b34 = 50 ∧ (vp_in i3_28 (rL r23 b34) ∧ (nm (wI I29 b34 i3_28.toNatClampNeg (-1 : Int32)) (fun I37 =>
X30 (i3_28 + (1 : Int32)) I37)))))))) (0 : Int32) I27))))))))))))))))))))))))))))
set_option maxHeartbeats 4000000 in
theorem tX3_init {g : Gl} (o : Nat) (I : MI) (r : Rh) (h_o : rK r o = 3) : CtV g yX3_init cX3_init 1 1 [.ref o] I r (pX3_init o I r) := by
  refine CtV.mk (lv := [(0, .ref o)]) (by decide) (Nat.le_of_ble_eq_true rfl) rfl (fun x Q h hr => ?_)
  unfold pX3_init
  refine v_aload_n (pc := 0) h dX3_init_0 0 rfl rfl ?_
  refine v_objInit (pc := 1) h dX3_init_1 q202 (by decide) (Nat.le_of_ble_eq_true rfl) ?_
  exact v_vret (pc := 4) h hr dX3_init_4
set_option maxHeartbeats 4000000 in
theorem tX5_init {g : Gl} (o : Nat) (I : MI) (r : Rh) (h_o : rK r o = 5) : CtV g yX5_init cX5_init 1 1 [.ref o] I r (pX5_init o I r) := by
  refine CtV.mk (lv := [(0, .ref o)]) (by decide) (Nat.le_of_ble_eq_true rfl) rfl (fun x Q h hr => ?_)
  unfold pX5_init
  refine v_aload_n (pc := 0) h dX5_init_0 0 rfl rfl ?_
  refine v_objInit (pc := 1) h dX5_init_1 q292 (by decide) (Nat.le_of_ble_eq_true rfl) ?_
  exact v_vret (pc := 4) h hr dX5_init_4
set_option maxHeartbeats 4000000 in
theorem tX9_init {g : Gl} (o : Nat) (I : MI) (r : Rh)  : CtV g yX9_init cX9_init 1 1 [.ref o] I r (pX9_init o I r) := by
  refine CtV.mk (lv := [(0, .ref o)]) (by decide) (Nat.le_of_ble_eq_true rfl) rfl (fun x Q h hr => ?_)
  unfold pX9_init
  refine v_aload_n (pc := 0) h dX9_init_0 0 rfl rfl ?_
  refine v_objInit (pc := 1) h dX9_init_1 q766 (by decide) (Nat.le_of_ble_eq_true rfl) ?_
  exact v_vret (pc := 4) h hr dX9_init_4
set_option maxHeartbeats 4000000 in
theorem tJ0_init {g : Gl} (o : Nat) (I : MI) (r : Rh) (h_o : rK r o = 9) : CtV g yJ0_init cJ0_init 1 1 [.ref o] I r (pJ0_init o I r) := by
  refine CtV.mk (lv := [(0, .ref o)]) (by decide) (Nat.le_of_ble_eq_true rfl) rfl (fun x Q h hr => ?_)
  unfold pJ0_init
  refine v_aload_n (pc := 0) h dJ0_init_0 0 rfl rfl ?_
  refine v_objInit (pc := 1) h dJ0_init_1 q273 (by decide) (Nat.le_of_ble_eq_true rfl) ?_
  exact v_vret (pc := 4) h hr dJ0_init_4
set_option maxHeartbeats 4000000 in
theorem tJ1_init {g : Gl} (o : Nat) (I : MI) (r : Rh) (h_o : rK r o = 9) : CtV g yJ1_init cJ1_init 1 2 [.ref o] I r (pJ1_init o I r) := by
  refine CtV.mk (lv := [(0, .ref o)]) (by decide) (Nat.le_of_ble_eq_true rfl) rfl (fun x Q h hr => ?_)
  unfold pJ1_init
  refine v_aload_n (pc := 0) h dJ1_init_0 0 rfl rfl ?_
  refine v_initV (pc := 1) h dJ1_init_1 iJ1_1 (tJ0_init o I r h_o) (by decide) rfl rfl (Nat.le_of_ble_eq_true rfl) ⟨Nat.zero_le _, Nat.zero_le _⟩ (fun I1 => ?_)
  refine v_aload_n (pc := 4) h dJ1_init_4 0 rfl rfl ?_
  refine v_iconst (pc := 5) h dJ1_init_5 (v := 0) rfl ?_
  refine v_puti (pc := 6) h dJ1_init_6 fJ1_7 rfl h_o ?_
  refine v_nmI (fun I2 => ?_)
  exact v_vret (pc := 9) h hr dJ1_init_9
set_option maxHeartbeats 4000000 in
theorem tJ2_init {g : Gl} (o : Nat) (I : MI) (r : Rh) (h_o : rK r o = 9) : CtW g yJ2_init cJ2_init 1 3 0 0 [.ref o] I r (pJ2_init (gX g 0) o I r) := by
  refine CtW.mk (lv := [(0, .ref o)]) (by decide) (Nat.le_of_ble_eq_true rfl) rfl (fun x Q h hr hnm => ?_)
  unfold pJ2_init
  refine v_aload_n (pc := 0) h dJ2_init_0 0 rfl rfl ?_
  refine v_initV (pc := 1) h dJ2_init_1 iJ2_1 (tJ1_init o I r h_o) (by decide) rfl rfl (Nat.le_of_ble_eq_true rfl) ⟨Nat.zero_le _, Nat.zero_le _⟩ (fun I1 => ?_)
  refine v_aload_n (pc := 4) h dJ2_init_4 0 rfl rfl ?_
  refine v_gete (pc := 5) h dJ2_init_5 q274 ?_
  refine v_putr (pc := 8) (o := (some ((gX g 0)))) h dJ2_init_8 fJ2_9 rfl rfl rfl h_o ?_
  refine v_nmr (fun r2 => ?_)
  refine v_and (fun h3 => ?_)
  exact v_vretW (pc := 11) h hr ⟨Nat.zero_le _, Nat.zero_le _⟩ dJ2_init_11
set_option maxHeartbeats 4000000 in
theorem tX10_init {g : Gl} (o : Nat) (a1 : Int32) (I : MI) (r : Rh) (h_o : rK r o = 10) : CtW g yX10_init cX10_init 2 2 0 0 [.ref o, .int a1] I r (pX10_init o a1 I r) := by
  refine CtW.mk (lv := [(0, .ref o), (1, .int a1)]) (by decide) (Nat.le_of_ble_eq_true rfl) rfl (fun x Q h hr hnm => ?_)
  unfold pX10_init
  refine v_aload_n (pc := 0) h dX10_init_0 0 rfl rfl ?_
  refine v_initV (pc := 1) h dX10_init_1 iX10_1 (tX9_init o I r ) (by decide) rfl rfl (Nat.le_of_ble_eq_true rfl) ⟨Nat.zero_le _, Nat.zero_le _⟩ (fun I1 => ?_)
  refine v_aload_n (pc := 4) h dX10_init_4 0 rfl rfl ?_
  refine v_iload_n (pc := 5) h dX10_init_5 1 rfl rfl ?_
  refine v_putFi (pc := 6) h hnm dX10_init_6 ffX10_7 rfl h_o ?_
  refine v_nmI (fun I2 => ?_)
  exact v_vretW (pc := 9) h hr ⟨Nat.zero_le _, Nat.zero_le _⟩ dX10_init_9
set_option maxHeartbeats 4000000 in
theorem tX11_init {g : Gl} (o : Nat) (a1 : Int32) (I : MI) (r : Rh) (h_o : rK r o = 11) : CtW g yX11_init cX11_init 2 2 0 0 [.ref o, .int a1] I r (pX11_init o a1 I r) := by
  refine CtW.mk (lv := [(0, .ref o), (1, .int a1)]) (by decide) (Nat.le_of_ble_eq_true rfl) rfl (fun x Q h hr hnm => ?_)
  unfold pX11_init
  refine v_aload_n (pc := 0) h dX11_init_0 0 rfl rfl ?_
  refine v_initV (pc := 1) h dX11_init_1 iX11_1 (tX9_init o I r ) (by decide) rfl rfl (Nat.le_of_ble_eq_true rfl) ⟨Nat.zero_le _, Nat.zero_le _⟩ (fun I1 => ?_)
  refine v_aload_n (pc := 4) h dX11_init_4 0 rfl rfl ?_
  refine v_iload_n (pc := 5) h dX11_init_5 1 rfl rfl ?_
  refine v_putFi (pc := 6) h hnm dX11_init_6 ffX11_7 rfl h_o ?_
  refine v_nmI (fun I2 => ?_)
  exact v_vretW (pc := 9) h hr ⟨Nat.zero_le _, Nat.zero_le _⟩ dX11_init_9
set_option maxHeartbeats 4000000 in
theorem tX12_init {g : Gl} (o : Nat) (a1 : Option Nat) (a2 : Int32) (a3 : Option Nat) (I : MI) (r : Rh) (h_o : rK r o = 12) : CtW g yX12_init cX12_init 4 2 0 0 [.ref o, va_rf a1, .int a2, va_rf a3] I r (pX12_init o a1 a2 a3 I r) := by
  refine CtW.mk (lv := [(0, .ref o), (1, va_rf a1), (2, .int a2), (3, va_rf a3)]) (by decide) (by cases a1 <;> cases a3 <;> exact Nat.le_of_ble_eq_true rfl) (by cases a1 <;> cases a3 <;> rfl) (fun x Q h hr hnm => ?_)
  unfold pX12_init
  refine v_aload_n (pc := 0) h dX12_init_0 0 rfl rfl ?_
  refine v_initV (pc := 1) h dX12_init_1 iX12_3 (tX9_init o I r ) (by decide) rfl rfl (Nat.le_of_ble_eq_true rfl) ⟨Nat.zero_le _, Nat.zero_le _⟩ (fun I1 => ?_)
  refine v_aload_n (pc := 4) h dX12_init_4 0 rfl rfl ?_
  refine v_aload_nq (pc := 5) h dX12_init_5 1 rfl rfl ?_
  refine v_putFr (pc := 6) (o := a1) h hnm dX12_init_6 ffX12_9 (nq _) (fq _) rfl h_o ?_
  refine v_nmr (fun r2 => ?_)
  refine v_and (fun h3 => ?_)
  refine v_aload_n (pc := 9) h dX12_init_9 0 rfl rfl ?_
  refine v_iload_n (pc := 10) h dX12_init_10 2 rfl rfl ?_
  refine v_putFi (pc := 11) h hnm dX12_init_11 ffX12_15 rfl h3 ?_
  refine v_nmI (fun I4 => ?_)
  refine v_aload_n (pc := 14) h dX12_init_14 0 rfl rfl ?_
  refine v_aload_nq (pc := 15) h dX12_init_15 3 rfl rfl ?_
  refine v_putFr (pc := 16) (o := a3) h hnm dX12_init_16 ffX12_19 (nq _) (fq _) rfl h3 ?_
  refine v_nmr (fun r5 => ?_)
  refine v_and (fun h6 => ?_)
  exact v_vretW (pc := 19) h hr ⟨Nat.zero_le _, Nat.zero_le _⟩ dX12_init_19
set_option maxHeartbeats 4000000 in
theorem tX13_init {g : Gl} (o : Nat) (a1 : Option Nat) (I : MI) (r : Rh) (h_o : rK r o = 13) : CtW g yX13_init cX13_init 2 2 0 0 [.ref o, va_rf a1] I r (pX13_init o a1 I r) := by
  refine CtW.mk (lv := [(0, .ref o), (1, va_rf a1)]) (by decide) (by cases a1 <;> exact Nat.le_of_ble_eq_true rfl) (by cases a1 <;> rfl) (fun x Q h hr hnm => ?_)
  unfold pX13_init
  refine v_aload_n (pc := 0) h dX13_init_0 0 rfl rfl ?_
  refine v_initV (pc := 1) h dX13_init_1 iX13_1 (tX9_init o I r ) (by decide) rfl rfl (Nat.le_of_ble_eq_true rfl) ⟨Nat.zero_le _, Nat.zero_le _⟩ (fun I1 => ?_)
  refine v_aload_n (pc := 4) h dX13_init_4 0 rfl rfl ?_
  refine v_aload_nq (pc := 5) h dX13_init_5 1 rfl rfl ?_
  refine v_putFr (pc := 6) (o := a1) h hnm dX13_init_6 ffX13_7 (nq _) (fq _) rfl h_o ?_
  refine v_nmr (fun r2 => ?_)
  refine v_and (fun h3 => ?_)
  exact v_vretW (pc := 9) h hr ⟨Nat.zero_le _, Nat.zero_le _⟩ dX13_init_9
set_option maxHeartbeats 4000000 in
theorem tX14_init {g : Gl} (o : Nat) (a1 : Int32) (a2 : Option Nat) (a3 : Option Nat) (I : MI) (r : Rh) (h_o : rK r o = 14) : CtW g yX14_init cX14_init 4 1 0 0 [.ref o, .int a1, va_rf a2, va_rf a3] I r (pX14_init o a1 a2 a3 I r) := by
  refine CtW.mk (lv := [(0, .ref o), (1, .int a1), (2, va_rf a2), (3, va_rf a3)]) (by decide) (by cases a2 <;> cases a3 <;> exact Nat.le_of_ble_eq_true rfl) (by cases a2 <;> cases a3 <;> rfl) (fun x Q h hr hnm => ?_)
  unfold pX14_init
  refine v_aload_n (pc := 0) h dX14_init_0 0 rfl rfl ?_
  refine v_objInit (pc := 1) h dX14_init_1 q832 (by decide) (Nat.le_of_ble_eq_true rfl) ?_
  refine v_aload_n (pc := 4) h dX14_init_4 0 rfl rfl ?_
  refine v_iload_n (pc := 5) h dX14_init_5 1 rfl rfl ?_
  refine v_putFi (pc := 6) h hnm dX14_init_6 ffX14_7 rfl h_o ?_
  refine v_nmI (fun I1 => ?_)
  refine v_aload_n (pc := 9) h dX14_init_9 0 rfl rfl ?_
  refine v_aload_nq (pc := 10) h dX14_init_10 2 rfl rfl ?_
  refine v_putFr (pc := 11) (o := a2) h hnm dX14_init_11 ffX14_13 (nq _) (fq _) rfl h_o ?_
  refine v_nmr (fun r2 => ?_)
  refine v_and (fun h3 => ?_)
  refine v_aload_n (pc := 14) h dX14_init_14 0 rfl rfl ?_
  refine v_aload_nq (pc := 15) h dX14_init_15 3 rfl rfl ?_
  refine v_putFr (pc := 16) (o := a3) h hnm dX14_init_16 ffX14_17 (nq _) (fq _) rfl h3 ?_
  refine v_nmr (fun r4 => ?_)
  refine v_and (fun h5 => ?_)
  exact v_vretW (pc := 19) h hr ⟨Nat.zero_le _, Nat.zero_le _⟩ dX14_init_19
set_option maxHeartbeats 4000000 in
theorem tX15_init {g : Gl} (o : Nat) (a1 : Int32) (a2 : Int32) (a3 : Int32) (a4 : Int32) (I : MI) (r : Rh) (h_o : rK r o = 15) : CtW g yX15_init cX15_init 5 1 0 0 [.ref o, .int a1, .int a2, .int a3, .int a4] I r (pX15_init o a1 a2 a3 a4 I r) := by
  refine CtW.mk (lv := [(0, .ref o), (1, .int a1), (2, .int a2), (3, .int a3), (4, .int a4)]) (by decide) (Nat.le_of_ble_eq_true rfl) rfl (fun x Q h hr hnm => ?_)
  unfold pX15_init
  refine v_aload_n (pc := 0) h dX15_init_0 0 rfl rfl ?_
  refine v_objInit (pc := 1) h dX15_init_1 q923 (by decide) (Nat.le_of_ble_eq_true rfl) ?_
  refine v_aload_n (pc := 4) h dX15_init_4 0 rfl rfl ?_
  refine v_iload_n (pc := 5) h dX15_init_5 1 rfl rfl ?_
  refine v_putFi (pc := 6) h hnm dX15_init_6 ffX15_7 rfl h_o ?_
  refine v_nmI (fun I1 => ?_)
  refine v_aload_n (pc := 9) h dX15_init_9 0 rfl rfl ?_
  refine v_iload_n (pc := 10) h dX15_init_10 2 rfl rfl ?_
  refine v_putFi (pc := 11) h hnm dX15_init_11 ffX15_13 rfl h_o ?_
  refine v_nmI (fun I2 => ?_)
  refine v_aload_n (pc := 14) h dX15_init_14 0 rfl rfl ?_
  refine v_iload_n (pc := 15) h dX15_init_15 3 rfl rfl ?_
  refine v_putFi (pc := 16) h hnm dX15_init_16 ffX15_16 rfl h_o ?_
  refine v_nmI (fun I3 => ?_)
  refine v_aload_n (pc := 19) h dX15_init_19 0 rfl rfl ?_
  refine v_iload (pc := 20) h dX15_init_20 4 rfl ?_
  refine v_putFi (pc := 22) h hnm dX15_init_22 ffX15_19 rfl h_o ?_
  refine v_nmI (fun I4 => ?_)
  exact v_vretW (pc := 25) h hr ⟨Nat.zero_le _, Nat.zero_le _⟩ dX15_init_25
set_option maxHeartbeats 4000000 in
theorem tX2_init {g : Gl} (o : Nat) (cN cS : Nat) (I : MI) (r : Rh) (h_o : rK r o = 2) : CtN g yX2_init cX2_init 2 2 cN cS [.ref o] I r (pX2_init o cN cS I r) := by
  refine CtN.mk (lv := [(0, .ref o)]) (by decide) (Nat.le_of_ble_eq_true rfl) rfl (fun x Q h hr hRm hnm => ?_)
  unfold pX2_init
  refine v_and (fun hw0 => ?_)
  refine v_aload_n (pc := 0) h dX2_init_0 0 rfl rfl ?_
  refine v_objInit (pc := 1) h dX2_init_1 q195 (by decide) (Nat.le_of_ble_eq_true rfl) ?_
  refine v_aload_n (pc := 4) h dX2_init_4 0 rfl rfl ?_
  refine v_bipush (pc := 5) h dX2_init_5 (v := 24) rfl ?_
  refine v_newq (pc := 7) (t := 3) (len := 24) h dX2_init_7 q196 h.2.2.2.2.2.2.2.2.1.2.2.2.2.1 rfl (by decide) rfl (by decide) hRm hw0.1 hw0.2.2.1 ?_
  refine v_nmI (fun I1 => ?_)
  refine v_nmrN (r := aR r (50 + 3) 24 24) (fun r2 => ?_)
  refine v_and (fun hw3 => ?_)
  refine v_and (fun h4 => ?_)
  refine v_and (fun h5 => ?_)
  refine v_and (fun h6 => ?_)
  refine v_putFr (pc := 10) (o := (some (rN r))) h hnm dX2_init_10 ffX2_11 rfl rfl rfl h4 ?_
  refine v_nmrN (r := wP r2 o 0 (some (rN r))) (fun r7 => ?_)
  refine v_and (fun hw8 => ?_)
  refine v_and (fun h9 => ?_)
  refine v_iconst (pc := 13) h dX2_init_13 (v := 0) rfl ?_
  refine v_istore_n (pc := 14) h dX2_init_14 rfl (by decide) (lv' := [(1, .int (0 : Int32)), (0, .ref o)]) rfl ?_
  refine v_sub [1, 0] rfl ?_
  refine L3.runQ (q := fun i1_10 I11 r12 => (rN r12 - rN r, rS r12 - rS r)) (lv := fun i1_10 I11 r12 => [(0, .ref o), (1, .int i1_10)]) (st := fun i1_10 I11 r12 => []) (Im := fun i1_10 I11 r12 => I11) (r := fun i1_10 I11 r12 => r12) (fun X13 hX13 i1_10 I11 r12 => ?_) (0 : Int32) I1 r7
  refine v_and (fun hw14 => ?_)
  refine v_and (fun h15 => ?_)
  refine v_iload_n (pc := 15) h dX2_init_15 1 rfl rfl ?_
  refine v_bipush (pc := 16) h dX2_init_16 (v := 24) rfl ?_
  refine v_icmp_ge (pc := 18) (t := 40) h dX2_init_18 rfl (fun _ => ?_) (fun _ => ?_)
  · exact v_vretN (pc := 40) h hr dX2_init_40
  · refine v_aload_n (pc := 21) h dX2_init_21 0 rfl rfl ?_
    refine v_getx (pc := 22) h dX2_init_22 fX2_11 rfl h15 (fun b16 h17 => ?_)
    refine v_and (fun h18 => ?_)
    refine v_iload_n (pc := 25) h dX2_init_25 1 rfl rfl ?_
    refine v_new (pc := 26) h dX2_init_26 nX2_9 hRm hw14.1 hw14.2.2.1 ?_
    refine v_nmI (fun I19 => ?_)
    refine v_nmrN (r := aR r12 3 0 5) (fun r20 => ?_)
    refine v_and (fun hw21 => ?_)
    refine v_and (fun h22 => ?_)
    refine v_and (fun h23 => ?_)
    refine v_and (fun h24 => ?_)
    refine v_and (fun h25 => ?_)
    refine v_dup (pc := 29) h dX2_init_29 rfl ?_
    refine v_initV (pc := 30) h dX2_init_30 iX2_17 (tX3_init (rN r12) I19 r20 h23) (by decide) rfl rfl (Nat.le_of_ble_eq_true rfl) (Wt.hq hRm hw21) (fun I26 => ?_)
    refine v_aast (pc := 33) h dX2_init_33 (t := 3) h24 rfl (c := 3) rfl h23 h25 ?_
    refine v_nmrN (r := wP r20 b16 i1_10.toNatClampNeg (some (rN r12))) (fun r27 => ?_)
    refine v_and (fun hw28 => ?_)
    refine v_and (fun h29 => ?_)
    refine v_iinc (pc := 34) h dX2_init_34 1 rfl (w := (i1_10 + (1 : Int32))) rfl (by decide) (lv' := [(1, .int (i1_10 + (1 : Int32))), (0, .ref o)]) rfl ?_
    refine v_goto (pc := 37) (t := 15) h dX2_init_37 rfl ?_
    refine v_sub [1, 0] rfl ?_
    exact hX13 (i1_10 + (1 : Int32)) I26 r27
set_option maxHeartbeats 4000000 in
theorem tX4_init {g : Gl} (o : Nat) (a1 : Int32) (cN cS : Nat) (I : MI) (r : Rh) (h_o : rK r o = 4) : CtN g yX4_init cX4_init 2 1 cN cS [.ref o, .int a1] I r (pX4_init o a1 cN cS I r) := by
  refine CtN.mk (lv := [(0, .ref o), (1, .int a1)]) (by decide) (Nat.le_of_ble_eq_true rfl) rfl (fun x Q h hr hRm hnm => ?_)
  unfold pX4_init
  refine v_and (fun hw0 => ?_)
  refine v_aload_n (pc := 0) h dX4_init_0 0 rfl rfl ?_
  refine v_objInit (pc := 1) h dX4_init_1 q250 (by decide) (Nat.le_of_ble_eq_true rfl) ?_
  refine v_aload_n (pc := 4) h dX4_init_4 0 rfl rfl ?_
  refine v_iload_n (pc := 5) h dX4_init_5 1 rfl rfl ?_
  refine v_iconst (pc := 6) h dX4_init_6 (v := 3) rfl ?_
  refine v_and (fun h1 => ?_)
  refine v_multi (pc := 7) (N := a1.toNatClampNeg) (M := 3) h dX4_init_7 q251 h1.1 (by decide) rfl rfl h1.2 (by decide) hRm hw0.1 hw0.2.2.1 ?_
  refine v_nmI (fun I2 => ?_)
  refine v_nmrN (r := mR r a1.toNatClampNeg 3) (fun r3 => ?_)
  refine v_and (fun hw4 => ?_)
  refine v_and (fun h5 => ?_)
  refine v_and (fun h6 => ?_)
  refine v_and (fun h7 => ?_)
  refine v_putFr (pc := 11) (o := (some (rN r))) h hnm dX4_init_11 ffX4_11 rfl rfl rfl h5 ?_
  refine v_nmrN (r := wP r3 o 0 (some (rN r))) (fun r8 => ?_)
  refine v_and (fun hw9 => ?_)
  refine v_and (fun h10 => ?_)
  exact v_vretN (pc := 14) h hr dX4_init_14
set_option maxHeartbeats 4000000 in
theorem tX1_init {g : Gl} (o : Nat) (cN cS : Nat) (I : MI) (r : Rh) (h_o : rK r o = 1) : CtN g yX1_init cX1_init 2 4 cN cS [.ref o] I r (pX1_init (gX g 0) o cN cS I r) := by
  refine CtN.mk (lv := [(0, .ref o)]) (by decide) (Nat.le_of_ble_eq_true rfl) rfl (fun x Q h hr hRm hnm => ?_)
  unfold pX1_init
  refine v_and (fun hw0 => ?_)
  refine v_aload_n (pc := 0) h dX1_init_0 0 rfl rfl ?_
  refine v_objInit (pc := 1) h dX1_init_1 q187 (by decide) (Nat.le_of_ble_eq_true rfl) ?_
  refine v_aload_n (pc := 4) h dX1_init_4 0 rfl rfl ?_
  refine v_bipush (pc := 5) h dX1_init_5 (v := 12) rfl ?_
  refine v_newq (pc := 7) (t := 2) (len := 12) h dX1_init_7 q188 h.2.2.2.2.2.2.2.2.1.2.2.2.1 rfl (by decide) rfl (by decide) hRm hw0.1 hw0.2.2.1 ?_
  refine v_nmI (fun I1 => ?_)
  refine v_nmrN (r := aR r (50 + 2) 12 12) (fun r2 => ?_)
  refine v_and (fun hw3 => ?_)
  refine v_and (fun h4 => ?_)
  refine v_and (fun h5 => ?_)
  refine v_and (fun h6 => ?_)
  refine v_putFr (pc := 10) (o := (some (rN r))) h hnm dX1_init_10 ffX1_11 rfl rfl rfl h4 ?_
  refine v_nmrN (r := wP r2 o 0 (some (rN r))) (fun r7 => ?_)
  refine v_and (fun hw8 => ?_)
  refine v_and (fun h9 => ?_)
  refine v_aload_n (pc := 13) h dX1_init_13 0 rfl rfl ?_
  refine v_new (pc := 14) h dX1_init_14 nX1_17 hRm hw8.1 hw8.2.2.1 ?_
  refine v_nmI (fun I10 => ?_)
  refine v_nmrN (r := aR r7 2 0 2) (fun r11 => ?_)
  refine v_and (fun hw12 => ?_)
  refine v_and (fun h13 => ?_)
  refine v_and (fun h14 => ?_)
  refine v_dup (pc := 17) h dX1_init_17 rfl ?_
  refine v_initN (r0 := r) (pc := 18) h dX1_init_18 iX1_19 (fun c1 c2 => tX2_init (rN r7) c1 c2 I10 r11 h14) (by decide) rfl rfl (Nat.le_of_ble_eq_true rfl) hRm hw12 (fun I15 s16 => ?_)
  refine v_and (fun hw19 => ?_)
  refine v_and (fun h20 => ?_)
  refine v_and (fun h21 => ?_)
  refine v_putFr (pc := 21) (o := (some (rN r7))) h hnm dX1_init_21 ffX1_20 rfl rfl rfl h20 ?_
  refine v_nmrN (r := wP s16 o 1 (some (rN r7))) (fun r22 => ?_)
  refine v_and (fun hw23 => ?_)
  refine v_and (fun h24 => ?_)
  refine v_aload_n (pc := 24) h dX1_init_24 0 rfl rfl ?_
  refine v_bipush (pc := 25) h dX1_init_25 (v := 7) rfl ?_
  refine v_newi (pc := 27) (len := 7) h dX1_init_27 (by decide) rfl (by decide) hRm hw23.1 hw23.2.2.1 ?_
  refine v_nmI (fun I25 => ?_)
  refine v_nmrN (r := aR r22 50 7 7) (fun r26 => ?_)
  refine v_and (fun hw27 => ?_)
  refine v_and (fun h28 => ?_)
  refine v_and (fun h29 => ?_)
  refine v_and (fun h30 => ?_)
  refine v_putFr (pc := 29) (o := (some (rN r22))) h hnm dX1_init_29 ffX1_24 rfl rfl rfl h28 ?_
  refine v_nmrN (r := wP r26 o 2 (some (rN r22))) (fun r31 => ?_)
  refine v_and (fun hw32 => ?_)
  refine v_and (fun h33 => ?_)
  refine v_aload_n (pc := 32) h dX1_init_32 0 rfl rfl ?_
  refine v_bipush (pc := 33) h dX1_init_33 (v := 26) rfl ?_
  refine v_newi (pc := 35) (len := 26) h dX1_init_35 (by decide) rfl (by decide) hRm hw32.1 hw32.2.2.1 ?_
  refine v_nmI (fun I34 => ?_)
  refine v_nmrN (r := aR r31 50 26 26) (fun r35 => ?_)
  refine v_and (fun hw36 => ?_)
  refine v_and (fun h37 => ?_)
  refine v_and (fun h38 => ?_)
  refine v_and (fun h39 => ?_)
  refine v_putFr (pc := 37) (o := (some (rN r31))) h hnm dX1_init_37 ffX1_28 rfl rfl rfl h37 ?_
  refine v_nmrN (r := wP r35 o 3 (some (rN r31))) (fun r40 => ?_)
  refine v_and (fun hw41 => ?_)
  refine v_and (fun h42 => ?_)
  refine v_aload_n (pc := 40) h dX1_init_40 0 rfl rfl ?_
  refine v_sipush (pc := 41) h dX1_init_41 (v := 150) rfl ?_
  refine v_iconst (pc := 44) h dX1_init_44 (v := 4) rfl ?_
  refine v_multi (pc := 45) (N := 150) (M := 4) h dX1_init_45 q243 (by decide) (by decide) rfl rfl (by decide) (by decide) hRm hw41.1 hw41.2.2.1 ?_
  refine v_nmI (fun I43 => ?_)
  refine v_nmrN (r := mR r40 150 4) (fun r44 => ?_)
  refine v_and (fun hw45 => ?_)
  refine v_and (fun h46 => ?_)
  refine v_and (fun h47 => ?_)
  refine v_and (fun h48 => ?_)
  refine v_putFr (pc := 49) (o := (some (rN r40))) h hnm dX1_init_49 ffX1_33 rfl rfl rfl h46 ?_
  refine v_nmrN (r := wP r44 o 4 (some (rN r40))) (fun r49 => ?_)
  refine v_and (fun hw50 => ?_)
  refine v_and (fun h51 => ?_)
  refine v_aload_n (pc := 52) h dX1_init_52 0 rfl rfl ?_
  refine v_new (pc := 53) h dX1_init_53 nX1_36 hRm hw50.1 hw50.2.2.1 ?_
  refine v_nmI (fun I52 => ?_)
  refine v_nmrN (r := aR r49 4 0 2) (fun r53 => ?_)
  refine v_and (fun hw54 => ?_)
  refine v_and (fun h55 => ?_)
  refine v_and (fun h56 => ?_)
  refine v_dup (pc := 56) h dX1_init_56 rfl ?_
  refine v_bipush (pc := 57) h dX1_init_57 (v := 8) rfl ?_
  refine v_initN (r0 := r) (pc := 59) h dX1_init_59 iX1_38 (fun c1 c2 => tX4_init (rN r49) (8 : Int32) c1 c2 I52 r53 h56) (by decide) rfl rfl (Nat.le_of_ble_eq_true rfl) hRm hw54 (fun I57 s58 => ?_)
  refine v_and (fun hw61 => ?_)
  refine v_and (fun h62 => ?_)
  refine v_and (fun h63 => ?_)
  refine v_putFr (pc := 62) (o := (some (rN r49))) h hnm dX1_init_62 ffX1_41 rfl rfl rfl h62 ?_
  refine v_nmrN (r := wP s58 o 5 (some (rN r49))) (fun r64 => ?_)
  refine v_and (fun hw65 => ?_)
  refine v_and (fun h66 => ?_)
  refine v_aload_n (pc := 65) h dX1_init_65 0 rfl rfl ?_
  refine v_new (pc := 66) h dX1_init_66 nX1_36 hRm hw65.1 hw65.2.2.1 ?_
  refine v_nmI (fun I67 => ?_)
  refine v_nmrN (r := aR r64 4 0 2) (fun r68 => ?_)
  refine v_and (fun hw69 => ?_)
  refine v_and (fun h70 => ?_)
  refine v_and (fun h71 => ?_)
  refine v_dup (pc := 69) h dX1_init_69 rfl ?_
  refine v_bipush (pc := 70) h dX1_init_70 (v := 16) rfl ?_
  refine v_initN (r0 := r) (pc := 72) h dX1_init_72 iX1_38 (fun c1 c2 => tX4_init (rN r64) (16 : Int32) c1 c2 I67 r68 h71) (by decide) rfl rfl (Nat.le_of_ble_eq_true rfl) hRm hw69 (fun I72 s73 => ?_)
  refine v_and (fun hw76 => ?_)
  refine v_and (fun h77 => ?_)
  refine v_and (fun h78 => ?_)
  refine v_putFr (pc := 75) (o := (some (rN r64))) h hnm dX1_init_75 ffX1_45 rfl rfl rfl h77 ?_
  refine v_nmrN (r := wP s73 o 6 (some (rN r64))) (fun r79 => ?_)
  refine v_and (fun hw80 => ?_)
  refine v_and (fun h81 => ?_)
  refine v_aload_n (pc := 78) h dX1_init_78 0 rfl rfl ?_
  refine v_new (pc := 79) h dX1_init_79 nX1_36 hRm hw80.1 hw80.2.2.1 ?_
  refine v_nmI (fun I82 => ?_)
  refine v_nmrN (r := aR r79 4 0 2) (fun r83 => ?_)
  refine v_and (fun hw84 => ?_)
  refine v_and (fun h85 => ?_)
  refine v_and (fun h86 => ?_)
  refine v_dup (pc := 82) h dX1_init_82 rfl ?_
  refine v_bipush (pc := 83) h dX1_init_83 (v := 8) rfl ?_
  refine v_initN (r0 := r) (pc := 85) h dX1_init_85 iX1_38 (fun c1 c2 => tX4_init (rN r79) (8 : Int32) c1 c2 I82 r83 h86) (by decide) rfl rfl (Nat.le_of_ble_eq_true rfl) hRm hw84 (fun I87 s88 => ?_)
  refine v_and (fun hw91 => ?_)
  refine v_and (fun h92 => ?_)
  refine v_and (fun h93 => ?_)
  refine v_putFr (pc := 88) (o := (some (rN r79))) h hnm dX1_init_88 ffX1_48 rfl rfl rfl h92 ?_
  refine v_nmrN (r := wP s88 o 7 (some (rN r79))) (fun r94 => ?_)
  refine v_and (fun hw95 => ?_)
  refine v_and (fun h96 => ?_)
  refine v_aload_n (pc := 91) h dX1_init_91 0 rfl rfl ?_
  refine v_new (pc := 92) h dX1_init_92 nX1_36 hRm hw95.1 hw95.2.2.1 ?_
  refine v_nmI (fun I97 => ?_)
  refine v_nmrN (r := aR r94 4 0 2) (fun r98 => ?_)
  refine v_and (fun hw99 => ?_)
  refine v_and (fun h100 => ?_)
  refine v_and (fun h101 => ?_)
  refine v_dup (pc := 95) h dX1_init_95 rfl ?_
  refine v_bipush (pc := 96) h dX1_init_96 (v := 12) rfl ?_
  refine v_initN (r0 := r) (pc := 98) h dX1_init_98 iX1_38 (fun c1 c2 => tX4_init (rN r94) (12 : Int32) c1 c2 I97 r98 h101) (by decide) rfl rfl (Nat.le_of_ble_eq_true rfl) hRm hw99 (fun I102 s103 => ?_)
  refine v_and (fun hw106 => ?_)
  refine v_and (fun h107 => ?_)
  refine v_and (fun h108 => ?_)
  refine v_putFr (pc := 101) (o := (some (rN r94))) h hnm dX1_init_101 ffX1_51 rfl rfl rfl h107 ?_
  refine v_nmrN (r := wP s103 o 8 (some (rN r94))) (fun r109 => ?_)
  refine v_and (fun hw110 => ?_)
  refine v_and (fun h111 => ?_)
  refine v_aload_n (pc := 104) h dX1_init_104 0 rfl rfl ?_
  refine v_new (pc := 105) h dX1_init_105 nX1_36 hRm hw110.1 hw110.2.2.1 ?_
  refine v_nmI (fun I112 => ?_)
  refine v_nmrN (r := aR r109 4 0 2) (fun r113 => ?_)
  refine v_and (fun hw114 => ?_)
  refine v_and (fun h115 => ?_)
  refine v_and (fun h116 => ?_)
  refine v_dup (pc := 108) h dX1_init_108 rfl ?_
  refine v_bipush (pc := 109) h dX1_init_109 (v := 8) rfl ?_
  refine v_initN (r0 := r) (pc := 111) h dX1_init_111 iX1_38 (fun c1 c2 => tX4_init (rN r109) (8 : Int32) c1 c2 I112 r113 h116) (by decide) rfl rfl (Nat.le_of_ble_eq_true rfl) hRm hw114 (fun I117 s118 => ?_)
  refine v_and (fun hw121 => ?_)
  refine v_and (fun h122 => ?_)
  refine v_and (fun h123 => ?_)
  refine v_putFr (pc := 114) (o := (some (rN r109))) h hnm dX1_init_114 ffX1_54 rfl rfl rfl h122 ?_
  refine v_nmrN (r := wP s118 o 9 (some (rN r109))) (fun r124 => ?_)
  refine v_and (fun hw125 => ?_)
  refine v_and (fun h126 => ?_)
  refine v_aload_n (pc := 117) h dX1_init_117 0 rfl rfl ?_
  refine v_new (pc := 118) h dX1_init_118 nX1_57 hRm hw125.1 hw125.2.2.1 ?_
  refine v_nmI (fun I127 => ?_)
  refine v_nmrN (r := aR r124 9 0 3) (fun r128 => ?_)
  refine v_and (fun hw129 => ?_)
  refine v_and (fun h130 => ?_)
  refine v_and (fun h131 => ?_)
  refine v_dup (pc := 121) h dX1_init_121 rfl ?_
  refine v_initW (r0 := r) (pc := 122) h dX1_init_122 iX1_59 (tJ2_init (rN r124) I127 r128 h131) (by decide) rfl rfl (Nat.le_of_ble_eq_true rfl) (Wt.hq hRm hw129) (fun I132 s133 => ?_)
  refine v_and (fun hw134 => ?_)
  refine v_and (fun h135 => ?_)
  refine v_and (fun h136 => ?_)
  refine v_putr (pc := 125) (o := (some (rN r124))) h dX1_init_125 fX1_60 rfl rfl rfl h135 ?_
  refine v_nmrN (r := wP s133 o 10 (some (rN r124))) (fun r137 => ?_)
  refine v_and (fun hw138 => ?_)
  refine v_and (fun h139 => ?_)
  refine v_aload_n (pc := 128) h dX1_init_128 0 rfl rfl ?_
  refine v_new (pc := 129) h dX1_init_129 nX1_57 hRm hw138.1 hw138.2.2.1 ?_
  refine v_nmI (fun I140 => ?_)
  refine v_nmrN (r := aR r137 9 0 3) (fun r141 => ?_)
  refine v_and (fun hw142 => ?_)
  refine v_and (fun h143 => ?_)
  refine v_and (fun h144 => ?_)
  refine v_dup (pc := 132) h dX1_init_132 rfl ?_
  refine v_initW (r0 := r) (pc := 133) h dX1_init_133 iX1_59 (tJ2_init (rN r137) I140 r141 h144) (by decide) rfl rfl (Nat.le_of_ble_eq_true rfl) (Wt.hq hRm hw142) (fun I145 s146 => ?_)
  refine v_and (fun hw147 => ?_)
  refine v_and (fun h148 => ?_)
  refine v_and (fun h149 => ?_)
  refine v_putr (pc := 136) (o := (some (rN r137))) h dX1_init_136 fX1_64 rfl rfl rfl h148 ?_
  refine v_nmrN (r := wP s146 o 11 (some (rN r137))) (fun r150 => ?_)
  refine v_and (fun hw151 => ?_)
  refine v_and (fun h152 => ?_)
  refine v_aload_n (pc := 139) h dX1_init_139 0 rfl rfl ?_
  refine v_bipush (pc := 140) h dX1_init_140 (v := 16) rfl ?_
  refine v_newi (pc := 142) (len := 16) h dX1_init_142 (by decide) rfl (by decide) hRm hw151.1 hw151.2.2.1 ?_
  refine v_nmI (fun I153 => ?_)
  refine v_nmrN (r := aR r150 50 16 16) (fun r154 => ?_)
  refine v_and (fun hw155 => ?_)
  refine v_and (fun h156 => ?_)
  refine v_and (fun h157 => ?_)
  refine v_and (fun h158 => ?_)
  refine v_putr (pc := 144) (o := (some (rN r150))) h dX1_init_144 fX1_67 rfl rfl rfl h156 ?_
  refine v_nmrN (r := wP r154 o 12 (some (rN r150))) (fun r159 => ?_)
  refine v_and (fun hw160 => ?_)
  refine v_and (fun h161 => ?_)
  refine v_aload_n (pc := 147) h dX1_init_147 0 rfl rfl ?_
  refine v_sipush (pc := 148) h dX1_init_148 (v := 144) rfl ?_
  refine v_newi (pc := 151) (len := 144) h dX1_init_151 (by decide) rfl (by decide) hRm hw160.1 hw160.2.2.1 ?_
  refine v_nmI (fun I162 => ?_)
  refine v_nmrN (r := aR r159 50 144 144) (fun r163 => ?_)
  refine v_and (fun hw164 => ?_)
  refine v_and (fun h165 => ?_)
  refine v_and (fun h166 => ?_)
  refine v_and (fun h167 => ?_)
  refine v_putr (pc := 153) (o := (some (rN r159))) h dX1_init_153 fX1_70 rfl rfl rfl h165 ?_
  refine v_nmrN (r := wP r163 o 13 (some (rN r159))) (fun r168 => ?_)
  refine v_and (fun hw169 => ?_)
  refine v_and (fun h170 => ?_)
  refine v_aload_n (pc := 156) h dX1_init_156 0 rfl rfl ?_
  refine v_bipush (pc := 157) h dX1_init_157 (v := 99) rfl ?_
  refine v_puti (pc := 159) h dX1_init_159 fX1_73 rfl h170 ?_
  refine v_nmI (fun I171 => ?_)
  refine v_iconst (pc := 162) h dX1_init_162 (v := 0) rfl ?_
  refine v_istore_n (pc := 163) h dX1_init_163 rfl (by decide) (lv' := [(1, .int (0 : Int32)), (0, .ref o)]) rfl ?_
  refine v_sub [1, 0] rfl ?_
  refine L3.runQ (q := fun i1_172 I173 r174 => (rN r174 - rN r, rS r174 - rS r)) (lv := fun i1_172 I173 r174 => [(0, .ref o), (1, .int i1_172)]) (st := fun i1_172 I173 r174 => []) (Im := fun i1_172 I173 r174 => I173) (r := fun i1_172 I173 r174 => r174) (fun X175 hX175 i1_172 I173 r174 => ?_) (0 : Int32) I171 r168
  refine v_and (fun hw176 => ?_)
  refine v_and (fun h177 => ?_)
  refine v_iload_n (pc := 164) h dX1_init_164 1 rfl rfl ?_
  refine v_bipush (pc := 165) h dX1_init_165 (v := 12) rfl ?_
  refine v_icmp_ge (pc := 167) (t := 189) h dX1_init_167 rfl (fun _ => ?_) (fun _ => ?_)
  · refine v_iconst (pc := 189) h dX1_init_189 (v := 0) rfl ?_
    refine v_istore_n (pc := 190) h dX1_init_190 rfl (by decide) (lv' := [(1, .int (0 : Int32)), (0, .ref o)]) rfl ?_
    refine v_sub [1, 0] rfl ?_
    refine L2.runQ (q := fun i1_178 I179 => (rN r174 - rN r, rS r174 - rS r)) (lv := fun i1_178 I179 => [(0, .ref o), (1, .int i1_178)]) (st := fun i1_178 I179 => []) (Im := fun i1_178 I179 => I179) (r := fun i1_178 I179 => r174) (fun X180 hX180 i1_178 I179 => ?_) (0 : Int32) I173
    refine v_iload_n (pc := 191) h dX1_init_191 1 rfl rfl ?_
    refine v_aload_n (pc := 192) h dX1_init_192 0 rfl rfl ?_
    refine v_getx (pc := 193) h dX1_init_193 fX1_70 rfl h177 (fun b181 h182 => ?_)
    refine v_and (fun h183 => ?_)
    refine v_alen (pc := 196) h dX1_init_196 (t := 0) h183 rfl rfl ?_
    refine v_icmp_ge (pc := 197) (t := 213) h dX1_init_197 rfl (fun _ => ?_) (fun _ => ?_)
    · exact v_vretN (pc := 213) h hr dX1_init_213
    · refine v_aload_n (pc := 200) h dX1_init_200 0 rfl rfl ?_
      refine v_getx (pc := 201) h dX1_init_201 fX1_70 rfl h177 (fun b184 h185 => ?_)
      refine v_and (fun h186 => ?_)
      refine v_iload_n (pc := 204) h dX1_init_204 1 rfl rfl ?_
      refine v_iconst (pc := 205) h dX1_init_205 (v := (-1)) rfl ?_
      refine v_iast (pc := 206) h dX1_init_206 h186 rfl ?_
      refine v_nmI (fun I187 => ?_)
      refine v_iinc (pc := 207) h dX1_init_207 1 rfl (w := (i1_178 + (1 : Int32))) rfl (by decide) (lv' := [(1, .int (i1_178 + (1 : Int32))), (0, .ref o)]) rfl ?_
      refine v_goto (pc := 210) (t := 191) h dX1_init_210 rfl ?_
      refine v_sub [1, 0] rfl ?_
      exact hX180 (i1_178 + (1 : Int32)) I187
  · refine v_aload_n (pc := 170) h dX1_init_170 0 rfl rfl ?_
    refine v_getx (pc := 171) h dX1_init_171 fX1_11 rfl h177 (fun b188 h189 => ?_)
    refine v_and (fun h190 => ?_)
    refine v_iload_n (pc := 174) h dX1_init_174 1 rfl rfl ?_
    refine v_new (pc := 175) h dX1_init_175 nX1_9 hRm hw176.1 hw176.2.2.1 ?_
    refine v_nmI (fun I191 => ?_)
    refine v_nmrN (r := aR r174 5 0 4) (fun r192 => ?_)
    refine v_and (fun hw193 => ?_)
    refine v_and (fun h194 => ?_)
    refine v_and (fun h195 => ?_)
    refine v_and (fun h196 => ?_)
    refine v_and (fun h197 => ?_)
    refine v_dup (pc := 178) h dX1_init_178 rfl ?_
    refine v_initV (pc := 179) h dX1_init_179 iX1_77 (tX5_init (rN r174) I191 r192 h195) (by decide) rfl rfl (Nat.le_of_ble_eq_true rfl) (Wt.hq hRm hw193) (fun I198 => ?_)
    refine v_aast (pc := 182) h dX1_init_182 (t := 2) h196 rfl (c := 5) rfl h195 h197 ?_
    refine v_nmrN (r := wP r192 b188 i1_172.toNatClampNeg (some (rN r174))) (fun r199 => ?_)
    refine v_and (fun hw200 => ?_)
    refine v_and (fun h201 => ?_)
    refine v_iinc (pc := 183) h dX1_init_183 1 rfl (w := (i1_172 + (1 : Int32))) rfl (by decide) (lv' := [(1, .int (i1_172 + (1 : Int32))), (0, .ref o)]) rfl ?_
    refine v_goto (pc := 186) (t := 164) h dX1_init_186 rfl ?_
    refine v_sub [1, 0] rfl ?_
    exact hX175 (i1_172 + (1 : Int32)) I198 r199
set_option maxHeartbeats 4000000 in
theorem tX0_init {g : Gl} (o : Nat) (cN cS : Nat) (I : MI) (r : Rh) (h_o : rK r o = 0) : CtN g yX0_init cX0_init 2 5 cN cS [.ref o] I r (pX0_init (gX g 0) o cN cS I r) := by
  refine CtN.mk (lv := [(0, .ref o)]) (by decide) (Nat.le_of_ble_eq_true rfl) rfl (fun x Q h hr hRm hnm => ?_)
  unfold pX0_init
  refine v_and (fun hw0 => ?_)
  refine v_aload_n (pc := 0) h dX0_init_0 0 rfl rfl ?_
  refine v_objInit (pc := 1) h dX0_init_1 q179 (by decide) (Nat.le_of_ble_eq_true rfl) ?_
  refine v_aload_n (pc := 4) h dX0_init_4 0 rfl rfl ?_
  refine v_sipush (pc := 5) h dX0_init_5 (v := 400) rfl ?_
  refine v_newb (pc := 8) (len := 400) h dX0_init_8 (by decide) rfl (by decide) hRm hw0.1 hw0.2.2.1 ?_
  refine v_nmI (fun I1 => ?_)
  refine v_nmrN (r := aR r 51 400 400) (fun r2 => ?_)
  refine v_and (fun hw3 => ?_)
  refine v_and (fun h4 => ?_)
  refine v_and (fun h5 => ?_)
  refine v_and (fun h6 => ?_)
  refine v_putFr (pc := 10) (o := (some (rN r))) h hnm dX0_init_10 ffX0_9 rfl rfl rfl h4 ?_
  refine v_nmrN (r := wP r2 o 0 (some (rN r))) (fun r7 => ?_)
  refine v_and (fun hw8 => ?_)
  refine v_and (fun h9 => ?_)
  refine v_aload_n (pc := 13) h dX0_init_13 0 rfl rfl ?_
  refine v_iconst (pc := 14) h dX0_init_14 (v := (-1)) rfl ?_
  refine v_puti (pc := 15) h dX0_init_15 fX0_13 rfl h9 ?_
  refine v_nmI (fun I10 => ?_)
  refine v_aload_n (pc := 18) h dX0_init_18 0 rfl rfl ?_
  refine v_new (pc := 19) h dX0_init_19 nX0_17 hRm hw8.1 hw8.2.2.1 ?_
  refine v_nmI (fun I11 => ?_)
  refine v_nmrN (r := aR r7 1 0 29) (fun r12 => ?_)
  refine v_and (fun hw13 => ?_)
  refine v_and (fun h14 => ?_)
  refine v_and (fun h15 => ?_)
  refine v_dup (pc := 22) h dX0_init_22 rfl ?_
  refine v_initN (r0 := r) (pc := 23) h dX0_init_23 iX0_19 (fun c1 c2 => tX1_init (rN r7) c1 c2 I11 r12 h15) (by decide) rfl rfl (Nat.le_of_ble_eq_true rfl) hRm hw13 (fun I16 s17 => ?_)
  refine v_and (fun hw20 => ?_)
  refine v_and (fun h21 => ?_)
  refine v_and (fun h22 => ?_)
  refine v_putFr (pc := 26) (o := (some (rN r7))) h hnm dX0_init_26 ffX0_20 rfl rfl rfl h21 ?_
  refine v_nmrN (r := wP s17 o 4 (some (rN r7))) (fun r23 => ?_)
  refine v_and (fun hw24 => ?_)
  refine v_and (fun h25 => ?_)
  refine v_aload_n (pc := 29) h dX0_init_29 0 rfl rfl ?_
  refine v_new (pc := 30) h dX0_init_30 nX0_17 hRm hw24.1 hw24.2.2.1 ?_
  refine v_nmI (fun I26 => ?_)
  refine v_nmrN (r := aR r23 1 0 29) (fun r27 => ?_)
  refine v_and (fun hw28 => ?_)
  refine v_and (fun h29 => ?_)
  refine v_and (fun h30 => ?_)
  refine v_dup (pc := 33) h dX0_init_33 rfl ?_
  refine v_initN (r0 := r) (pc := 34) h dX0_init_34 iX0_19 (fun c1 c2 => tX1_init (rN r23) c1 c2 I26 r27 h30) (by decide) rfl rfl (Nat.le_of_ble_eq_true rfl) hRm hw28 (fun I31 s32 => ?_)
  refine v_and (fun hw35 => ?_)
  refine v_and (fun h36 => ?_)
  refine v_and (fun h37 => ?_)
  refine v_putFr (pc := 37) (o := (some (rN r23))) h hnm dX0_init_37 ffX0_24 rfl rfl rfl h36 ?_
  refine v_nmrN (r := wP s32 o 5 (some (rN r23))) (fun r38 => ?_)
  refine v_and (fun hw39 => ?_)
  refine v_and (fun h40 => ?_)
  refine v_aload_n (pc := 40) h dX0_init_40 0 rfl rfl ?_
  refine v_new (pc := 41) h dX0_init_41 nX0_17 hRm hw39.1 hw39.2.2.1 ?_
  refine v_nmI (fun I41 => ?_)
  refine v_nmrN (r := aR r38 1 0 29) (fun r42 => ?_)
  refine v_and (fun hw43 => ?_)
  refine v_and (fun h44 => ?_)
  refine v_and (fun h45 => ?_)
  refine v_dup (pc := 44) h dX0_init_44 rfl ?_
  refine v_initN (r0 := r) (pc := 45) h dX0_init_45 iX0_19 (fun c1 c2 => tX1_init (rN r38) c1 c2 I41 r42 h45) (by decide) rfl rfl (Nat.le_of_ble_eq_true rfl) hRm hw43 (fun I46 s47 => ?_)
  refine v_and (fun hw50 => ?_)
  refine v_and (fun h51 => ?_)
  refine v_and (fun h52 => ?_)
  refine v_putFr (pc := 48) (o := (some (rN r38))) h hnm dX0_init_48 ffX0_27 rfl rfl rfl h51 ?_
  refine v_nmrN (r := wP s47 o 6 (some (rN r38))) (fun r53 => ?_)
  refine v_and (fun hw54 => ?_)
  refine v_and (fun h55 => ?_)
  refine v_aload_n (pc := 51) h dX0_init_51 0 rfl rfl ?_
  refine v_bipush (pc := 52) h dX0_init_52 (v := 6) rfl ?_
  refine v_newq (pc := 54) (t := 4) (len := 6) h dX0_init_54 q182 h.2.2.2.2.2.2.2.2.1.2.2.2.2.2.1 rfl (by decide) rfl (by decide) hRm hw54.1 hw54.2.2.1 ?_
  refine v_nmI (fun I56 => ?_)
  refine v_nmrN (r := aR r53 (50 + 4) 6 6) (fun r57 => ?_)
  refine v_and (fun hw58 => ?_)
  refine v_and (fun h59 => ?_)
  refine v_and (fun h60 => ?_)
  refine v_and (fun h61 => ?_)
  refine v_putFr (pc := 57) (o := (some (rN r53))) h hnm dX0_init_57 ffX0_30 rfl rfl rfl h59 ?_
  refine v_nmrN (r := wP r57 o 7 (some (rN r53))) (fun r62 => ?_)
  refine v_and (fun hw63 => ?_)
  refine v_and (fun h64 => ?_)
  refine v_aload_n (pc := 60) h dX0_init_60 0 rfl rfl ?_
  refine v_getx (pc := 61) h dX0_init_61 fX0_27 rfl h64 (fun b65 h66 => ?_)
  refine v_and (fun h67 => ?_)
  refine v_iconst (pc := 64) h dX0_init_64 (v := 1) rfl ?_
  refine v_putz (pc := 65) h dX0_init_65 fX0_34 rfl (Or.inr rfl) h67 ?_
  refine v_nmI (fun I68 => ?_)
  refine v_iconst (pc := 68) h dX0_init_68 (v := 0) rfl ?_
  refine v_istore_n (pc := 69) h dX0_init_69 rfl (by decide) (lv' := [(1, .int (0 : Int32)), (0, .ref o)]) rfl ?_
  refine v_sub [1, 0] rfl ?_
  refine L3.runQ (q := fun i1_69 I70 r71 => (rN r71 - rN r, rS r71 - rS r)) (lv := fun i1_69 I70 r71 => [(0, .ref o), (1, .int i1_69)]) (st := fun i1_69 I70 r71 => []) (Im := fun i1_69 I70 r71 => I70) (r := fun i1_69 I70 r71 => r71) (fun X72 hX72 i1_69 I70 r71 => ?_) (0 : Int32) I68 r62
  refine v_and (fun hw73 => ?_)
  refine v_and (fun h74 => ?_)
  refine v_iload_n (pc := 70) h dX0_init_70 1 rfl rfl ?_
  refine v_bipush (pc := 71) h dX0_init_71 (v := 6) rfl ?_
  refine v_icmp_ge (pc := 73) (t := 95) h dX0_init_73 rfl (fun _ => ?_) (fun _ => ?_)
  · refine v_aload_n (pc := 95) h dX0_init_95 0 rfl rfl ?_
    refine v_bipush (pc := 96) h dX0_init_96 (v := 12) rfl ?_
    refine v_bipush (pc := 98) h dX0_init_98 (v := 12) rfl ?_
    refine v_multi (pc := 100) (N := 12) (M := 12) h dX0_init_100 q432 (by decide) (by decide) rfl rfl (by decide) (by decide) hRm hw73.1 hw73.2.2.1 ?_
    refine v_nmI (fun I75 => ?_)
    refine v_nmrN (r := mR r71 12 12) (fun r76 => ?_)
    refine v_and (fun hw77 => ?_)
    refine v_and (fun h78 => ?_)
    refine v_and (fun h79 => ?_)
    refine v_and (fun h80 => ?_)
    refine v_putFr (pc := 104) (o := (some (rN r71))) h hnm dX0_init_104 ffX0_40 rfl rfl rfl h78 ?_
    refine v_nmrN (r := wP r76 o 10 (some (rN r71))) (fun r81 => ?_)
    refine v_and (fun hw82 => ?_)
    refine v_and (fun h83 => ?_)
    refine v_aload_n (pc := 107) h dX0_init_107 0 rfl rfl ?_
    refine v_sipush (pc := 108) h dX0_init_108 (v := 256) rfl ?_
    refine v_bipush (pc := 111) h dX0_init_111 (v := 8) rfl ?_
    refine v_multi (pc := 113) (N := 256) (M := 8) h dX0_init_113 q432 (by decide) (by decide) rfl rfl (by decide) (by decide) hRm hw82.1 hw82.2.2.1 ?_
    refine v_nmI (fun I84 => ?_)
    refine v_nmrN (r := mR r81 256 8) (fun r85 => ?_)
    refine v_and (fun hw86 => ?_)
    refine v_and (fun h87 => ?_)
    refine v_and (fun h88 => ?_)
    refine v_and (fun h89 => ?_)
    refine v_putFr (pc := 117) (o := (some (rN r81))) h hnm dX0_init_117 ffX0_43 rfl rfl rfl h87 ?_
    refine v_nmrN (r := wP r85 o 11 (some (rN r81))) (fun r90 => ?_)
    refine v_and (fun hw91 => ?_)
    refine v_and (fun h92 => ?_)
    refine v_aload_n (pc := 120) h dX0_init_120 0 rfl rfl ?_
    refine v_bipush (pc := 121) h dX0_init_121 (v := 8) rfl ?_
    refine v_newi (pc := 123) (len := 8) h dX0_init_123 (by decide) rfl (by decide) hRm hw91.1 hw91.2.2.1 ?_
    refine v_nmI (fun I93 => ?_)
    refine v_nmrN (r := aR r90 50 8 8) (fun r94 => ?_)
    refine v_and (fun hw95 => ?_)
    refine v_and (fun h96 => ?_)
    refine v_and (fun h97 => ?_)
    refine v_and (fun h98 => ?_)
    refine v_putFr (pc := 125) (o := (some (rN r90))) h hnm dX0_init_125 ffX0_46 rfl rfl rfl h96 ?_
    refine v_nmrN (r := wP r94 o 12 (some (rN r90))) (fun r99 => ?_)
    refine v_and (fun hw100 => ?_)
    refine v_and (fun h101 => ?_)
    refine v_aload_n (pc := 128) h dX0_init_128 0 rfl rfl ?_
    refine v_sipush (pc := 129) h dX0_init_129 (v := 256) rfl ?_
    refine v_newi (pc := 132) (len := 256) h dX0_init_132 (by decide) rfl (by decide) hRm hw100.1 hw100.2.2.1 ?_
    refine v_nmI (fun I102 => ?_)
    refine v_nmrN (r := aR r99 50 256 256) (fun r103 => ?_)
    refine v_and (fun hw104 => ?_)
    refine v_and (fun h105 => ?_)
    refine v_and (fun h106 => ?_)
    refine v_and (fun h107 => ?_)
    refine v_putFr (pc := 134) (o := (some (rN r99))) h hnm dX0_init_134 ffX0_50 rfl rfl rfl h105 ?_
    refine v_nmrN (r := wP r103 o 13 (some (rN r99))) (fun r108 => ?_)
    refine v_and (fun hw109 => ?_)
    refine v_and (fun h110 => ?_)
    refine v_aload_n (pc := 137) h dX0_init_137 0 rfl rfl ?_
    refine v_bipush (pc := 138) h dX0_init_138 (v := 25) rfl ?_
    refine v_sipush (pc := 140) h dX0_init_140 (v := 401) rfl ?_
    refine v_multi (pc := 143) (N := 25) (M := 401) h dX0_init_143 q432 (by decide) (by decide) rfl rfl (by decide) (by decide) hRm hw109.1 hw109.2.2.1 ?_
    refine v_nmI (fun I111 => ?_)
    refine v_nmrN (r := mR r108 25 401) (fun r112 => ?_)
    refine v_and (fun hw113 => ?_)
    refine v_and (fun h114 => ?_)
    refine v_and (fun h115 => ?_)
    refine v_and (fun h116 => ?_)
    refine v_putFr (pc := 147) (o := (some (rN r108))) h hnm dX0_init_147 ffX0_53 rfl rfl rfl h114 ?_
    refine v_nmrN (r := wP r112 o 14 (some (rN r108))) (fun r117 => ?_)
    refine v_and (fun hw118 => ?_)
    refine v_and (fun h119 => ?_)
    refine v_aload_n (pc := 150) h dX0_init_150 0 rfl rfl ?_
    refine v_sipush (pc := 151) h dX0_init_151 (v := 4096) rfl ?_
    refine v_newi (pc := 154) (len := 4096) h dX0_init_154 (by decide) rfl (by decide) hRm hw118.1 hw118.2.2.1 ?_
    refine v_nmI (fun I120 => ?_)
    refine v_nmrN (r := aR r117 50 4096 4096) (fun r121 => ?_)
    refine v_and (fun hw122 => ?_)
    refine v_and (fun h123 => ?_)
    refine v_and (fun h124 => ?_)
    refine v_and (fun h125 => ?_)
    refine v_putFr (pc := 156) (o := (some (rN r117))) h hnm dX0_init_156 ffX0_56 rfl rfl rfl h123 ?_
    refine v_nmrN (r := wP r121 o 15 (some (rN r117))) (fun r126 => ?_)
    refine v_and (fun hw127 => ?_)
    refine v_and (fun h128 => ?_)
    refine v_aload_n (pc := 159) h dX0_init_159 0 rfl rfl ?_
    refine v_bipush (pc := 160) h dX0_init_160 (v := 6) rfl ?_
    refine v_newi (pc := 162) (len := 6) h dX0_init_162 (by decide) rfl (by decide) hRm hw127.1 hw127.2.2.1 ?_
    refine v_nmI (fun I129 => ?_)
    refine v_nmrN (r := aR r126 50 6 6) (fun r130 => ?_)
    refine v_and (fun hw131 => ?_)
    refine v_and (fun h132 => ?_)
    refine v_and (fun h133 => ?_)
    refine v_and (fun h134 => ?_)
    refine v_putFr (pc := 164) (o := (some (rN r126))) h hnm dX0_init_164 ffX0_59 rfl rfl rfl h132 ?_
    refine v_nmrN (r := wP r130 o 16 (some (rN r126))) (fun r135 => ?_)
    refine v_and (fun hw136 => ?_)
    refine v_and (fun h137 => ?_)
    exact v_vretN (pc := 167) h hr dX0_init_167
  · refine v_aload_n (pc := 76) h dX0_init_76 0 rfl rfl ?_
    refine v_getx (pc := 77) h dX0_init_77 fX0_30 rfl h74 (fun b138 h139 => ?_)
    refine v_and (fun h140 => ?_)
    refine v_iload_n (pc := 80) h dX0_init_80 1 rfl rfl ?_
    refine v_new (pc := 81) h dX0_init_81 nX0_17 hRm hw73.1 hw73.2.2.1 ?_
    refine v_nmI (fun I141 => ?_)
    refine v_nmrN (r := aR r71 1 0 29) (fun r142 => ?_)
    refine v_and (fun hw143 => ?_)
    refine v_and (fun h144 => ?_)
    refine v_and (fun h145 => ?_)
    refine v_and (fun h146 => ?_)
    refine v_and (fun h147 => ?_)
    refine v_dup (pc := 84) h dX0_init_84 rfl ?_
    refine v_initN (r0 := r) (pc := 85) h dX0_init_85 iX0_19 (fun c1 c2 => tX1_init (rN r71) c1 c2 I141 r142 h145) (by decide) rfl rfl (Nat.le_of_ble_eq_true rfl) hRm hw143 (fun I148 s149 => ?_)
    refine v_and (fun hw152 => ?_)
    refine v_and (fun h153 => ?_)
    refine v_and (fun h154 => ?_)
    refine v_and (fun h155 => ?_)
    refine v_and (fun h156 => ?_)
    refine v_aast (pc := 88) h dX0_init_88 (t := 4) h155 rfl (c := 1) rfl h154 h156 ?_
    refine v_nmrN (r := wP s149 b138 i1_69.toNatClampNeg (some (rN r71))) (fun r157 => ?_)
    refine v_and (fun hw158 => ?_)
    refine v_and (fun h159 => ?_)
    refine v_iinc (pc := 89) h dX0_init_89 1 rfl (w := (i1_69 + (1 : Int32))) rfl (by decide) (lv' := [(1, .int (i1_69 + (1 : Int32))), (0, .ref o)]) rfl ?_
    refine v_goto (pc := 92) (t := 70) h dX0_init_92 rfl ?_
    refine v_sub [1, 0] rfl ?_
    exact hX72 (i1_69 + (1 : Int32)) I148 r157
set_option maxHeartbeats 4000000 in
theorem tX6_init {g : Gl} (o : Nat) (cN cS : Nat) (I : MI) (r : Rh) (h_o : rK r o = 6) : CtN g yX6_init cX6_init 1 1 cN cS [.ref o] I r (pX6_init o cN cS I r) := by
  refine CtN.mk (lv := [(0, .ref o)]) (by decide) (Nat.le_of_ble_eq_true rfl) rfl (fun x Q h hr hRm hnm => ?_)
  unfold pX6_init
  refine v_and (fun hw0 => ?_)
  refine v_aload_n (pc := 0) h dX6_init_0 0 rfl rfl ?_
  refine v_objInit (pc := 1) h dX6_init_1 q1361 (by decide) (Nat.le_of_ble_eq_true rfl) ?_
  refine v_aload_n (pc := 4) h dX6_init_4 0 rfl rfl ?_
  refine v_sipush (pc := 5) h dX6_init_5 (v := 174) rfl ?_
  refine v_newi (pc := 8) (len := 174) h dX6_init_8 (by decide) rfl (by decide) hRm hw0.1 hw0.2.2.1 ?_
  refine v_nmI (fun I1 => ?_)
  refine v_nmrN (r := aR r 50 174 174) (fun r2 => ?_)
  refine v_and (fun hw3 => ?_)
  refine v_and (fun h4 => ?_)
  refine v_and (fun h5 => ?_)
  refine v_and (fun h6 => ?_)
  refine v_putFr (pc := 10) (o := (some (rN r))) h hnm dX6_init_10 ffX6_7 rfl rfl rfl h4 ?_
  refine v_nmrN (r := wP r2 o 1 (some (rN r))) (fun r7 => ?_)
  refine v_and (fun hw8 => ?_)
  refine v_and (fun h9 => ?_)
  refine v_aload_n (pc := 13) h dX6_init_13 0 rfl rfl ?_
  refine v_sipush (pc := 14) h dX6_init_14 (v := 1044) rfl ?_
  refine v_newi (pc := 17) (len := 1044) h dX6_init_17 (by decide) rfl (by decide) hRm hw8.1 hw8.2.2.1 ?_
  refine v_nmI (fun I10 => ?_)
  refine v_nmrN (r := aR r7 50 1044 1044) (fun r11 => ?_)
  refine v_and (fun hw12 => ?_)
  refine v_and (fun h13 => ?_)
  refine v_and (fun h14 => ?_)
  refine v_and (fun h15 => ?_)
  refine v_putFr (pc := 19) (o := (some (rN r7))) h hnm dX6_init_19 ffX6_13 rfl rfl rfl h13 ?_
  refine v_nmrN (r := wP r11 o 2 (some (rN r7))) (fun r16 => ?_)
  refine v_and (fun hw17 => ?_)
  refine v_and (fun h18 => ?_)
  refine v_aload_n (pc := 22) h dX6_init_22 0 rfl rfl ?_
  refine v_sipush (pc := 23) h dX6_init_23 (v := 174) rfl ?_
  refine v_newi (pc := 26) (len := 174) h dX6_init_26 (by decide) rfl (by decide) hRm hw17.1 hw17.2.2.1 ?_
  refine v_nmI (fun I19 => ?_)
  refine v_nmrN (r := aR r16 50 174 174) (fun r20 => ?_)
  refine v_and (fun hw21 => ?_)
  refine v_and (fun h22 => ?_)
  refine v_and (fun h23 => ?_)
  refine v_and (fun h24 => ?_)
  refine v_putFr (pc := 28) (o := (some (rN r16))) h hnm dX6_init_28 ffX6_16 rfl rfl rfl h22 ?_
  refine v_nmrN (r := wP r20 o 4 (some (rN r16))) (fun r25 => ?_)
  refine v_and (fun hw26 => ?_)
  refine v_and (fun h27 => ?_)
  refine v_aload_n (pc := 31) h dX6_init_31 0 rfl rfl ?_
  refine v_bipush (pc := 32) h dX6_init_32 (v := 12) rfl ?_
  refine v_newi (pc := 34) (len := 12) h dX6_init_34 (by decide) rfl (by decide) hRm hw26.1 hw26.2.2.1 ?_
  refine v_nmI (fun I28 => ?_)
  refine v_nmrN (r := aR r25 50 12 12) (fun r29 => ?_)
  refine v_and (fun hw30 => ?_)
  refine v_and (fun h31 => ?_)
  refine v_and (fun h32 => ?_)
  refine v_and (fun h33 => ?_)
  refine v_putFr (pc := 36) (o := (some (rN r25))) h hnm dX6_init_36 ffX6_19 rfl rfl rfl h31 ?_
  refine v_nmrN (r := wP r29 o 7 (some (rN r25))) (fun r34 => ?_)
  refine v_and (fun hw35 => ?_)
  refine v_and (fun h36 => ?_)
  refine v_aload_n (pc := 39) h dX6_init_39 0 rfl rfl ?_
  refine v_sipush (pc := 40) h dX6_init_40 (v := 600) rfl ?_
  refine v_newi (pc := 43) (len := 600) h dX6_init_43 (by decide) rfl (by decide) hRm hw35.1 hw35.2.2.1 ?_
  refine v_nmI (fun I37 => ?_)
  refine v_nmrN (r := aR r34 50 600 600) (fun r38 => ?_)
  refine v_and (fun hw39 => ?_)
  refine v_and (fun h40 => ?_)
  refine v_and (fun h41 => ?_)
  refine v_and (fun h42 => ?_)
  refine v_putFr (pc := 45) (o := (some (rN r34))) h hnm dX6_init_45 ffX6_22 rfl rfl rfl h40 ?_
  refine v_nmrN (r := wP r38 o 8 (some (rN r34))) (fun r43 => ?_)
  refine v_and (fun hw44 => ?_)
  refine v_and (fun h45 => ?_)
  refine v_aload_n (pc := 48) h dX6_init_48 0 rfl rfl ?_
  refine v_sipush (pc := 49) h dX6_init_49 (v := 400) rfl ?_
  refine v_newi (pc := 52) (len := 400) h dX6_init_52 (by decide) rfl (by decide) hRm hw44.1 hw44.2.2.1 ?_
  refine v_nmI (fun I46 => ?_)
  refine v_nmrN (r := aR r43 50 400 400) (fun r47 => ?_)
  refine v_and (fun hw48 => ?_)
  refine v_and (fun h49 => ?_)
  refine v_and (fun h50 => ?_)
  refine v_and (fun h51 => ?_)
  refine v_putFr (pc := 54) (o := (some (rN r43))) h hnm dX6_init_54 ffX6_25 rfl rfl rfl h49 ?_
  refine v_nmrN (r := wP r47 o 9 (some (rN r43))) (fun r52 => ?_)
  refine v_and (fun hw53 => ?_)
  refine v_and (fun h54 => ?_)
  refine v_aload_n (pc := 57) h dX6_init_57 0 rfl rfl ?_
  refine v_sipush (pc := 58) h dX6_init_58 (v := 153) rfl ?_
  refine v_newi (pc := 61) (len := 153) h dX6_init_61 (by decide) rfl (by decide) hRm hw53.1 hw53.2.2.1 ?_
  refine v_nmI (fun I55 => ?_)
  refine v_nmrN (r := aR r52 50 153 153) (fun r56 => ?_)
  refine v_and (fun hw57 => ?_)
  refine v_and (fun h58 => ?_)
  refine v_and (fun h59 => ?_)
  refine v_and (fun h60 => ?_)
  refine v_dup (pc := 63) h dX6_init_63 rfl ?_
  refine v_iconst (pc := 64) h dX6_init_64 (v := 0) rfl ?_
  refine v_bipush (pc := 65) h dX6_init_65 (v := 32) rfl ?_
  refine v_iastL (pc := 67) h dX6_init_67 h59 h60 (vpd rfl) (k := 0) rfl ?_
  refine v_nmI (fun I61 => ?_)
  refine v_dup (pc := 68) h dX6_init_68 rfl ?_
  refine v_iconst (pc := 69) h dX6_init_69 (v := 1) rfl ?_
  refine v_bipush (pc := 70) h dX6_init_70 (v := 111) rfl ?_
  refine v_iastL (pc := 72) h dX6_init_72 h59 h60 (vpd rfl) (k := 1) rfl ?_
  refine v_nmI (fun I62 => ?_)
  refine v_dup (pc := 73) h dX6_init_73 rfl ?_
  refine v_iconst (pc := 74) h dX6_init_74 (v := 2) rfl ?_
  refine v_bipush (pc := 75) h dX6_init_75 (v := 112) rfl ?_
  refine v_iastL (pc := 77) h dX6_init_77 h59 h60 (vpd rfl) (k := 2) rfl ?_
  refine v_nmI (fun I63 => ?_)
  refine v_dup (pc := 78) h dX6_init_78 rfl ?_
  refine v_iconst (pc := 79) h dX6_init_79 (v := 3) rfl ?_
  refine v_bipush (pc := 80) h dX6_init_80 (v := 101) rfl ?_
  refine v_iastL (pc := 82) h dX6_init_82 h59 h60 (vpd rfl) (k := 3) rfl ?_
  refine v_nmI (fun I64 => ?_)
  refine v_dup (pc := 83) h dX6_init_83 rfl ?_
  refine v_iconst (pc := 84) h dX6_init_84 (v := 4) rfl ?_
  refine v_bipush (pc := 85) h dX6_init_85 (v := 110) rfl ?_
  refine v_iastL (pc := 87) h dX6_init_87 h59 h60 (vpd rfl) (k := 4) rfl ?_
  refine v_nmI (fun I65 => ?_)
  refine v_dup (pc := 88) h dX6_init_88 rfl ?_
  refine v_iconst (pc := 89) h dX6_init_89 (v := 5) rfl ?_
  refine v_bipush (pc := 90) h dX6_init_90 (v := 115) rfl ?_
  refine v_iastL (pc := 92) h dX6_init_92 h59 h60 (vpd rfl) (k := 5) rfl ?_
  refine v_nmI (fun I66 => ?_)
  refine v_dup (pc := 93) h dX6_init_93 rfl ?_
  refine v_bipush (pc := 94) h dX6_init_94 (v := 6) rfl ?_
  refine v_bipush (pc := 96) h dX6_init_96 (v := 32) rfl ?_
  refine v_iastL (pc := 98) h dX6_init_98 h59 h60 (vpd rfl) (k := 6) rfl ?_
  refine v_nmI (fun I67 => ?_)
  refine v_dup (pc := 99) h dX6_init_99 rfl ?_
  refine v_bipush (pc := 100) h dX6_init_100 (v := 7) rfl ?_
  refine v_bipush (pc := 102) h dX6_init_102 (v := 103) rfl ?_
  refine v_iastL (pc := 104) h dX6_init_104 h59 h60 (vpd rfl) (k := 7) rfl ?_
  refine v_nmI (fun I68 => ?_)
  refine v_dup (pc := 105) h dX6_init_105 rfl ?_
  refine v_bipush (pc := 106) h dX6_init_106 (v := 8) rfl ?_
  refine v_bipush (pc := 108) h dX6_init_108 (v := 105) rfl ?_
  refine v_iastL (pc := 110) h dX6_init_110 h59 h60 (vpd rfl) (k := 8) rfl ?_
  refine v_nmI (fun I69 => ?_)
  refine v_dup (pc := 111) h dX6_init_111 rfl ?_
  refine v_bipush (pc := 112) h dX6_init_112 (v := 9) rfl ?_
  refine v_bipush (pc := 114) h dX6_init_114 (v := 118) rfl ?_
  refine v_iastL (pc := 116) h dX6_init_116 h59 h60 (vpd rfl) (k := 9) rfl ?_
  refine v_nmI (fun I70 => ?_)
  refine v_dup (pc := 117) h dX6_init_117 rfl ?_
  refine v_bipush (pc := 118) h dX6_init_118 (v := 10) rfl ?_
  refine v_bipush (pc := 120) h dX6_init_120 (v := 101) rfl ?_
  refine v_iastL (pc := 122) h dX6_init_122 h59 h60 (vpd rfl) (k := 10) rfl ?_
  refine v_nmI (fun I71 => ?_)
  refine v_dup (pc := 123) h dX6_init_123 rfl ?_
  refine v_bipush (pc := 124) h dX6_init_124 (v := 11) rfl ?_
  refine v_bipush (pc := 126) h dX6_init_126 (v := 115) rfl ?_
  refine v_iastL (pc := 128) h dX6_init_128 h59 h60 (vpd rfl) (k := 11) rfl ?_
  refine v_nmI (fun I72 => ?_)
  refine v_dup (pc := 129) h dX6_init_129 rfl ?_
  refine v_bipush (pc := 130) h dX6_init_130 (v := 12) rfl ?_
  refine v_bipush (pc := 132) h dX6_init_132 (v := 32) rfl ?_
  refine v_iastL (pc := 134) h dX6_init_134 h59 h60 (vpd rfl) (k := 12) rfl ?_
  refine v_nmI (fun I73 => ?_)
  refine v_dup (pc := 135) h dX6_init_135 rfl ?_
  refine v_bipush (pc := 136) h dX6_init_136 (v := 13) rfl ?_
  refine v_bipush (pc := 138) h dX6_init_138 (v := 116) rfl ?_
  refine v_iastL (pc := 140) h dX6_init_140 h59 h60 (vpd rfl) (k := 13) rfl ?_
  refine v_nmI (fun I74 => ?_)
  refine v_dup (pc := 141) h dX6_init_141 rfl ?_
  refine v_bipush (pc := 142) h dX6_init_142 (v := 14) rfl ?_
  refine v_bipush (pc := 144) h dX6_init_144 (v := 105) rfl ?_
  refine v_iastL (pc := 146) h dX6_init_146 h59 h60 (vpd rfl) (k := 14) rfl ?_
  refine v_nmI (fun I75 => ?_)
  refine v_dup (pc := 147) h dX6_init_147 rfl ?_
  refine v_bipush (pc := 148) h dX6_init_148 (v := 15) rfl ?_
  refine v_bipush (pc := 150) h dX6_init_150 (v := 114) rfl ?_
  refine v_iastL (pc := 152) h dX6_init_152 h59 h60 (vpd rfl) (k := 15) rfl ?_
  refine v_nmI (fun I76 => ?_)
  refine v_dup (pc := 153) h dX6_init_153 rfl ?_
  refine v_bipush (pc := 154) h dX6_init_154 (v := 16) rfl ?_
  refine v_bipush (pc := 156) h dX6_init_156 (v := 101) rfl ?_
  refine v_iastL (pc := 158) h dX6_init_158 h59 h60 (vpd rfl) (k := 16) rfl ?_
  refine v_nmI (fun I77 => ?_)
  refine v_dup (pc := 159) h dX6_init_159 rfl ?_
  refine v_bipush (pc := 160) h dX6_init_160 (v := 17) rfl ?_
  refine v_bipush (pc := 162) h dX6_init_162 (v := 115) rfl ?_
  refine v_iastL (pc := 164) h dX6_init_164 h59 h60 (vpd rfl) (k := 17) rfl ?_
  refine v_nmI (fun I78 => ?_)
  refine v_dup (pc := 165) h dX6_init_165 rfl ?_
  refine v_bipush (pc := 166) h dX6_init_166 (v := 18) rfl ?_
  refine v_bipush (pc := 168) h dX6_init_168 (v := 32) rfl ?_
  refine v_iastL (pc := 170) h dX6_init_170 h59 h60 (vpd rfl) (k := 18) rfl ?_
  refine v_nmI (fun I79 => ?_)
  refine v_dup (pc := 171) h dX6_init_171 rfl ?_
  refine v_bipush (pc := 172) h dX6_init_172 (v := 19) rfl ?_
  refine v_bipush (pc := 174) h dX6_init_174 (v := 119) rfl ?_
  refine v_iastL (pc := 176) h dX6_init_176 h59 h60 (vpd rfl) (k := 19) rfl ?_
  refine v_nmI (fun I80 => ?_)
  refine v_dup (pc := 177) h dX6_init_177 rfl ?_
  refine v_bipush (pc := 178) h dX6_init_178 (v := 20) rfl ?_
  refine v_bipush (pc := 180) h dX6_init_180 (v := 104) rfl ?_
  refine v_iastL (pc := 182) h dX6_init_182 h59 h60 (vpd rfl) (k := 20) rfl ?_
  refine v_nmI (fun I81 => ?_)
  refine v_dup (pc := 183) h dX6_init_183 rfl ?_
  refine v_bipush (pc := 184) h dX6_init_184 (v := 21) rfl ?_
  refine v_bipush (pc := 186) h dX6_init_186 (v := 101) rfl ?_
  refine v_iastL (pc := 188) h dX6_init_188 h59 h60 (vpd rfl) (k := 21) rfl ?_
  refine v_nmI (fun I82 => ?_)
  refine v_dup (pc := 189) h dX6_init_189 rfl ?_
  refine v_bipush (pc := 190) h dX6_init_190 (v := 22) rfl ?_
  refine v_bipush (pc := 192) h dX6_init_192 (v := 110) rfl ?_
  refine v_iastL (pc := 194) h dX6_init_194 h59 h60 (vpd rfl) (k := 22) rfl ?_
  refine v_nmI (fun I83 => ?_)
  refine v_dup (pc := 195) h dX6_init_195 rfl ?_
  refine v_bipush (pc := 196) h dX6_init_196 (v := 23) rfl ?_
  refine v_bipush (pc := 198) h dX6_init_198 (v := 32) rfl ?_
  refine v_iastL (pc := 200) h dX6_init_200 h59 h60 (vpd rfl) (k := 23) rfl ?_
  refine v_nmI (fun I84 => ?_)
  refine v_dup (pc := 201) h dX6_init_201 rfl ?_
  refine v_bipush (pc := 202) h dX6_init_202 (v := 24) rfl ?_
  refine v_bipush (pc := 204) h dX6_init_204 (v := 111) rfl ?_
  refine v_iastL (pc := 206) h dX6_init_206 h59 h60 (vpd rfl) (k := 24) rfl ?_
  refine v_nmI (fun I85 => ?_)
  refine v_dup (pc := 207) h dX6_init_207 rfl ?_
  refine v_bipush (pc := 208) h dX6_init_208 (v := 25) rfl ?_
  refine v_bipush (pc := 210) h dX6_init_210 (v := 114) rfl ?_
  refine v_iastL (pc := 212) h dX6_init_212 h59 h60 (vpd rfl) (k := 25) rfl ?_
  refine v_nmI (fun I86 => ?_)
  refine v_dup (pc := 213) h dX6_init_213 rfl ?_
  refine v_bipush (pc := 214) h dX6_init_214 (v := 26) rfl ?_
  refine v_bipush (pc := 216) h dX6_init_216 (v := 32) rfl ?_
  refine v_iastL (pc := 218) h dX6_init_218 h59 h60 (vpd rfl) (k := 26) rfl ?_
  refine v_nmI (fun I87 => ?_)
  refine v_dup (pc := 219) h dX6_init_219 rfl ?_
  refine v_bipush (pc := 220) h dX6_init_220 (v := 27) rfl ?_
  refine v_bipush (pc := 222) h dX6_init_222 (v := 97) rfl ?_
  refine v_iastL (pc := 224) h dX6_init_224 h59 h60 (vpd rfl) (k := 27) rfl ?_
  refine v_nmI (fun I88 => ?_)
  refine v_dup (pc := 225) h dX6_init_225 rfl ?_
  refine v_bipush (pc := 226) h dX6_init_226 (v := 28) rfl ?_
  refine v_bipush (pc := 228) h dX6_init_228 (v := 110) rfl ?_
  refine v_iastL (pc := 230) h dX6_init_230 h59 h60 (vpd rfl) (k := 28) rfl ?_
  refine v_nmI (fun I89 => ?_)
  refine v_dup (pc := 231) h dX6_init_231 rfl ?_
  refine v_bipush (pc := 232) h dX6_init_232 (v := 29) rfl ?_
  refine v_bipush (pc := 234) h dX6_init_234 (v := 100) rfl ?_
  refine v_iastL (pc := 236) h dX6_init_236 h59 h60 (vpd rfl) (k := 29) rfl ?_
  refine v_nmI (fun I90 => ?_)
  refine v_dup (pc := 237) h dX6_init_237 rfl ?_
  refine v_bipush (pc := 238) h dX6_init_238 (v := 30) rfl ?_
  refine v_bipush (pc := 240) h dX6_init_240 (v := 32) rfl ?_
  refine v_iastL (pc := 242) h dX6_init_242 h59 h60 (vpd rfl) (k := 30) rfl ?_
  refine v_nmI (fun I91 => ?_)
  refine v_dup (pc := 243) h dX6_init_243 rfl ?_
  refine v_bipush (pc := 244) h dX6_init_244 (v := 31) rfl ?_
  refine v_bipush (pc := 246) h dX6_init_246 (v := 110) rfl ?_
  refine v_iastL (pc := 248) h dX6_init_248 h59 h60 (vpd rfl) (k := 31) rfl ?_
  refine v_nmI (fun I92 => ?_)
  refine v_dup (pc := 249) h dX6_init_249 rfl ?_
  refine v_bipush (pc := 250) h dX6_init_250 (v := 32) rfl ?_
  refine v_bipush (pc := 252) h dX6_init_252 (v := 111) rfl ?_
  refine v_iastL (pc := 254) h dX6_init_254 h59 h60 (vpd rfl) (k := 32) rfl ?_
  refine v_nmI (fun I93 => ?_)
  refine v_dup (pc := 255) h dX6_init_255 rfl ?_
  refine v_bipush (pc := 256) h dX6_init_256 (v := 33) rfl ?_
  refine v_bipush (pc := 258) h dX6_init_258 (v := 116) rfl ?_
  refine v_iastL (pc := 260) h dX6_init_260 h59 h60 (vpd rfl) (k := 33) rfl ?_
  refine v_nmI (fun I94 => ?_)
  refine v_dup (pc := 261) h dX6_init_261 rfl ?_
  refine v_bipush (pc := 262) h dX6_init_262 (v := 34) rfl ?_
  refine v_bipush (pc := 264) h dX6_init_264 (v := 32) rfl ?_
  refine v_iastL (pc := 266) h dX6_init_266 h59 h60 (vpd rfl) (k := 34) rfl ?_
  refine v_nmI (fun I95 => ?_)
  refine v_dup (pc := 267) h dX6_init_267 rfl ?_
  refine v_bipush (pc := 268) h dX6_init_268 (v := 35) rfl ?_
  refine v_bipush (pc := 270) h dX6_init_270 (v := 107) rfl ?_
  refine v_iastL (pc := 272) h dX6_init_272 h59 h60 (vpd rfl) (k := 35) rfl ?_
  refine v_nmI (fun I96 => ?_)
  refine v_dup (pc := 273) h dX6_init_273 rfl ?_
  refine v_bipush (pc := 274) h dX6_init_274 (v := 36) rfl ?_
  refine v_bipush (pc := 276) h dX6_init_276 (v := 105) rfl ?_
  refine v_iastL (pc := 278) h dX6_init_278 h59 h60 (vpd rfl) (k := 36) rfl ?_
  refine v_nmI (fun I97 => ?_)
  refine v_dup (pc := 279) h dX6_init_279 rfl ?_
  refine v_bipush (pc := 280) h dX6_init_280 (v := 37) rfl ?_
  refine v_bipush (pc := 282) h dX6_init_282 (v := 110) rfl ?_
  refine v_iastL (pc := 284) h dX6_init_284 h59 h60 (vpd rfl) (k := 37) rfl ?_
  refine v_nmI (fun I98 => ?_)
  refine v_dup (pc := 285) h dX6_init_285 rfl ?_
  refine v_bipush (pc := 286) h dX6_init_286 (v := 38) rfl ?_
  refine v_bipush (pc := 288) h dX6_init_288 (v := 100) rfl ?_
  refine v_iastL (pc := 290) h dX6_init_290 h59 h60 (vpd rfl) (k := 38) rfl ?_
  refine v_nmI (fun I99 => ?_)
  refine v_dup (pc := 291) h dX6_init_291 rfl ?_
  refine v_bipush (pc := 292) h dX6_init_292 (v := 39) rfl ?_
  refine v_bipush (pc := 294) h dX6_init_294 (v := 32) rfl ?_
  refine v_iastL (pc := 296) h dX6_init_296 h59 h60 (vpd rfl) (k := 39) rfl ?_
  refine v_nmI (fun I100 => ?_)
  refine v_dup (pc := 297) h dX6_init_297 rfl ?_
  refine v_bipush (pc := 298) h dX6_init_298 (v := 40) rfl ?_
  refine v_bipush (pc := 300) h dX6_init_300 (v := 109) rfl ?_
  refine v_iastL (pc := 302) h dX6_init_302 h59 h60 (vpd rfl) (k := 40) rfl ?_
  refine v_nmI (fun I101 => ?_)
  refine v_dup (pc := 303) h dX6_init_303 rfl ?_
  refine v_bipush (pc := 304) h dX6_init_304 (v := 41) rfl ?_
  refine v_bipush (pc := 306) h dX6_init_306 (v := 117) rfl ?_
  refine v_iastL (pc := 308) h dX6_init_308 h59 h60 (vpd rfl) (k := 41) rfl ?_
  refine v_nmI (fun I102 => ?_)
  refine v_dup (pc := 309) h dX6_init_309 rfl ?_
  refine v_bipush (pc := 310) h dX6_init_310 (v := 42) rfl ?_
  refine v_bipush (pc := 312) h dX6_init_312 (v := 99) rfl ?_
  refine v_iastL (pc := 314) h dX6_init_314 h59 h60 (vpd rfl) (k := 42) rfl ?_
  refine v_nmI (fun I103 => ?_)
  refine v_dup (pc := 315) h dX6_init_315 rfl ?_
  refine v_bipush (pc := 316) h dX6_init_316 (v := 43) rfl ?_
  refine v_bipush (pc := 318) h dX6_init_318 (v := 104) rfl ?_
  refine v_iastL (pc := 320) h dX6_init_320 h59 h60 (vpd rfl) (k := 43) rfl ?_
  refine v_nmI (fun I104 => ?_)
  refine v_dup (pc := 321) h dX6_init_321 rfl ?_
  refine v_bipush (pc := 322) h dX6_init_322 (v := 44) rfl ?_
  refine v_bipush (pc := 324) h dX6_init_324 (v := 32) rfl ?_
  refine v_iastL (pc := 326) h dX6_init_326 h59 h60 (vpd rfl) (k := 44) rfl ?_
  refine v_nmI (fun I105 => ?_)
  refine v_dup (pc := 327) h dX6_init_327 rfl ?_
  refine v_bipush (pc := 328) h dX6_init_328 (v := 45) rfl ?_
  refine v_bipush (pc := 330) h dX6_init_330 (v := 97) rfl ?_
  refine v_iastL (pc := 332) h dX6_init_332 h59 h60 (vpd rfl) (k := 45) rfl ?_
  refine v_nmI (fun I106 => ?_)
  refine v_dup (pc := 333) h dX6_init_333 rfl ?_
  refine v_bipush (pc := 334) h dX6_init_334 (v := 46) rfl ?_
  refine v_bipush (pc := 336) h dX6_init_336 (v := 103) rfl ?_
  refine v_iastL (pc := 338) h dX6_init_338 h59 h60 (vpd rfl) (k := 46) rfl ?_
  refine v_nmI (fun I107 => ?_)
  refine v_dup (pc := 339) h dX6_init_339 rfl ?_
  refine v_bipush (pc := 340) h dX6_init_340 (v := 47) rfl ?_
  refine v_bipush (pc := 342) h dX6_init_342 (v := 101) rfl ?_
  refine v_iastL (pc := 344) h dX6_init_344 h59 h60 (vpd rfl) (k := 47) rfl ?_
  refine v_nmI (fun I108 => ?_)
  refine v_dup (pc := 345) h dX6_init_345 rfl ?_
  refine v_bipush (pc := 346) h dX6_init_346 (v := 48) rfl ?_
  refine v_bipush (pc := 348) h dX6_init_348 (v := 32) rfl ?_
  refine v_iastL (pc := 350) h dX6_init_350 h59 h60 (vpd rfl) (k := 48) rfl ?_
  refine v_nmI (fun I109 => ?_)
  refine v_dup (pc := 351) h dX6_init_351 rfl ?_
  refine v_bipush (pc := 352) h dX6_init_352 (v := 49) rfl ?_
  refine v_bipush (pc := 354) h dX6_init_354 (v := 102) rfl ?_
  refine v_iastL (pc := 356) h dX6_init_356 h59 h60 (vpd rfl) (k := 49) rfl ?_
  refine v_nmI (fun I110 => ?_)
  refine v_dup (pc := 357) h dX6_init_357 rfl ?_
  refine v_bipush (pc := 358) h dX6_init_358 (v := 50) rfl ?_
  refine v_bipush (pc := 360) h dX6_init_360 (v := 97) rfl ?_
  refine v_iastL (pc := 362) h dX6_init_362 h59 h60 (vpd rfl) (k := 50) rfl ?_
  refine v_nmI (fun I111 => ?_)
  refine v_dup (pc := 363) h dX6_init_363 rfl ?_
  refine v_bipush (pc := 364) h dX6_init_364 (v := 51) rfl ?_
  refine v_bipush (pc := 366) h dX6_init_366 (v := 99) rfl ?_
  refine v_iastL (pc := 368) h dX6_init_368 h59 h60 (vpd rfl) (k := 51) rfl ?_
  refine v_nmI (fun I112 => ?_)
  refine v_dup (pc := 369) h dX6_init_369 rfl ?_
  refine v_bipush (pc := 370) h dX6_init_370 (v := 52) rfl ?_
  refine v_bipush (pc := 372) h dX6_init_372 (v := 101) rfl ?_
  refine v_iastL (pc := 374) h dX6_init_374 h59 h60 (vpd rfl) (k := 52) rfl ?_
  refine v_nmI (fun I113 => ?_)
  refine v_dup (pc := 375) h dX6_init_375 rfl ?_
  refine v_bipush (pc := 376) h dX6_init_376 (v := 53) rfl ?_
  refine v_bipush (pc := 378) h dX6_init_378 (v := 32) rfl ?_
  refine v_iastL (pc := 380) h dX6_init_380 h59 h60 (vpd rfl) (k := 53) rfl ?_
  refine v_nmI (fun I114 => ?_)
  refine v_dup (pc := 381) h dX6_init_381 rfl ?_
  refine v_bipush (pc := 382) h dX6_init_382 (v := 54) rfl ?_
  refine v_bipush (pc := 384) h dX6_init_384 (v := 108) rfl ?_
  refine v_iastL (pc := 386) h dX6_init_386 h59 h60 (vpd rfl) (k := 54) rfl ?_
  refine v_nmI (fun I115 => ?_)
  refine v_dup (pc := 387) h dX6_init_387 rfl ?_
  refine v_bipush (pc := 388) h dX6_init_388 (v := 55) rfl ?_
  refine v_bipush (pc := 390) h dX6_init_390 (v := 111) rfl ?_
  refine v_iastL (pc := 392) h dX6_init_392 h59 h60 (vpd rfl) (k := 55) rfl ?_
  refine v_nmI (fun I116 => ?_)
  refine v_dup (pc := 393) h dX6_init_393 rfl ?_
  refine v_bipush (pc := 394) h dX6_init_394 (v := 56) rfl ?_
  refine v_bipush (pc := 396) h dX6_init_396 (v := 118) rfl ?_
  refine v_iastL (pc := 398) h dX6_init_398 h59 h60 (vpd rfl) (k := 56) rfl ?_
  refine v_nmI (fun I117 => ?_)
  refine v_dup (pc := 399) h dX6_init_399 rfl ?_
  refine v_bipush (pc := 400) h dX6_init_400 (v := 57) rfl ?_
  refine v_bipush (pc := 402) h dX6_init_402 (v := 101) rfl ?_
  refine v_iastL (pc := 404) h dX6_init_404 h59 h60 (vpd rfl) (k := 57) rfl ?_
  refine v_nmI (fun I118 => ?_)
  refine v_dup (pc := 405) h dX6_init_405 rfl ?_
  refine v_bipush (pc := 406) h dX6_init_406 (v := 58) rfl ?_
  refine v_bipush (pc := 408) h dX6_init_408 (v := 32) rfl ?_
  refine v_iastL (pc := 410) h dX6_init_410 h59 h60 (vpd rfl) (k := 58) rfl ?_
  refine v_nmI (fun I119 => ?_)
  refine v_dup (pc := 411) h dX6_init_411 rfl ?_
  refine v_bipush (pc := 412) h dX6_init_412 (v := 59) rfl ?_
  refine v_bipush (pc := 414) h dX6_init_414 (v := 112) rfl ?_
  refine v_iastL (pc := 416) h dX6_init_416 h59 h60 (vpd rfl) (k := 59) rfl ?_
  refine v_nmI (fun I120 => ?_)
  refine v_dup (pc := 417) h dX6_init_417 rfl ?_
  refine v_bipush (pc := 418) h dX6_init_418 (v := 60) rfl ?_
  refine v_bipush (pc := 420) h dX6_init_420 (v := 117) rfl ?_
  refine v_iastL (pc := 422) h dX6_init_422 h59 h60 (vpd rfl) (k := 60) rfl ?_
  refine v_nmI (fun I121 => ?_)
  refine v_dup (pc := 423) h dX6_init_423 rfl ?_
  refine v_bipush (pc := 424) h dX6_init_424 (v := 61) rfl ?_
  refine v_bipush (pc := 426) h dX6_init_426 (v := 114) rfl ?_
  refine v_iastL (pc := 428) h dX6_init_428 h59 h60 (vpd rfl) (k := 61) rfl ?_
  refine v_nmI (fun I122 => ?_)
  refine v_dup (pc := 429) h dX6_init_429 rfl ?_
  refine v_bipush (pc := 430) h dX6_init_430 (v := 62) rfl ?_
  refine v_bipush (pc := 432) h dX6_init_432 (v := 115) rfl ?_
  refine v_iastL (pc := 434) h dX6_init_434 h59 h60 (vpd rfl) (k := 62) rfl ?_
  refine v_nmI (fun I123 => ?_)
  refine v_dup (pc := 435) h dX6_init_435 rfl ?_
  refine v_bipush (pc := 436) h dX6_init_436 (v := 63) rfl ?_
  refine v_bipush (pc := 438) h dX6_init_438 (v := 101) rfl ?_
  refine v_iastL (pc := 440) h dX6_init_440 h59 h60 (vpd rfl) (k := 63) rfl ?_
  refine v_nmI (fun I124 => ?_)
  refine v_dup (pc := 441) h dX6_init_441 rfl ?_
  refine v_bipush (pc := 442) h dX6_init_442 (v := 64) rfl ?_
  refine v_bipush (pc := 444) h dX6_init_444 (v := 32) rfl ?_
  refine v_iastL (pc := 446) h dX6_init_446 h59 h60 (vpd rfl) (k := 64) rfl ?_
  refine v_nmI (fun I125 => ?_)
  refine v_dup (pc := 447) h dX6_init_447 rfl ?_
  refine v_bipush (pc := 448) h dX6_init_448 (v := 65) rfl ?_
  refine v_bipush (pc := 450) h dX6_init_450 (v := 104) rfl ?_
  refine v_iastL (pc := 452) h dX6_init_452 h59 h60 (vpd rfl) (k := 65) rfl ?_
  refine v_nmI (fun I126 => ?_)
  refine v_dup (pc := 453) h dX6_init_453 rfl ?_
  refine v_bipush (pc := 454) h dX6_init_454 (v := 66) rfl ?_
  refine v_bipush (pc := 456) h dX6_init_456 (v := 101) rfl ?_
  refine v_iastL (pc := 458) h dX6_init_458 h59 h60 (vpd rfl) (k := 66) rfl ?_
  refine v_nmI (fun I127 => ?_)
  refine v_dup (pc := 459) h dX6_init_459 rfl ?_
  refine v_bipush (pc := 460) h dX6_init_460 (v := 67) rfl ?_
  refine v_bipush (pc := 462) h dX6_init_462 (v := 97) rfl ?_
  refine v_iastL (pc := 464) h dX6_init_464 h59 h60 (vpd rfl) (k := 67) rfl ?_
  refine v_nmI (fun I128 => ?_)
  refine v_dup (pc := 465) h dX6_init_465 rfl ?_
  refine v_bipush (pc := 466) h dX6_init_466 (v := 68) rfl ?_
  refine v_bipush (pc := 468) h dX6_init_468 (v := 108) rfl ?_
  refine v_iastL (pc := 470) h dX6_init_470 h59 h60 (vpd rfl) (k := 68) rfl ?_
  refine v_nmI (fun I129 => ?_)
  refine v_dup (pc := 471) h dX6_init_471 rfl ?_
  refine v_bipush (pc := 472) h dX6_init_472 (v := 69) rfl ?_
  refine v_bipush (pc := 474) h dX6_init_474 (v := 116) rfl ?_
  refine v_iastL (pc := 476) h dX6_init_476 h59 h60 (vpd rfl) (k := 69) rfl ?_
  refine v_nmI (fun I130 => ?_)
  refine v_dup (pc := 477) h dX6_init_477 rfl ?_
  refine v_bipush (pc := 478) h dX6_init_478 (v := 70) rfl ?_
  refine v_bipush (pc := 480) h dX6_init_480 (v := 104) rfl ?_
  refine v_iastL (pc := 482) h dX6_init_482 h59 h60 (vpd rfl) (k := 70) rfl ?_
  refine v_nmI (fun I131 => ?_)
  refine v_dup (pc := 483) h dX6_init_483 rfl ?_
  refine v_bipush (pc := 484) h dX6_init_484 (v := 71) rfl ?_
  refine v_bipush (pc := 486) h dX6_init_486 (v := 32) rfl ?_
  refine v_iastL (pc := 488) h dX6_init_488 h59 h60 (vpd rfl) (k := 71) rfl ?_
  refine v_nmI (fun I132 => ?_)
  refine v_dup (pc := 489) h dX6_init_489 rfl ?_
  refine v_bipush (pc := 490) h dX6_init_490 (v := 72) rfl ?_
  refine v_bipush (pc := 492) h dX6_init_492 (v := 104) rfl ?_
  refine v_iastL (pc := 494) h dX6_init_494 h59 h60 (vpd rfl) (k := 72) rfl ?_
  refine v_nmI (fun I133 => ?_)
  refine v_dup (pc := 495) h dX6_init_495 rfl ?_
  refine v_bipush (pc := 496) h dX6_init_496 (v := 73) rfl ?_
  refine v_bipush (pc := 498) h dX6_init_498 (v := 117) rfl ?_
  refine v_iastL (pc := 500) h dX6_init_500 h59 h60 (vpd rfl) (k := 73) rfl ?_
  refine v_nmI (fun I134 => ?_)
  refine v_dup (pc := 501) h dX6_init_501 rfl ?_
  refine v_bipush (pc := 502) h dX6_init_502 (v := 74) rfl ?_
  refine v_bipush (pc := 504) h dX6_init_504 (v := 110) rfl ?_
  refine v_iastL (pc := 506) h dX6_init_506 h59 h60 (vpd rfl) (k := 74) rfl ?_
  refine v_nmI (fun I135 => ?_)
  refine v_dup (pc := 507) h dX6_init_507 rfl ?_
  refine v_bipush (pc := 508) h dX6_init_508 (v := 75) rfl ?_
  refine v_bipush (pc := 510) h dX6_init_510 (v := 103) rfl ?_
  refine v_iastL (pc := 512) h dX6_init_512 h59 h60 (vpd rfl) (k := 75) rfl ?_
  refine v_nmI (fun I136 => ?_)
  refine v_dup (pc := 513) h dX6_init_513 rfl ?_
  refine v_bipush (pc := 514) h dX6_init_514 (v := 76) rfl ?_
  refine v_bipush (pc := 516) h dX6_init_516 (v := 101) rfl ?_
  refine v_iastL (pc := 518) h dX6_init_518 h59 h60 (vpd rfl) (k := 76) rfl ?_
  refine v_nmI (fun I137 => ?_)
  refine v_dup (pc := 519) h dX6_init_519 rfl ?_
  refine v_bipush (pc := 520) h dX6_init_520 (v := 77) rfl ?_
  refine v_bipush (pc := 522) h dX6_init_522 (v := 114) rfl ?_
  refine v_iastL (pc := 524) h dX6_init_524 h59 h60 (vpd rfl) (k := 77) rfl ?_
  refine v_nmI (fun I138 => ?_)
  refine v_dup (pc := 525) h dX6_init_525 rfl ?_
  refine v_bipush (pc := 526) h dX6_init_526 (v := 78) rfl ?_
  refine v_bipush (pc := 528) h dX6_init_528 (v := 32) rfl ?_
  refine v_iastL (pc := 530) h dX6_init_530 h59 h60 (vpd rfl) (k := 78) rfl ?_
  refine v_nmI (fun I139 => ?_)
  refine v_dup (pc := 531) h dX6_init_531 rfl ?_
  refine v_bipush (pc := 532) h dX6_init_532 (v := 79) rfl ?_
  refine v_bipush (pc := 534) h dX6_init_534 (v := 104) rfl ?_
  refine v_iastL (pc := 536) h dX6_init_536 h59 h60 (vpd rfl) (k := 79) rfl ?_
  refine v_nmI (fun I140 => ?_)
  refine v_dup (pc := 537) h dX6_init_537 rfl ?_
  refine v_bipush (pc := 538) h dX6_init_538 (v := 80) rfl ?_
  refine v_bipush (pc := 540) h dX6_init_540 (v := 111) rfl ?_
  refine v_iastL (pc := 542) h dX6_init_542 h59 h60 (vpd rfl) (k := 80) rfl ?_
  refine v_nmI (fun I141 => ?_)
  refine v_dup (pc := 543) h dX6_init_543 rfl ?_
  refine v_bipush (pc := 544) h dX6_init_544 (v := 81) rfl ?_
  refine v_bipush (pc := 546) h dX6_init_546 (v := 117) rfl ?_
  refine v_iastL (pc := 548) h dX6_init_548 h59 h60 (vpd rfl) (k := 81) rfl ?_
  refine v_nmI (fun I142 => ?_)
  refine v_dup (pc := 549) h dX6_init_549 rfl ?_
  refine v_bipush (pc := 550) h dX6_init_550 (v := 82) rfl ?_
  refine v_bipush (pc := 552) h dX6_init_552 (v := 114) rfl ?_
  refine v_iastL (pc := 554) h dX6_init_554 h59 h60 (vpd rfl) (k := 82) rfl ?_
  refine v_nmI (fun I143 => ?_)
  refine v_dup (pc := 555) h dX6_init_555 rfl ?_
  refine v_bipush (pc := 556) h dX6_init_556 (v := 83) rfl ?_
  refine v_bipush (pc := 558) h dX6_init_558 (v := 32) rfl ?_
  refine v_iastL (pc := 560) h dX6_init_560 h59 h60 (vpd rfl) (k := 83) rfl ?_
  refine v_nmI (fun I144 => ?_)
  refine v_dup (pc := 561) h dX6_init_561 rfl ?_
  refine v_bipush (pc := 562) h dX6_init_562 (v := 84) rfl ?_
  refine v_bipush (pc := 564) h dX6_init_564 (v := 114) rfl ?_
  refine v_iastL (pc := 566) h dX6_init_566 h59 h60 (vpd rfl) (k := 84) rfl ?_
  refine v_nmI (fun I145 => ?_)
  refine v_dup (pc := 567) h dX6_init_567 rfl ?_
  refine v_bipush (pc := 568) h dX6_init_568 (v := 85) rfl ?_
  refine v_bipush (pc := 570) h dX6_init_570 (v := 97) rfl ?_
  refine v_iastL (pc := 572) h dX6_init_572 h59 h60 (vpd rfl) (k := 85) rfl ?_
  refine v_nmI (fun I146 => ?_)
  refine v_dup (pc := 573) h dX6_init_573 rfl ?_
  refine v_bipush (pc := 574) h dX6_init_574 (v := 86) rfl ?_
  refine v_bipush (pc := 576) h dX6_init_576 (v := 105) rfl ?_
  refine v_iastL (pc := 578) h dX6_init_578 h59 h60 (vpd rfl) (k := 86) rfl ?_
  refine v_nmI (fun I147 => ?_)
  refine v_dup (pc := 579) h dX6_init_579 rfl ?_
  refine v_bipush (pc := 580) h dX6_init_580 (v := 87) rfl ?_
  refine v_bipush (pc := 582) h dX6_init_582 (v := 110) rfl ?_
  refine v_iastL (pc := 584) h dX6_init_584 h59 h60 (vpd rfl) (k := 87) rfl ?_
  refine v_nmI (fun I148 => ?_)
  refine v_dup (pc := 585) h dX6_init_585 rfl ?_
  refine v_bipush (pc := 586) h dX6_init_586 (v := 88) rfl ?_
  refine v_bipush (pc := 588) h dX6_init_588 (v := 32) rfl ?_
  refine v_iastL (pc := 590) h dX6_init_590 h59 h60 (vpd rfl) (k := 88) rfl ?_
  refine v_nmI (fun I149 => ?_)
  refine v_dup (pc := 591) h dX6_init_591 rfl ?_
  refine v_bipush (pc := 592) h dX6_init_592 (v := 89) rfl ?_
  refine v_bipush (pc := 594) h dX6_init_594 (v := 100) rfl ?_
  refine v_iastL (pc := 596) h dX6_init_596 h59 h60 (vpd rfl) (k := 89) rfl ?_
  refine v_nmI (fun I150 => ?_)
  refine v_dup (pc := 597) h dX6_init_597 rfl ?_
  refine v_bipush (pc := 598) h dX6_init_598 (v := 90) rfl ?_
  refine v_bipush (pc := 600) h dX6_init_600 (v := 97) rfl ?_
  refine v_iastL (pc := 602) h dX6_init_602 h59 h60 (vpd rfl) (k := 90) rfl ?_
  refine v_nmI (fun I151 => ?_)
  refine v_dup (pc := 603) h dX6_init_603 rfl ?_
  refine v_bipush (pc := 604) h dX6_init_604 (v := 91) rfl ?_
  refine v_bipush (pc := 606) h dX6_init_606 (v := 121) rfl ?_
  refine v_iastL (pc := 608) h dX6_init_608 h59 h60 (vpd rfl) (k := 91) rfl ?_
  refine v_nmI (fun I152 => ?_)
  refine v_dup (pc := 609) h dX6_init_609 rfl ?_
  refine v_bipush (pc := 610) h dX6_init_610 (v := 92) rfl ?_
  refine v_bipush (pc := 612) h dX6_init_612 (v := 32) rfl ?_
  refine v_iastL (pc := 614) h dX6_init_614 h59 h60 (vpd rfl) (k := 92) rfl ?_
  refine v_nmI (fun I153 => ?_)
  refine v_dup (pc := 615) h dX6_init_615 rfl ?_
  refine v_bipush (pc := 616) h dX6_init_616 (v := 93) rfl ?_
  refine v_bipush (pc := 618) h dX6_init_618 (v := 111) rfl ?_
  refine v_iastL (pc := 620) h dX6_init_620 h59 h60 (vpd rfl) (k := 93) rfl ?_
  refine v_nmI (fun I154 => ?_)
  refine v_dup (pc := 621) h dX6_init_621 rfl ?_
  refine v_bipush (pc := 622) h dX6_init_622 (v := 94) rfl ?_
  refine v_bipush (pc := 624) h dX6_init_624 (v := 110) rfl ?_
  refine v_iastL (pc := 626) h dX6_init_626 h59 h60 (vpd rfl) (k := 94) rfl ?_
  refine v_nmI (fun I155 => ?_)
  refine v_dup (pc := 627) h dX6_init_627 rfl ?_
  refine v_bipush (pc := 628) h dX6_init_628 (v := 95) rfl ?_
  refine v_bipush (pc := 630) h dX6_init_630 (v := 32) rfl ?_
  refine v_iastL (pc := 632) h dX6_init_632 h59 h60 (vpd rfl) (k := 95) rfl ?_
  refine v_nmI (fun I156 => ?_)
  refine v_dup (pc := 633) h dX6_init_633 rfl ?_
  refine v_bipush (pc := 634) h dX6_init_634 (v := 96) rfl ?_
  refine v_bipush (pc := 636) h dX6_init_636 (v := 116) rfl ?_
  refine v_iastL (pc := 638) h dX6_init_638 h59 h60 (vpd rfl) (k := 96) rfl ?_
  refine v_nmI (fun I157 => ?_)
  refine v_dup (pc := 639) h dX6_init_639 rfl ?_
  refine v_bipush (pc := 640) h dX6_init_640 (v := 97) rfl ?_
  refine v_bipush (pc := 642) h dX6_init_642 (v := 111) rfl ?_
  refine v_iastL (pc := 644) h dX6_init_644 h59 h60 (vpd rfl) (k := 97) rfl ?_
  refine v_nmI (fun I158 => ?_)
  refine v_dup (pc := 645) h dX6_init_645 rfl ?_
  refine v_bipush (pc := 646) h dX6_init_646 (v := 98) rfl ?_
  refine v_bipush (pc := 648) h dX6_init_648 (v := 32) rfl ?_
  refine v_iastL (pc := 650) h dX6_init_650 h59 h60 (vpd rfl) (k := 98) rfl ?_
  refine v_nmI (fun I159 => ?_)
  refine v_dup (pc := 651) h dX6_init_651 rfl ?_
  refine v_bipush (pc := 652) h dX6_init_652 (v := 99) rfl ?_
  refine v_bipush (pc := 654) h dX6_init_654 (v := 119) rfl ?_
  refine v_iastL (pc := 656) h dX6_init_656 h59 h60 (vpd rfl) (k := 99) rfl ?_
  refine v_nmI (fun I160 => ?_)
  refine v_dup (pc := 657) h dX6_init_657 rfl ?_
  refine v_bipush (pc := 658) h dX6_init_658 (v := 100) rfl ?_
  refine v_bipush (pc := 660) h dX6_init_660 (v := 97) rfl ?_
  refine v_iastL (pc := 662) h dX6_init_662 h59 h60 (vpd rfl) (k := 100) rfl ?_
  refine v_nmI (fun I161 => ?_)
  refine v_dup (pc := 663) h dX6_init_663 rfl ?_
  refine v_bipush (pc := 664) h dX6_init_664 (v := 101) rfl ?_
  refine v_bipush (pc := 666) h dX6_init_666 (v := 108) rfl ?_
  refine v_iastL (pc := 668) h dX6_init_668 h59 h60 (vpd rfl) (k := 101) rfl ?_
  refine v_nmI (fun I162 => ?_)
  refine v_dup (pc := 669) h dX6_init_669 rfl ?_
  refine v_bipush (pc := 670) h dX6_init_670 (v := 102) rfl ?_
  refine v_bipush (pc := 672) h dX6_init_672 (v := 107) rfl ?_
  refine v_iastL (pc := 674) h dX6_init_674 h59 h60 (vpd rfl) (k := 102) rfl ?_
  refine v_nmI (fun I163 => ?_)
  refine v_dup (pc := 675) h dX6_init_675 rfl ?_
  refine v_bipush (pc := 676) h dX6_init_676 (v := 103) rfl ?_
  refine v_bipush (pc := 678) h dX6_init_678 (v := 32) rfl ?_
  refine v_iastL (pc := 680) h dX6_init_680 h59 h60 (vpd rfl) (k := 103) rfl ?_
  refine v_nmI (fun I164 => ?_)
  refine v_dup (pc := 681) h dX6_init_681 rfl ?_
  refine v_bipush (pc := 682) h dX6_init_682 (v := 104) rfl ?_
  refine v_bipush (pc := 684) h dX6_init_684 (v := 115) rfl ?_
  refine v_iastL (pc := 686) h dX6_init_686 h59 h60 (vpd rfl) (k := 104) rfl ?_
  refine v_nmI (fun I165 => ?_)
  refine v_dup (pc := 687) h dX6_init_687 rfl ?_
  refine v_bipush (pc := 688) h dX6_init_688 (v := 105) rfl ?_
  refine v_bipush (pc := 690) h dX6_init_690 (v := 116) rfl ?_
  refine v_iastL (pc := 692) h dX6_init_692 h59 h60 (vpd rfl) (k := 105) rfl ?_
  refine v_nmI (fun I166 => ?_)
  refine v_dup (pc := 693) h dX6_init_693 rfl ?_
  refine v_bipush (pc := 694) h dX6_init_694 (v := 106) rfl ?_
  refine v_bipush (pc := 696) h dX6_init_696 (v := 114) rfl ?_
  refine v_iastL (pc := 698) h dX6_init_698 h59 h60 (vpd rfl) (k := 106) rfl ?_
  refine v_nmI (fun I167 => ?_)
  refine v_dup (pc := 699) h dX6_init_699 rfl ?_
  refine v_bipush (pc := 700) h dX6_init_700 (v := 107) rfl ?_
  refine v_bipush (pc := 702) h dX6_init_702 (v := 101) rfl ?_
  refine v_iastL (pc := 704) h dX6_init_704 h59 h60 (vpd rfl) (k := 107) rfl ?_
  refine v_nmI (fun I168 => ?_)
  refine v_dup (pc := 705) h dX6_init_705 rfl ?_
  refine v_bipush (pc := 706) h dX6_init_706 (v := 108) rfl ?_
  refine v_bipush (pc := 708) h dX6_init_708 (v := 101) rfl ?_
  refine v_iastL (pc := 710) h dX6_init_710 h59 h60 (vpd rfl) (k := 108) rfl ?_
  refine v_nmI (fun I169 => ?_)
  refine v_dup (pc := 711) h dX6_init_711 rfl ?_
  refine v_bipush (pc := 712) h dX6_init_712 (v := 109) rfl ?_
  refine v_bipush (pc := 714) h dX6_init_714 (v := 116) rfl ?_
  refine v_iastL (pc := 716) h dX6_init_716 h59 h60 (vpd rfl) (k := 109) rfl ?_
  refine v_nmI (fun I170 => ?_)
  refine v_dup (pc := 717) h dX6_init_717 rfl ?_
  refine v_bipush (pc := 718) h dX6_init_718 (v := 110) rfl ?_
  refine v_bipush (pc := 720) h dX6_init_720 (v := 32) rfl ?_
  refine v_iastL (pc := 722) h dX6_init_722 h59 h60 (vpd rfl) (k := 110) rfl ?_
  refine v_nmI (fun I171 => ?_)
  refine v_dup (pc := 723) h dX6_init_723 rfl ?_
  refine v_bipush (pc := 724) h dX6_init_724 (v := 111) rfl ?_
  refine v_bipush (pc := 726) h dX6_init_726 (v := 110) rfl ?_
  refine v_iastL (pc := 728) h dX6_init_728 h59 h60 (vpd rfl) (k := 111) rfl ?_
  refine v_nmI (fun I172 => ?_)
  refine v_dup (pc := 729) h dX6_init_729 rfl ?_
  refine v_bipush (pc := 730) h dX6_init_730 (v := 112) rfl ?_
  refine v_bipush (pc := 732) h dX6_init_732 (v := 101) rfl ?_
  refine v_iastL (pc := 734) h dX6_init_734 h59 h60 (vpd rfl) (k := 112) rfl ?_
  refine v_nmI (fun I173 => ?_)
  refine v_dup (pc := 735) h dX6_init_735 rfl ?_
  refine v_bipush (pc := 736) h dX6_init_736 (v := 113) rfl ?_
  refine v_bipush (pc := 738) h dX6_init_738 (v := 119) rfl ?_
  refine v_iastL (pc := 740) h dX6_init_740 h59 h60 (vpd rfl) (k := 113) rfl ?_
  refine v_nmI (fun I174 => ?_)
  refine v_dup (pc := 741) h dX6_init_741 rfl ?_
  refine v_bipush (pc := 742) h dX6_init_742 (v := 114) rfl ?_
  refine v_bipush (pc := 744) h dX6_init_744 (v := 115) rfl ?_
  refine v_iastL (pc := 746) h dX6_init_746 h59 h60 (vpd rfl) (k := 114) rfl ?_
  refine v_nmI (fun I175 => ?_)
  refine v_dup (pc := 747) h dX6_init_747 rfl ?_
  refine v_bipush (pc := 748) h dX6_init_748 (v := 115) rfl ?_
  refine v_bipush (pc := 750) h dX6_init_750 (v := 32) rfl ?_
  refine v_iastL (pc := 752) h dX6_init_752 h59 h60 (vpd rfl) (k := 115) rfl ?_
  refine v_nmI (fun I176 => ?_)
  refine v_dup (pc := 753) h dX6_init_753 rfl ?_
  refine v_bipush (pc := 754) h dX6_init_754 (v := 116) rfl ?_
  refine v_bipush (pc := 756) h dX6_init_756 (v := 98) rfl ?_
  refine v_iastL (pc := 758) h dX6_init_758 h59 h60 (vpd rfl) (k := 116) rfl ?_
  refine v_nmI (fun I177 => ?_)
  refine v_dup (pc := 759) h dX6_init_759 rfl ?_
  refine v_bipush (pc := 760) h dX6_init_760 (v := 117) rfl ?_
  refine v_bipush (pc := 762) h dX6_init_762 (v := 105) rfl ?_
  refine v_iastL (pc := 764) h dX6_init_764 h59 h60 (vpd rfl) (k := 117) rfl ?_
  refine v_nmI (fun I178 => ?_)
  refine v_dup (pc := 765) h dX6_init_765 rfl ?_
  refine v_bipush (pc := 766) h dX6_init_766 (v := 118) rfl ?_
  refine v_bipush (pc := 768) h dX6_init_768 (v := 108) rfl ?_
  refine v_iastL (pc := 770) h dX6_init_770 h59 h60 (vpd rfl) (k := 118) rfl ?_
  refine v_nmI (fun I179 => ?_)
  refine v_dup (pc := 771) h dX6_init_771 rfl ?_
  refine v_bipush (pc := 772) h dX6_init_772 (v := 119) rfl ?_
  refine v_bipush (pc := 774) h dX6_init_774 (v := 108) rfl ?_
  refine v_iastL (pc := 776) h dX6_init_776 h59 h60 (vpd rfl) (k := 119) rfl ?_
  refine v_nmI (fun I180 => ?_)
  refine v_dup (pc := 777) h dX6_init_777 rfl ?_
  refine v_bipush (pc := 778) h dX6_init_778 (v := 120) rfl ?_
  refine v_bipush (pc := 780) h dX6_init_780 (v := 32) rfl ?_
  refine v_iastL (pc := 782) h dX6_init_782 h59 h60 (vpd rfl) (k := 120) rfl ?_
  refine v_nmI (fun I181 => ?_)
  refine v_dup (pc := 783) h dX6_init_783 rfl ?_
  refine v_bipush (pc := 784) h dX6_init_784 (v := 121) rfl ?_
  refine v_bipush (pc := 786) h dX6_init_786 (v := 107) rfl ?_
  refine v_iastL (pc := 788) h dX6_init_788 h59 h60 (vpd rfl) (k := 121) rfl ?_
  refine v_nmI (fun I182 => ?_)
  refine v_dup (pc := 789) h dX6_init_789 rfl ?_
  refine v_bipush (pc := 790) h dX6_init_790 (v := 122) rfl ?_
  refine v_bipush (pc := 792) h dX6_init_792 (v := 105) rfl ?_
  refine v_iastL (pc := 794) h dX6_init_794 h59 h60 (vpd rfl) (k := 122) rfl ?_
  refine v_nmI (fun I183 => ?_)
  refine v_dup (pc := 795) h dX6_init_795 rfl ?_
  refine v_bipush (pc := 796) h dX6_init_796 (v := 123) rfl ?_
  refine v_bipush (pc := 798) h dX6_init_798 (v := 115) rfl ?_
  refine v_iastL (pc := 800) h dX6_init_800 h59 h60 (vpd rfl) (k := 123) rfl ?_
  refine v_nmI (fun I184 => ?_)
  refine v_dup (pc := 801) h dX6_init_801 rfl ?_
  refine v_bipush (pc := 802) h dX6_init_802 (v := 124) rfl ?_
  refine v_bipush (pc := 804) h dX6_init_804 (v := 115) rfl ?_
  refine v_iastL (pc := 806) h dX6_init_806 h59 h60 (vpd rfl) (k := 124) rfl ?_
  refine v_nmI (fun I185 => ?_)
  refine v_dup (pc := 807) h dX6_init_807 rfl ?_
  refine v_bipush (pc := 808) h dX6_init_808 (v := 125) rfl ?_
  refine v_bipush (pc := 810) h dX6_init_810 (v := 32) rfl ?_
  refine v_iastL (pc := 812) h dX6_init_812 h59 h60 (vpd rfl) (k := 125) rfl ?_
  refine v_nmI (fun I186 => ?_)
  refine v_dup (pc := 813) h dX6_init_813 rfl ?_
  refine v_bipush (pc := 814) h dX6_init_814 (v := 126) rfl ?_
  refine v_bipush (pc := 816) h dX6_init_816 (v := 97) rfl ?_
  refine v_iastL (pc := 818) h dX6_init_818 h59 h60 (vpd rfl) (k := 126) rfl ?_
  refine v_nmI (fun I187 => ?_)
  refine v_dup (pc := 819) h dX6_init_819 rfl ?_
  refine v_bipush (pc := 820) h dX6_init_820 (v := 127) rfl ?_
  refine v_bipush (pc := 822) h dX6_init_822 (v := 110) rfl ?_
  refine v_iastL (pc := 824) h dX6_init_824 h59 h60 (vpd rfl) (k := 127) rfl ?_
  refine v_nmI (fun I188 => ?_)
  refine v_dup (pc := 825) h dX6_init_825 rfl ?_
  refine v_sipush (pc := 826) h dX6_init_826 (v := 128) rfl ?_
  refine v_bipush (pc := 829) h dX6_init_829 (v := 103) rfl ?_
  refine v_iastL (pc := 831) h dX6_init_831 h59 h60 (vpd rfl) (k := 128) rfl ?_
  refine v_nmI (fun I189 => ?_)
  refine v_dup (pc := 832) h dX6_init_832 rfl ?_
  refine v_sipush (pc := 833) h dX6_init_833 (v := 129) rfl ?_
  refine v_bipush (pc := 836) h dX6_init_836 (v := 101) rfl ?_
  refine v_iastL (pc := 838) h dX6_init_838 h59 h60 (vpd rfl) (k := 129) rfl ?_
  refine v_nmI (fun I190 => ?_)
  refine v_dup (pc := 839) h dX6_init_839 rfl ?_
  refine v_sipush (pc := 840) h dX6_init_840 (v := 130) rfl ?_
  refine v_bipush (pc := 843) h dX6_init_843 (v := 114) rfl ?_
  refine v_iastL (pc := 845) h dX6_init_845 h59 h60 (vpd rfl) (k := 130) rfl ?_
  refine v_nmI (fun I191 => ?_)
  refine v_dup (pc := 846) h dX6_init_846 rfl ?_
  refine v_sipush (pc := 847) h dX6_init_847 (v := 131) rfl ?_
  refine v_bipush (pc := 850) h dX6_init_850 (v := 32) rfl ?_
  refine v_iastL (pc := 852) h dX6_init_852 h59 h60 (vpd rfl) (k := 131) rfl ?_
  refine v_nmI (fun I192 => ?_)
  refine v_dup (pc := 853) h dX6_init_853 rfl ?_
  refine v_sipush (pc := 854) h dX6_init_854 (v := 132) rfl ?_
  refine v_bipush (pc := 857) h dX6_init_857 (v := 105) rfl ?_
  refine v_iastL (pc := 859) h dX6_init_859 h59 h60 (vpd rfl) (k := 132) rfl ?_
  refine v_nmI (fun I193 => ?_)
  refine v_dup (pc := 860) h dX6_init_860 rfl ?_
  refine v_sipush (pc := 861) h dX6_init_861 (v := 133) rfl ?_
  refine v_bipush (pc := 864) h dX6_init_864 (v := 110) rfl ?_
  refine v_iastL (pc := 866) h dX6_init_866 h59 h60 (vpd rfl) (k := 133) rfl ?_
  refine v_nmI (fun I194 => ?_)
  refine v_dup (pc := 867) h dX6_init_867 rfl ?_
  refine v_sipush (pc := 868) h dX6_init_868 (v := 134) rfl ?_
  refine v_bipush (pc := 871) h dX6_init_871 (v := 118) rfl ?_
  refine v_iastL (pc := 873) h dX6_init_873 h59 h60 (vpd rfl) (k := 134) rfl ?_
  refine v_nmI (fun I195 => ?_)
  refine v_dup (pc := 874) h dX6_init_874 rfl ?_
  refine v_sipush (pc := 875) h dX6_init_875 (v := 135) rfl ?_
  refine v_bipush (pc := 878) h dX6_init_878 (v := 105) rfl ?_
  refine v_iastL (pc := 880) h dX6_init_880 h59 h60 (vpd rfl) (k := 135) rfl ?_
  refine v_nmI (fun I196 => ?_)
  refine v_dup (pc := 881) h dX6_init_881 rfl ?_
  refine v_sipush (pc := 882) h dX6_init_882 (v := 136) rfl ?_
  refine v_bipush (pc := 885) h dX6_init_885 (v := 116) rfl ?_
  refine v_iastL (pc := 887) h dX6_init_887 h59 h60 (vpd rfl) (k := 136) rfl ?_
  refine v_nmI (fun I197 => ?_)
  refine v_dup (pc := 888) h dX6_init_888 rfl ?_
  refine v_sipush (pc := 889) h dX6_init_889 (v := 137) rfl ?_
  refine v_bipush (pc := 892) h dX6_init_892 (v := 97) rfl ?_
  refine v_iastL (pc := 894) h dX6_init_894 h59 h60 (vpd rfl) (k := 137) rfl ?_
  refine v_nmI (fun I198 => ?_)
  refine v_dup (pc := 895) h dX6_init_895 rfl ?_
  refine v_sipush (pc := 896) h dX6_init_896 (v := 138) rfl ?_
  refine v_bipush (pc := 899) h dX6_init_899 (v := 116) rfl ?_
  refine v_iastL (pc := 901) h dX6_init_901 h59 h60 (vpd rfl) (k := 138) rfl ?_
  refine v_nmI (fun I199 => ?_)
  refine v_dup (pc := 902) h dX6_init_902 rfl ?_
  refine v_sipush (pc := 903) h dX6_init_903 (v := 139) rfl ?_
  refine v_bipush (pc := 906) h dX6_init_906 (v := 105) rfl ?_
  refine v_iastL (pc := 908) h dX6_init_908 h59 h60 (vpd rfl) (k := 139) rfl ?_
  refine v_nmI (fun I200 => ?_)
  refine v_dup (pc := 909) h dX6_init_909 rfl ?_
  refine v_sipush (pc := 910) h dX6_init_910 (v := 140) rfl ?_
  refine v_bipush (pc := 913) h dX6_init_913 (v := 111) rfl ?_
  refine v_iastL (pc := 915) h dX6_init_915 h59 h60 (vpd rfl) (k := 140) rfl ?_
  refine v_nmI (fun I201 => ?_)
  refine v_dup (pc := 916) h dX6_init_916 rfl ?_
  refine v_sipush (pc := 917) h dX6_init_917 (v := 141) rfl ?_
  refine v_bipush (pc := 920) h dX6_init_920 (v := 110) rfl ?_
  refine v_iastL (pc := 922) h dX6_init_922 h59 h60 (vpd rfl) (k := 141) rfl ?_
  refine v_nmI (fun I202 => ?_)
  refine v_dup (pc := 923) h dX6_init_923 rfl ?_
  refine v_sipush (pc := 924) h dX6_init_924 (v := 142) rfl ?_
  refine v_bipush (pc := 927) h dX6_init_927 (v := 32) rfl ?_
  refine v_iastL (pc := 929) h dX6_init_929 h59 h60 (vpd rfl) (k := 142) rfl ?_
  refine v_nmI (fun I203 => ?_)
  refine v_dup (pc := 930) h dX6_init_930 rfl ?_
  refine v_sipush (pc := 931) h dX6_init_931 (v := 143) rfl ?_
  refine v_bipush (pc := 934) h dX6_init_934 (v := 116) rfl ?_
  refine v_iastL (pc := 936) h dX6_init_936 h59 h60 (vpd rfl) (k := 143) rfl ?_
  refine v_nmI (fun I204 => ?_)
  refine v_dup (pc := 937) h dX6_init_937 rfl ?_
  refine v_sipush (pc := 938) h dX6_init_938 (v := 144) rfl ?_
  refine v_bipush (pc := 941) h dX6_init_941 (v := 101) rfl ?_
  refine v_iastL (pc := 943) h dX6_init_943 h59 h60 (vpd rfl) (k := 144) rfl ?_
  refine v_nmI (fun I205 => ?_)
  refine v_dup (pc := 944) h dX6_init_944 rfl ?_
  refine v_sipush (pc := 945) h dX6_init_945 (v := 145) rfl ?_
  refine v_bipush (pc := 948) h dX6_init_948 (v := 120) rfl ?_
  refine v_iastL (pc := 950) h dX6_init_950 h59 h60 (vpd rfl) (k := 145) rfl ?_
  refine v_nmI (fun I206 => ?_)
  refine v_dup (pc := 951) h dX6_init_951 rfl ?_
  refine v_sipush (pc := 952) h dX6_init_952 (v := 146) rfl ?_
  refine v_bipush (pc := 955) h dX6_init_955 (v := 116) rfl ?_
  refine v_iastL (pc := 957) h dX6_init_957 h59 h60 (vpd rfl) (k := 146) rfl ?_
  refine v_nmI (fun I207 => ?_)
  refine v_dup (pc := 958) h dX6_init_958 rfl ?_
  refine v_sipush (pc := 959) h dX6_init_959 (v := 147) rfl ?_
  refine v_bipush (pc := 962) h dX6_init_962 (v := 32) rfl ?_
  refine v_iastL (pc := 964) h dX6_init_964 h59 h60 (vpd rfl) (k := 147) rfl ?_
  refine v_nmI (fun I208 => ?_)
  refine v_dup (pc := 965) h dX6_init_965 rfl ?_
  refine v_sipush (pc := 966) h dX6_init_966 (v := 148) rfl ?_
  refine v_bipush (pc := 969) h dX6_init_969 (v := 106) rfl ?_
  refine v_iastL (pc := 971) h dX6_init_971 h59 h60 (vpd rfl) (k := 148) rfl ?_
  refine v_nmI (fun I209 => ?_)
  refine v_dup (pc := 972) h dX6_init_972 rfl ?_
  refine v_sipush (pc := 973) h dX6_init_973 (v := 149) rfl ?_
  refine v_bipush (pc := 976) h dX6_init_976 (v := 111) rfl ?_
  refine v_iastL (pc := 978) h dX6_init_978 h59 h60 (vpd rfl) (k := 149) rfl ?_
  refine v_nmI (fun I210 => ?_)
  refine v_dup (pc := 979) h dX6_init_979 rfl ?_
  refine v_sipush (pc := 980) h dX6_init_980 (v := 150) rfl ?_
  refine v_bipush (pc := 983) h dX6_init_983 (v := 107) rfl ?_
  refine v_iastL (pc := 985) h dX6_init_985 h59 h60 (vpd rfl) (k := 150) rfl ?_
  refine v_nmI (fun I211 => ?_)
  refine v_dup (pc := 986) h dX6_init_986 rfl ?_
  refine v_sipush (pc := 987) h dX6_init_987 (v := 151) rfl ?_
  refine v_bipush (pc := 990) h dX6_init_990 (v := 101) rfl ?_
  refine v_iastL (pc := 992) h dX6_init_992 h59 h60 (vpd rfl) (k := 151) rfl ?_
  refine v_nmI (fun I212 => ?_)
  refine v_dup (pc := 993) h dX6_init_993 rfl ?_
  refine v_sipush (pc := 994) h dX6_init_994 (v := 152) rfl ?_
  refine v_bipush (pc := 997) h dX6_init_997 (v := 32) rfl ?_
  refine v_iastL (pc := 999) h dX6_init_999 h59 h60 (vpd rfl) (k := 152) rfl ?_
  refine v_nmI (fun I213 => ?_)
  refine v_putFr (pc := 1000) (o := (some (rN r52))) h hnm dX6_init_1000 ffX6_28 rfl rfl rfl h58 ?_
  refine v_nmrN (r := wP r56 o 15 (some (rN r52))) (fun r214 => ?_)
  refine v_and (fun hw215 => ?_)
  refine v_and (fun h216 => ?_)
  refine v_aload_n (pc := 1003) h dX6_init_1003 0 rfl rfl ?_
  refine v_iconst (pc := 1004) h dX6_init_1004 (v := 2) rfl ?_
  refine v_newi (pc := 1005) (len := 2) h dX6_init_1005 (by decide) rfl (by decide) hRm hw215.1 hw215.2.2.1 ?_
  refine v_nmI (fun I217 => ?_)
  refine v_nmrN (r := aR r214 50 2 2) (fun r218 => ?_)
  refine v_and (fun hw219 => ?_)
  refine v_and (fun h220 => ?_)
  refine v_and (fun h221 => ?_)
  refine v_and (fun h222 => ?_)
  refine v_putFr (pc := 1007) (o := (some (rN r214))) h hnm dX6_init_1007 ffX6_31 rfl rfl rfl h220 ?_
  refine v_nmrN (r := wP r218 o 16 (some (rN r214))) (fun r223 => ?_)
  refine v_and (fun hw224 => ?_)
  refine v_and (fun h225 => ?_)
  refine v_aload_n (pc := 1010) h dX6_init_1010 0 rfl rfl ?_
  refine v_bipush (pc := 1011) h dX6_init_1011 (v := 48) rfl ?_
  refine v_newi (pc := 1013) (len := 48) h dX6_init_1013 (by decide) rfl (by decide) hRm hw224.1 hw224.2.2.1 ?_
  refine v_nmI (fun I226 => ?_)
  refine v_nmrN (r := aR r223 50 48 48) (fun r227 => ?_)
  refine v_and (fun hw228 => ?_)
  refine v_and (fun h229 => ?_)
  refine v_and (fun h230 => ?_)
  refine v_and (fun h231 => ?_)
  refine v_putFr (pc := 1015) (o := (some (rN r223))) h hnm dX6_init_1015 ffX6_34 rfl rfl rfl h229 ?_
  refine v_nmrN (r := wP r227 o 17 (some (rN r223))) (fun r232 => ?_)
  refine v_and (fun hw233 => ?_)
  refine v_and (fun h234 => ?_)
  refine v_aload_n (pc := 1018) h dX6_init_1018 0 rfl rfl ?_
  refine v_bipush (pc := 1019) h dX6_init_1019 (v := 48) rfl ?_
  refine v_newi (pc := 1021) (len := 48) h dX6_init_1021 (by decide) rfl (by decide) hRm hw233.1 hw233.2.2.1 ?_
  refine v_nmI (fun I235 => ?_)
  refine v_nmrN (r := aR r232 50 48 48) (fun r236 => ?_)
  refine v_and (fun hw237 => ?_)
  refine v_and (fun h238 => ?_)
  refine v_and (fun h239 => ?_)
  refine v_and (fun h240 => ?_)
  refine v_putFr (pc := 1023) (o := (some (rN r232))) h hnm dX6_init_1023 ffX6_37 rfl rfl rfl h238 ?_
  refine v_nmrN (r := wP r236 o 18 (some (rN r232))) (fun r241 => ?_)
  refine v_and (fun hw242 => ?_)
  refine v_and (fun h243 => ?_)
  refine v_aload_n (pc := 1026) h dX6_init_1026 0 rfl rfl ?_
  refine v_bipush (pc := 1027) h dX6_init_1027 (v := 48) rfl ?_
  refine v_newi (pc := 1029) (len := 48) h dX6_init_1029 (by decide) rfl (by decide) hRm hw242.1 hw242.2.2.1 ?_
  refine v_nmI (fun I244 => ?_)
  refine v_nmrN (r := aR r241 50 48 48) (fun r245 => ?_)
  refine v_and (fun hw246 => ?_)
  refine v_and (fun h247 => ?_)
  refine v_and (fun h248 => ?_)
  refine v_and (fun h249 => ?_)
  refine v_putFr (pc := 1031) (o := (some (rN r241))) h hnm dX6_init_1031 ffX6_40 rfl rfl rfl h247 ?_
  refine v_nmrN (r := wP r245 o 19 (some (rN r241))) (fun r250 => ?_)
  refine v_and (fun hw251 => ?_)
  refine v_and (fun h252 => ?_)
  refine v_aload_n (pc := 1034) h dX6_init_1034 0 rfl rfl ?_
  refine v_bipush (pc := 1035) h dX6_init_1035 (v := 48) rfl ?_
  refine v_newi (pc := 1037) (len := 48) h dX6_init_1037 (by decide) rfl (by decide) hRm hw251.1 hw251.2.2.1 ?_
  refine v_nmI (fun I253 => ?_)
  refine v_nmrN (r := aR r250 50 48 48) (fun r254 => ?_)
  refine v_and (fun hw255 => ?_)
  refine v_and (fun h256 => ?_)
  refine v_and (fun h257 => ?_)
  refine v_and (fun h258 => ?_)
  refine v_putFr (pc := 1039) (o := (some (rN r250))) h hnm dX6_init_1039 ffX6_43 rfl rfl rfl h256 ?_
  refine v_nmrN (r := wP r254 o 20 (some (rN r250))) (fun r259 => ?_)
  refine v_and (fun hw260 => ?_)
  refine v_and (fun h261 => ?_)
  refine v_aload_n (pc := 1042) h dX6_init_1042 0 rfl rfl ?_
  refine v_sipush (pc := 1043) h dX6_init_1043 (v := 1200) rfl ?_
  refine v_newi (pc := 1046) (len := 1200) h dX6_init_1046 (by decide) rfl (by decide) hRm hw260.1 hw260.2.2.1 ?_
  refine v_nmI (fun I262 => ?_)
  refine v_nmrN (r := aR r259 50 1200 1200) (fun r263 => ?_)
  refine v_and (fun hw264 => ?_)
  refine v_and (fun h265 => ?_)
  refine v_and (fun h266 => ?_)
  refine v_and (fun h267 => ?_)
  refine v_putFr (pc := 1048) (o := (some (rN r259))) h hnm dX6_init_1048 ffX6_46 rfl rfl rfl h265 ?_
  refine v_nmrN (r := wP r263 o 21 (some (rN r259))) (fun r268 => ?_)
  refine v_and (fun hw269 => ?_)
  refine v_and (fun h270 => ?_)
  refine v_aload_n (pc := 1051) h dX6_init_1051 0 rfl rfl ?_
  refine v_sipush (pc := 1052) h dX6_init_1052 (v := 1200) rfl ?_
  refine v_newi (pc := 1055) (len := 1200) h dX6_init_1055 (by decide) rfl (by decide) hRm hw269.1 hw269.2.2.1 ?_
  refine v_nmI (fun I271 => ?_)
  refine v_nmrN (r := aR r268 50 1200 1200) (fun r272 => ?_)
  refine v_and (fun hw273 => ?_)
  refine v_and (fun h274 => ?_)
  refine v_and (fun h275 => ?_)
  refine v_and (fun h276 => ?_)
  refine v_putFr (pc := 1057) (o := (some (rN r268))) h hnm dX6_init_1057 ffX6_49 rfl rfl rfl h274 ?_
  refine v_nmrN (r := wP r272 o 22 (some (rN r268))) (fun r277 => ?_)
  refine v_and (fun hw278 => ?_)
  refine v_and (fun h279 => ?_)
  refine v_aload_n (pc := 1060) h dX6_init_1060 0 rfl rfl ?_
  refine v_bipush (pc := 1061) h dX6_init_1061 (v := 40) rfl ?_
  refine v_newi (pc := 1063) (len := 40) h dX6_init_1063 (by decide) rfl (by decide) hRm hw278.1 hw278.2.2.1 ?_
  refine v_nmI (fun I280 => ?_)
  refine v_nmrN (r := aR r277 50 40 40) (fun r281 => ?_)
  refine v_and (fun hw282 => ?_)
  refine v_and (fun h283 => ?_)
  refine v_and (fun h284 => ?_)
  refine v_and (fun h285 => ?_)
  refine v_putFr (pc := 1065) (o := (some (rN r277))) h hnm dX6_init_1065 ffX6_52 rfl rfl rfl h283 ?_
  refine v_nmrN (r := wP r281 o 26 (some (rN r277))) (fun r286 => ?_)
  refine v_and (fun hw287 => ?_)
  refine v_and (fun h288 => ?_)
  refine v_aload_n (pc := 1068) h dX6_init_1068 0 rfl rfl ?_
  refine v_iconst (pc := 1069) h dX6_init_1069 (v := (-1)) rfl ?_
  refine v_puti (pc := 1070) h dX6_init_1070 fX6_55 rfl h288 ?_
  refine v_nmI (fun I289 => ?_)
  refine v_aload_n (pc := 1073) h dX6_init_1073 0 rfl rfl ?_
  refine v_sipush (pc := 1074) h dX6_init_1074 (v := 128) rfl ?_
  refine v_newi (pc := 1077) (len := 128) h dX6_init_1077 (by decide) rfl (by decide) hRm hw287.1 hw287.2.2.1 ?_
  refine v_nmI (fun I290 => ?_)
  refine v_nmrN (r := aR r286 50 128 128) (fun r291 => ?_)
  refine v_and (fun hw292 => ?_)
  refine v_and (fun h293 => ?_)
  refine v_and (fun h294 => ?_)
  refine v_and (fun h295 => ?_)
  refine v_putFr (pc := 1079) (o := (some (rN r286))) h hnm dX6_init_1079 ffX6_59 rfl rfl rfl h293 ?_
  refine v_nmrN (r := wP r291 o 33 (some (rN r286))) (fun r296 => ?_)
  refine v_and (fun hw297 => ?_)
  refine v_and (fun h298 => ?_)
  refine v_aload_n (pc := 1082) h dX6_init_1082 0 rfl rfl ?_
  refine v_bipush (pc := 1083) h dX6_init_1083 (v := 32) rfl ?_
  refine v_newi (pc := 1085) (len := 32) h dX6_init_1085 (by decide) rfl (by decide) hRm hw297.1 hw297.2.2.1 ?_
  refine v_nmI (fun I299 => ?_)
  refine v_nmrN (r := aR r296 50 32 32) (fun r300 => ?_)
  refine v_and (fun hw301 => ?_)
  refine v_and (fun h302 => ?_)
  refine v_and (fun h303 => ?_)
  refine v_and (fun h304 => ?_)
  refine v_putFr (pc := 1087) (o := (some (rN r296))) h hnm dX6_init_1087 ffX6_62 rfl rfl rfl h302 ?_
  refine v_nmrN (r := wP r300 o 35 (some (rN r296))) (fun r305 => ?_)
  refine v_and (fun hw306 => ?_)
  refine v_and (fun h307 => ?_)
  refine v_aload_n (pc := 1090) h dX6_init_1090 0 rfl rfl ?_
  refine v_sipush (pc := 1091) h dX6_init_1091 (v := 288) rfl ?_
  refine v_newi (pc := 1094) (len := 288) h dX6_init_1094 (by decide) rfl (by decide) hRm hw306.1 hw306.2.2.1 ?_
  refine v_nmI (fun I308 => ?_)
  refine v_nmrN (r := aR r305 50 288 288) (fun r309 => ?_)
  refine v_and (fun hw310 => ?_)
  refine v_and (fun h311 => ?_)
  refine v_and (fun h312 => ?_)
  refine v_and (fun h313 => ?_)
  refine v_putFr (pc := 1096) (o := (some (rN r305))) h hnm dX6_init_1096 ffX6_65 rfl rfl rfl h311 ?_
  refine v_nmrN (r := wP r309 o 37 (some (rN r305))) (fun r314 => ?_)
  refine v_and (fun hw315 => ?_)
  refine v_and (fun h316 => ?_)
  refine v_aload_n (pc := 1099) h dX6_init_1099 0 rfl rfl ?_
  refine v_bipush (pc := 1100) h dX6_init_1100 (v := 11) rfl ?_
  refine v_newi (pc := 1102) (len := 11) h dX6_init_1102 (by decide) rfl (by decide) hRm hw315.1 hw315.2.2.1 ?_
  refine v_nmI (fun I317 => ?_)
  refine v_nmrN (r := aR r314 50 11 11) (fun r318 => ?_)
  refine v_and (fun hw319 => ?_)
  refine v_and (fun h320 => ?_)
  refine v_and (fun h321 => ?_)
  refine v_and (fun h322 => ?_)
  refine v_putFr (pc := 1104) (o := (some (rN r314))) h hnm dX6_init_1104 ffX6_68 rfl rfl rfl h320 ?_
  refine v_nmrN (r := wP r318 o 38 (some (rN r314))) (fun r323 => ?_)
  refine v_and (fun hw324 => ?_)
  refine v_and (fun h325 => ?_)
  refine v_aload_n (pc := 1107) h dX6_init_1107 0 rfl rfl ?_
  refine v_sipush (pc := 1108) h dX6_init_1108 (v := 420) rfl ?_
  refine v_newi (pc := 1111) (len := 420) h dX6_init_1111 (by decide) rfl (by decide) hRm hw324.1 hw324.2.2.1 ?_
  refine v_nmI (fun I326 => ?_)
  refine v_nmrN (r := aR r323 50 420 420) (fun r327 => ?_)
  refine v_and (fun hw328 => ?_)
  refine v_and (fun h329 => ?_)
  refine v_and (fun h330 => ?_)
  refine v_and (fun h331 => ?_)
  refine v_putFr (pc := 1113) (o := (some (rN r323))) h hnm dX6_init_1113 ffX6_71 rfl rfl rfl h329 ?_
  refine v_nmrN (r := wP r327 o 39 (some (rN r323))) (fun r332 => ?_)
  refine v_and (fun hw333 => ?_)
  refine v_and (fun h334 => ?_)
  refine v_aload_n (pc := 1116) h dX6_init_1116 0 rfl rfl ?_
  refine v_sipush (pc := 1117) h dX6_init_1117 (v := 144) rfl ?_
  refine v_newi (pc := 1120) (len := 144) h dX6_init_1120 (by decide) rfl (by decide) hRm hw333.1 hw333.2.2.1 ?_
  refine v_nmI (fun I335 => ?_)
  refine v_nmrN (r := aR r332 50 144 144) (fun r336 => ?_)
  refine v_and (fun hw337 => ?_)
  refine v_and (fun h338 => ?_)
  refine v_and (fun h339 => ?_)
  refine v_and (fun h340 => ?_)
  refine v_putFr (pc := 1122) (o := (some (rN r332))) h hnm dX6_init_1122 ffX6_74 rfl rfl rfl h338 ?_
  refine v_nmrN (r := wP r336 o 41 (some (rN r332))) (fun r341 => ?_)
  refine v_and (fun hw342 => ?_)
  refine v_and (fun h343 => ?_)
  refine v_aload_n (pc := 1125) h dX6_init_1125 0 rfl rfl ?_
  refine v_bipush (pc := 1126) h dX6_init_1126 (v := 12) rfl ?_
  refine v_newi (pc := 1128) (len := 12) h dX6_init_1128 (by decide) rfl (by decide) hRm hw342.1 hw342.2.2.1 ?_
  refine v_nmI (fun I344 => ?_)
  refine v_nmrN (r := aR r341 50 12 12) (fun r345 => ?_)
  refine v_and (fun hw346 => ?_)
  refine v_and (fun h347 => ?_)
  refine v_and (fun h348 => ?_)
  refine v_and (fun h349 => ?_)
  refine v_putFr (pc := 1130) (o := (some (rN r341))) h hnm dX6_init_1130 ffX6_77 rfl rfl rfl h347 ?_
  refine v_nmrN (r := wP r345 o 43 (some (rN r341))) (fun r350 => ?_)
  refine v_and (fun hw351 => ?_)
  refine v_and (fun h352 => ?_)
  refine v_aload_n (pc := 1133) h dX6_init_1133 0 rfl rfl ?_
  refine v_sipush (pc := 1134) h dX6_init_1134 (v := 2048) rfl ?_
  refine v_newi (pc := 1137) (len := 2048) h dX6_init_1137 (by decide) rfl (by decide) hRm hw351.1 hw351.2.2.1 ?_
  refine v_nmI (fun I353 => ?_)
  refine v_nmrN (r := aR r350 50 2048 2048) (fun r354 => ?_)
  refine v_and (fun hw355 => ?_)
  refine v_and (fun h356 => ?_)
  refine v_and (fun h357 => ?_)
  refine v_and (fun h358 => ?_)
  refine v_putFr (pc := 1139) (o := (some (rN r350))) h hnm dX6_init_1139 ffX6_80 rfl rfl rfl h356 ?_
  refine v_nmrN (r := wP r354 o 44 (some (rN r350))) (fun r359 => ?_)
  refine v_and (fun hw360 => ?_)
  refine v_and (fun h361 => ?_)
  refine v_aload_n (pc := 1142) h dX6_init_1142 0 rfl rfl ?_
  refine v_bipush (pc := 1143) h dX6_init_1143 (v := 8) rfl ?_
  refine v_newi (pc := 1145) (len := 8) h dX6_init_1145 (by decide) rfl (by decide) hRm hw360.1 hw360.2.2.1 ?_
  refine v_nmI (fun I362 => ?_)
  refine v_nmrN (r := aR r359 50 8 8) (fun r363 => ?_)
  refine v_and (fun hw364 => ?_)
  refine v_and (fun h365 => ?_)
  refine v_and (fun h366 => ?_)
  refine v_and (fun h367 => ?_)
  refine v_putFr (pc := 1147) (o := (some (rN r359))) h hnm dX6_init_1147 ffX6_83 rfl rfl rfl h365 ?_
  refine v_nmrN (r := wP r363 o 46 (some (rN r359))) (fun r368 => ?_)
  refine v_and (fun hw369 => ?_)
  refine v_and (fun h370 => ?_)
  refine v_aload_n (pc := 1150) h dX6_init_1150 0 rfl rfl ?_
  refine v_sipush (pc := 1151) h dX6_init_1151 (v := 256) rfl ?_
  refine v_newi (pc := 1154) (len := 256) h dX6_init_1154 (by decide) rfl (by decide) hRm hw369.1 hw369.2.2.1 ?_
  refine v_nmI (fun I371 => ?_)
  refine v_nmrN (r := aR r368 50 256 256) (fun r372 => ?_)
  refine v_and (fun hw373 => ?_)
  refine v_and (fun h374 => ?_)
  refine v_and (fun h375 => ?_)
  refine v_and (fun h376 => ?_)
  refine v_putFr (pc := 1156) (o := (some (rN r368))) h hnm dX6_init_1156 ffX6_86 rfl rfl rfl h374 ?_
  refine v_nmrN (r := wP r372 o 47 (some (rN r368))) (fun r377 => ?_)
  refine v_and (fun hw378 => ?_)
  refine v_and (fun h379 => ?_)
  refine v_aload_n (pc := 1159) h dX6_init_1159 0 rfl rfl ?_
  refine v_sipush (pc := 1160) h dX6_init_1160 (v := 10025) rfl ?_
  refine v_newi (pc := 1163) (len := 10025) h dX6_init_1163 (by decide) rfl (by decide) hRm hw378.1 hw378.2.2.1 ?_
  refine v_nmI (fun I380 => ?_)
  refine v_nmrN (r := aR r377 50 10025 10025) (fun r381 => ?_)
  refine v_and (fun hw382 => ?_)
  refine v_and (fun h383 => ?_)
  refine v_and (fun h384 => ?_)
  refine v_and (fun h385 => ?_)
  refine v_putFr (pc := 1165) (o := (some (rN r377))) h hnm dX6_init_1165 ffX6_89 rfl rfl rfl h383 ?_
  refine v_nmrN (r := wP r381 o 48 (some (rN r377))) (fun r386 => ?_)
  refine v_and (fun hw387 => ?_)
  refine v_and (fun h388 => ?_)
  refine v_aload_n (pc := 1168) h dX6_init_1168 0 rfl rfl ?_
  refine v_bipush (pc := 1169) h dX6_init_1169 (v := 12) rfl ?_
  refine v_newi (pc := 1171) (len := 12) h dX6_init_1171 (by decide) rfl (by decide) hRm hw387.1 hw387.2.2.1 ?_
  refine v_nmI (fun I389 => ?_)
  refine v_nmrN (r := aR r386 50 12 12) (fun r390 => ?_)
  refine v_and (fun hw391 => ?_)
  refine v_and (fun h392 => ?_)
  refine v_and (fun h393 => ?_)
  refine v_and (fun h394 => ?_)
  refine v_putFr (pc := 1173) (o := (some (rN r386))) h hnm dX6_init_1173 ffX6_92 rfl rfl rfl h392 ?_
  refine v_nmrN (r := wP r390 o 50 (some (rN r386))) (fun r395 => ?_)
  refine v_and (fun hw396 => ?_)
  refine v_and (fun h397 => ?_)
  refine v_aload_n (pc := 1176) h dX6_init_1176 0 rfl rfl ?_
  refine v_sipush (pc := 1177) h dX6_init_1177 (v := 4096) rfl ?_
  refine v_newi (pc := 1180) (len := 4096) h dX6_init_1180 (by decide) rfl (by decide) hRm hw396.1 hw396.2.2.1 ?_
  refine v_nmI (fun I398 => ?_)
  refine v_nmrN (r := aR r395 50 4096 4096) (fun r399 => ?_)
  refine v_and (fun hw400 => ?_)
  refine v_and (fun h401 => ?_)
  refine v_and (fun h402 => ?_)
  refine v_and (fun h403 => ?_)
  refine v_putFr (pc := 1182) (o := (some (rN r395))) h hnm dX6_init_1182 ffX6_95 rfl rfl rfl h401 ?_
  refine v_nmrN (r := wP r399 o 51 (some (rN r395))) (fun r404 => ?_)
  refine v_and (fun hw405 => ?_)
  refine v_and (fun h406 => ?_)
  refine v_aload_n (pc := 1185) h dX6_init_1185 0 rfl rfl ?_
  refine v_bipush (pc := 1186) h dX6_init_1186 (v := 26) rfl ?_
  refine v_newi (pc := 1188) (len := 26) h dX6_init_1188 (by decide) rfl (by decide) hRm hw405.1 hw405.2.2.1 ?_
  refine v_nmI (fun I407 => ?_)
  refine v_nmrN (r := aR r404 50 26 26) (fun r408 => ?_)
  refine v_and (fun hw409 => ?_)
  refine v_and (fun h410 => ?_)
  refine v_and (fun h411 => ?_)
  refine v_and (fun h412 => ?_)
  refine v_putFr (pc := 1190) (o := (some (rN r404))) h hnm dX6_init_1190 ffX6_98 rfl rfl rfl h410 ?_
  refine v_nmrN (r := wP r408 o 52 (some (rN r404))) (fun r413 => ?_)
  refine v_and (fun hw414 => ?_)
  refine v_and (fun h415 => ?_)
  refine v_aload_n (pc := 1193) h dX6_init_1193 0 rfl rfl ?_
  refine v_bipush (pc := 1194) h dX6_init_1194 (v := 8) rfl ?_
  refine v_newi (pc := 1196) (len := 8) h dX6_init_1196 (by decide) rfl (by decide) hRm hw414.1 hw414.2.2.1 ?_
  refine v_nmI (fun I416 => ?_)
  refine v_nmrN (r := aR r413 50 8 8) (fun r417 => ?_)
  refine v_and (fun hw418 => ?_)
  refine v_and (fun h419 => ?_)
  refine v_and (fun h420 => ?_)
  refine v_and (fun h421 => ?_)
  refine v_putFr (pc := 1198) (o := (some (rN r413))) h hnm dX6_init_1198 ffX6_101 rfl rfl rfl h419 ?_
  refine v_nmrN (r := wP r417 o 54 (some (rN r413))) (fun r422 => ?_)
  refine v_and (fun hw423 => ?_)
  refine v_and (fun h424 => ?_)
  refine v_aload_n (pc := 1201) h dX6_init_1201 0 rfl rfl ?_
  refine v_bipush (pc := 1202) h dX6_init_1202 (v := 49) rfl ?_
  refine v_newi (pc := 1204) (len := 49) h dX6_init_1204 (by decide) rfl (by decide) hRm hw423.1 hw423.2.2.1 ?_
  refine v_nmI (fun I425 => ?_)
  refine v_nmrN (r := aR r422 50 49 49) (fun r426 => ?_)
  refine v_and (fun hw427 => ?_)
  refine v_and (fun h428 => ?_)
  refine v_and (fun h429 => ?_)
  refine v_and (fun h430 => ?_)
  refine v_putFr (pc := 1206) (o := (some (rN r422))) h hnm dX6_init_1206 ffX6_104 rfl rfl rfl h428 ?_
  refine v_nmrN (r := wP r426 o 56 (some (rN r422))) (fun r431 => ?_)
  refine v_and (fun hw432 => ?_)
  refine v_and (fun h433 => ?_)
  refine v_aload_n (pc := 1209) h dX6_init_1209 0 rfl rfl ?_
  refine v_bipush (pc := 1210) h dX6_init_1210 (v := 8) rfl ?_
  refine v_newi (pc := 1212) (len := 8) h dX6_init_1212 (by decide) rfl (by decide) hRm hw432.1 hw432.2.2.1 ?_
  refine v_nmI (fun I434 => ?_)
  refine v_nmrN (r := aR r431 50 8 8) (fun r435 => ?_)
  refine v_and (fun hw436 => ?_)
  refine v_and (fun h437 => ?_)
  refine v_and (fun h438 => ?_)
  refine v_and (fun h439 => ?_)
  refine v_putFr (pc := 1214) (o := (some (rN r431))) h hnm dX6_init_1214 ffX6_107 rfl rfl rfl h437 ?_
  refine v_nmrN (r := wP r435 o 58 (some (rN r431))) (fun r440 => ?_)
  refine v_and (fun hw441 => ?_)
  refine v_and (fun h442 => ?_)
  refine v_aload_n (pc := 1217) h dX6_init_1217 0 rfl rfl ?_
  refine v_bipush (pc := 1218) h dX6_init_1218 (v := 8) rfl ?_
  refine v_newi (pc := 1220) (len := 8) h dX6_init_1220 (by decide) rfl (by decide) hRm hw441.1 hw441.2.2.1 ?_
  refine v_nmI (fun I443 => ?_)
  refine v_nmrN (r := aR r440 50 8 8) (fun r444 => ?_)
  refine v_and (fun hw445 => ?_)
  refine v_and (fun h446 => ?_)
  refine v_and (fun h447 => ?_)
  refine v_and (fun h448 => ?_)
  refine v_putFr (pc := 1222) (o := (some (rN r440))) h hnm dX6_init_1222 ffX6_110 rfl rfl rfl h446 ?_
  refine v_nmrN (r := wP r444 o 59 (some (rN r440))) (fun r449 => ?_)
  refine v_and (fun hw450 => ?_)
  refine v_and (fun h451 => ?_)
  refine v_aload_n (pc := 1225) h dX6_init_1225 0 rfl rfl ?_
  refine v_sipush (pc := 1226) h dX6_init_1226 (v := 2300) rfl ?_
  refine v_newi (pc := 1229) (len := 2300) h dX6_init_1229 (by decide) rfl (by decide) hRm hw450.1 hw450.2.2.1 ?_
  refine v_nmI (fun I452 => ?_)
  refine v_nmrN (r := aR r449 50 2300 2300) (fun r453 => ?_)
  refine v_and (fun hw454 => ?_)
  refine v_and (fun h455 => ?_)
  refine v_and (fun h456 => ?_)
  refine v_and (fun h457 => ?_)
  refine v_putFr (pc := 1231) (o := (some (rN r449))) h hnm dX6_init_1231 ffX6_113 rfl rfl rfl h455 ?_
  refine v_nmrN (r := wP r453 o 63 (some (rN r449))) (fun r458 => ?_)
  refine v_and (fun hw459 => ?_)
  refine v_and (fun h460 => ?_)
  exact v_vretN (pc := 1234) h hr dX6_init_1234
set_option maxHeartbeats 4000000 in
theorem tX7_init {g : Gl} (o : Nat) (a1 : Nat) (a2 : Int32) (cN cS : Nat) (I : MI) (r : Rh) (h_o : rK r o = 7) (h_a1 : KpS a1 r) : CtN g yX7_init cX7_init 4 1 cN cS [.ref o, .ref a1, .int a2] I r (pX7_init o a1 a2 cN cS I r) := by
  refine CtN.mk (lv := [(0, .ref o), (1, .ref a1), (2, .int a2)]) (by decide) (Nat.le_of_ble_eq_true rfl) rfl (fun x Q h hr hRm hnm => ?_)
  unfold pX7_init
  refine v_and (fun hw0 => ?_)
  refine v_aload_n (pc := 0) h dX7_init_0 0 rfl rfl ?_
  refine v_aload_n (pc := 1) h dX7_init_1 1 rfl rfl ?_
  refine v_putFr (pc := 2) (o := (some a1)) h hnm dX7_init_2 ffX7_3 rfl rfl rfl h_o ?_
  refine v_nmrN (r := wP r o 9 (some a1)) (fun r1 => ?_)
  refine v_and (fun hw2 => ?_)
  refine v_and (fun h3 => ?_)
  refine v_and (fun h4 => ?_)
  refine v_aload_n (pc := 5) h dX7_init_5 0 rfl rfl ?_
  refine v_objInit (pc := 6) h dX7_init_6 q517 (by decide) (Nat.le_of_ble_eq_true rfl) ?_
  refine v_aload_n (pc := 9) h dX7_init_9 0 rfl rfl ?_
  refine v_bipush (pc := 10) h dX7_init_10 (v := 16) rfl ?_
  refine v_newi (pc := 12) (len := 16) h dX7_init_12 (by decide) rfl (by decide) hRm hw2.1 hw2.2.2.1 ?_
  refine v_nmI (fun I5 => ?_)
  refine v_nmrN (r := aR r1 50 16 16) (fun r6 => ?_)
  refine v_and (fun hw7 => ?_)
  refine v_and (fun h8 => ?_)
  refine v_and (fun h9 => ?_)
  refine v_and (fun h10 => ?_)
  refine v_and (fun h11 => ?_)
  refine v_putFr (pc := 14) (o := (some (rN r1))) h hnm dX7_init_14 ffX7_15 rfl rfl rfl h8 ?_
  refine v_nmrN (r := wP r6 o 1 (some (rN r1))) (fun r12 => ?_)
  refine v_and (fun hw13 => ?_)
  refine v_and (fun h14 => ?_)
  refine v_and (fun h15 => ?_)
  refine v_aload_n (pc := 17) h dX7_init_17 0 rfl rfl ?_
  refine v_sipush (pc := 18) h dX7_init_18 (v := 144) rfl ?_
  refine v_newi (pc := 21) (len := 144) h dX7_init_21 (by decide) rfl (by decide) hRm hw13.1 hw13.2.2.1 ?_
  refine v_nmI (fun I16 => ?_)
  refine v_nmrN (r := aR r12 50 144 144) (fun r17 => ?_)
  refine v_and (fun hw18 => ?_)
  refine v_and (fun h19 => ?_)
  refine v_and (fun h20 => ?_)
  refine v_and (fun h21 => ?_)
  refine v_and (fun h22 => ?_)
  refine v_putFr (pc := 23) (o := (some (rN r12))) h hnm dX7_init_23 ffX7_19 rfl rfl rfl h19 ?_
  refine v_nmrN (r := wP r17 o 2 (some (rN r12))) (fun r23 => ?_)
  refine v_and (fun hw24 => ?_)
  refine v_and (fun h25 => ?_)
  refine v_and (fun h26 => ?_)
  refine v_aload_n (pc := 26) h dX7_init_26 0 rfl rfl ?_
  refine v_iload_n (pc := 27) h dX7_init_27 2 rfl rfl ?_
  refine v_putFi (pc := 28) h hnm dX7_init_28 ffX7_22 rfl h25 ?_
  refine v_nmI (fun I27 => ?_)
  refine v_iconst (pc := 31) h dX7_init_31 (v := 0) rfl ?_
  refine v_istore_n (pc := 32) h dX7_init_32 rfl (by decide) (lv' := [(3, .int (0 : Int32)), (0, .ref o), (1, .ref a1), (2, .int a2)]) rfl ?_
  refine v_sub [1, 0] rfl ?_
  refine L2.runQ (q := fun i3_28 I29 => (rN r23 - rN r, rS r23 - rS r)) (lv := fun i3_28 I29 => [(0, .ref o), (3, .int i3_28)]) (st := fun i3_28 I29 => []) (Im := fun i3_28 I29 => I29) (r := fun i3_28 I29 => r23) (fun X30 hX30 i3_28 I29 => ?_) (0 : Int32) I27
  refine v_iload_n (pc := 33) h dX7_init_33 1 rfl rfl ?_
  refine v_aload_n (pc := 34) h dX7_init_34 0 rfl rfl ?_
  refine v_getx (pc := 35) h dX7_init_35 fX7_19 rfl h25 (fun b31 h32 => ?_)
  refine v_and (fun h33 => ?_)
  refine v_alen (pc := 38) h dX7_init_38 (t := 0) h33 rfl rfl ?_
  refine v_icmp_ge (pc := 39) (t := 55) h dX7_init_39 rfl (fun _ => ?_) (fun _ => ?_)
  · exact v_vretN (pc := 55) h hr dX7_init_55
  · refine v_aload_n (pc := 42) h dX7_init_42 0 rfl rfl ?_
    refine v_getx (pc := 43) h dX7_init_43 fX7_19 rfl h25 (fun b34 h35 => ?_)
    refine v_and (fun h36 => ?_)
    refine v_iload_n (pc := 46) h dX7_init_46 1 rfl rfl ?_
    refine v_iconst (pc := 47) h dX7_init_47 (v := (-1)) rfl ?_
    refine v_iast (pc := 48) h dX7_init_48 h36 rfl ?_
    refine v_nmI (fun I37 => ?_)
    refine v_iinc (pc := 49) h dX7_init_49 1 rfl (w := (i3_28 + (1 : Int32))) rfl (by decide) (lv' := [(3, .int (i3_28 + (1 : Int32))), (0, .ref o)]) rfl ?_
    refine v_goto (pc := 52) (t := 33) h dX7_init_52 rfl ?_
    refine v_sub [1, 0] rfl ?_
    exact hX30 (i3_28 + (1 : Int32)) I37
