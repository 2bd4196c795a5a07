/-! the reference: the walks -/
set_option maxRecDepth 100000
set_option maxHeartbeats 4000000 in
theorem tX6_leastTo {g : Gl} {mo : Nat} {r : Rh} (hM : MStr mo r) (a1 : Int32) (a2 : Int32) (a3 : Int32) (I : MI) : CtP g yX6_leastTo cX6_leastTo 7 (some .int) 1 [.ref mo, .int a1, .int a2, .int a3] I r (pX6_leastTo mo a1 a2 a3 I) := by
  refine CtP.mk (lv := [(0, .ref mo), (1, .int a1), (2, .int a2), (3, .int a3)]) (by decide) (Nat.le_of_ble_eq_true rfl) rfl (fun x Q h hr => ?_)
  unfold pX6_leastTo
  refine v_iload_n (pc := 0) h dX6_leastTo_0 2 rfl rfl ?_
  refine v_iconst (pc := 1) h dX6_leastTo_1 (v := 1) rfl ?_
  refine v_iload_n (pc := 2) h dX6_leastTo_2 3 rfl rfl ?_
  refine v_ishl (pc := 3) h dX6_leastTo_3 ?_
  refine v_iconst (pc := 4) h dX6_leastTo_4 (v := (-1)) rfl ?_
  refine v_ixor (pc := 5) h dX6_leastTo_5 ?_
  refine v_iand (pc := 6) h dX6_leastTo_6 ?_
  refine v_nmi (fun v1 => ?_)
  refine v_istore (pc := 7) h dX6_leastTo_7 (by decide) (lv' := [(4, .int v1), (0, .ref mo), (1, .int a1), (2, .int a2), (3, .int a3)]) rfl ?_
  refine v_iload (pc := 9) h dX6_leastTo_9 0 rfl ?_
  refine v_if_ne (pc := 11) (t := 31) h dX6_leastTo_11 rfl (fun _ => ?_) (fun _ => ?_)
  · refine v_ldcw (pc := 31) h dX6_leastTo_31 (v := (100000000)) q1921 ?_
    refine v_istore (pc := 34) h dX6_leastTo_34 (by decide) (lv' := [(5, .int (100000000 : Int32)), (4, .int v1), (0, .ref mo), (1, .int a1), (2, .int a2), (3, .int a3)]) rfl ?_
    refine v_iconst (pc := 36) h dX6_leastTo_36 (v := 0) rfl ?_
    refine v_istore (pc := 37) h dX6_leastTo_37 (by decide) (lv' := [(6, .int (0 : Int32)), (5, .int (100000000 : Int32)), (4, .int v1), (0, .ref mo), (1, .int a1), (2, .int a2), (3, .int a3)]) rfl ?_
    refine v_sub [3, 6, 2, 1, 0] rfl ?_
    refine L2.run (lv := fun i5_2 i6_3 => [(0, .ref mo), (3, .int a3), (4, .int v1), (5, .int i5_2), (6, .int i6_3)]) (st := fun i5_2 i6_3 => []) (Im := fun i5_2 i6_3 => I) (r := fun i5_2 i6_3 => r) (fun X4 hX4 i5_2 i6_3 => ?_) (100000000 : Int32) (0 : Int32)
    refine v_iload (pc := 39) h dX6_leastTo_39 4 rfl ?_
    refine v_aload_n (pc := 41) h dX6_leastTo_41 0 rfl rfl ?_
    refine v_geti (pc := 42) h dX6_leastTo_42 fX6_406 rfl hM.1 ?_
    refine v_icmp_ge (pc := 45) (t := 109) h dX6_leastTo_45 rfl (fun _ => ?_) (fun _ => ?_)
    · refine v_iload (pc := 109) h dX6_leastTo_109 3 rfl ?_
      exact v_iretP (pc := 111) h hr dX6_leastTo_111
    · refine v_aload_n (pc := 48) h dX6_leastTo_48 0 rfl rfl ?_
      refine v_iload (pc := 49) h dX6_leastTo_49 2 rfl ?_
      refine v_iload (pc := 51) h dX6_leastTo_51 4 rfl ?_
      refine v_callp (pc := 53) h dX6_leastTo_53 kX6_377 rfl hM.1 (tX6_lies hM v1 i6_3 I) (by decide) rfl rfl (Nat.le_of_ble_eq_true rfl) rfl (fun r5 => ?_)
      refine v_jn1 (fun v5_6 => V g x 7 (0, 0) 103 [(0, .ref mo), (3, .int a3), (4, .int v1), (5, .int v5_6), (6, .int i6_3)] [] I r) (fun k7 hk7 => ?_) (fun v5_6 => ?_)
      · refine v_if_eq (pc := 56) (t := 103) h dX6_leastTo_56 rfl (fun _ => ?_) (fun _ => ?_)
        · exact hk7 i5_2
        · refine v_aload_n (pc := 59) h dX6_leastTo_59 0 rfl rfl ?_
          refine v_iload (pc := 60) h dX6_leastTo_60 3 rfl ?_
          refine v_aload_n (pc := 62) h dX6_leastTo_62 0 rfl rfl ?_
          refine v_getp (pc := 63) h dX6_leastTo_63 fX6_80 rfl hM.1 (mA_44 hM).1 ?_
          refine v_bipush (pc := 66) h dX6_leastTo_66 (v := 8) rfl ?_
          refine v_iload (pc := 68) h dX6_leastTo_68 2 rfl ?_
          refine v_imul (pc := 70) h dX6_leastTo_70 ?_
          refine v_iload (pc := 71) h dX6_leastTo_71 4 rfl ?_
          refine v_iadd (pc := 73) h dX6_leastTo_73 ?_
          refine v_iald (pc := 74) h dX6_leastTo_74 (mA_44 hM).2.1 (mA_44 hM).2.2 ?_
          refine v_aload_n (pc := 75) h dX6_leastTo_75 0 rfl rfl ?_
          refine v_getp (pc := 76) h dX6_leastTo_76 fX6_74 rfl hM.1 (mA_41 hM).1 ?_
          refine v_bipush (pc := 79) h dX6_leastTo_79 (v := 12) rfl ?_
          refine v_aload_n (pc := 81) h dX6_leastTo_81 0 rfl rfl ?_
          refine v_getp (pc := 82) h dX6_leastTo_82 fX6_77 rfl hM.1 (mA_43 hM).1 ?_
          refine v_iload (pc := 85) h dX6_leastTo_85 4 rfl ?_
          refine v_iald (pc := 87) h dX6_leastTo_87 (mA_43 hM).2.1 (mA_43 hM).2.2 ?_
          refine v_imul (pc := 88) h dX6_leastTo_88 ?_
          refine v_aload_n (pc := 89) h dX6_leastTo_89 0 rfl rfl ?_
          refine v_getp (pc := 90) h dX6_leastTo_90 fX6_77 rfl hM.1 (mA_43 hM).1 ?_
          refine v_iload_n (pc := 93) h dX6_leastTo_93 1 rfl rfl ?_
          refine v_iald (pc := 94) h dX6_leastTo_94 (mA_43 hM).2.1 (mA_43 hM).2.2 ?_
          refine v_iadd (pc := 95) h dX6_leastTo_95 ?_
          refine v_iald (pc := 96) h dX6_leastTo_96 (mA_41 hM).2.1 (mA_41 hM).2.2 ?_
          refine v_iadd (pc := 97) h dX6_leastTo_97 ?_
          refine v_callp (pc := 98) h dX6_leastTo_98 kX6_353 rfl hM.1 (tX6_lesser hM i5_2 ((I (mo + 23) (((8 : Int32) * v1) + i6_3).toNatClampNeg) + (I (mo + 21) (((12 : Int32) * (I (mo + 22) i6_3.toNatClampNeg)) + (I (mo + 22) a3.toNatClampNeg)).toNatClampNeg)) I) (by decide) rfl rfl (Nat.le_of_ble_eq_true rfl) rfl (fun r8 => ?_)
          refine v_istore (pc := 101) h dX6_leastTo_101 (by decide) (lv' := [(5, .int r8), (0, .ref mo), (3, .int a3), (4, .int v1), (6, .int i6_3)]) rfl ?_
          refine v_sub [1, 2, 3, 0, 4] rfl ?_
          exact hk7 r8
      · refine v_iinc (pc := 103) h dX6_leastTo_103 4 rfl (w := (i6_3 + (1 : Int32))) rfl (by decide) (lv' := [(6, .int (i6_3 + (1 : Int32))), (0, .ref mo), (3, .int a3), (4, .int v1), (5, .int v5_6)]) rfl ?_
        refine v_goto (pc := 106) (t := 39) h dX6_leastTo_106 rfl ?_
        refine v_sub [1, 2, 3, 4, 0] rfl ?_
        exact hX4 v5_6 (i6_3 + (1 : Int32))
  · refine v_aload_n (pc := 14) h dX6_leastTo_14 1 rfl rfl ?_
    refine v_getp (pc := 15) h dX6_leastTo_15 fX6_74 rfl hM.1 (mA_41 hM).1 ?_
    refine v_bipush (pc := 18) h dX6_leastTo_18 (v := 12) rfl ?_
    refine v_iload_n (pc := 20) h dX6_leastTo_20 2 rfl rfl ?_
    refine v_imul (pc := 21) h dX6_leastTo_21 ?_
    refine v_aload_n (pc := 22) h dX6_leastTo_22 1 rfl rfl ?_
    refine v_getp (pc := 23) h dX6_leastTo_23 fX6_77 rfl hM.1 (mA_43 hM).1 ?_
    refine v_iload_n (pc := 26) h dX6_leastTo_26 4 rfl rfl ?_
    refine v_iald (pc := 27) h dX6_leastTo_27 (mA_43 hM).2.1 (mA_43 hM).2.2 ?_
    refine v_iadd (pc := 28) h dX6_leastTo_28 ?_
    refine v_iald (pc := 29) h dX6_leastTo_29 (mA_41 hM).2.1 (mA_41 hM).2.2 ?_
    exact v_iretP (pc := 30) h hr dX6_leastTo_30
set_option maxHeartbeats 4000000 in
theorem tX6_shortest {g : Gl} {mo : Nat} {r : Rh} (hM : MStr mo r) (a1 : Int32) (a2 : Int32) (I : MI) : CtI g yX6_shortest cX6_shortest 6 (some .int) 4 [.ref mo, .int a1, .int a2] I r (pX6_shortest mo a1 a2 I) := by
  refine CtI.mk (lv := [(0, .ref mo), (1, .int a1), (2, .int a2)]) (by decide) (Nat.le_of_ble_eq_true rfl) rfl (fun x Q h hr => ?_)
  unfold pX6_shortest
  refine v_aload_n (pc := 0) h dX6_shortest_0 0 rfl rfl ?_
  refine v_iconst (pc := 1) h dX6_shortest_1 (v := 0) rfl ?_
  refine v_puti (pc := 2) h dX6_shortest_2 fX6_116 rfl hM.1 ?_
  refine v_nmI (fun I1 => ?_)
  refine v_aload_n (pc := 5) h dX6_shortest_5 0 rfl rfl ?_
  refine v_iload_n (pc := 6) h dX6_shortest_6 1 rfl rfl ?_
  refine v_callp (pc := 7) h dX6_shortest_7 kX6_147 rfl hM.1 (tX6_isDoor hM a1 I1) (by decide) rfl rfl (Nat.le_of_ble_eq_true rfl) rfl (fun r2 => ?_)
  refine v_if_eq (pc := 10) (t := 23) h dX6_shortest_10 rfl (fun _ => ?_) (fun _ => ?_)
  · refine v_iconst (pc := 23) h dX6_shortest_23 (v := (-1)) rfl ?_
    exact v_iret (pc := 24) h hr dX6_shortest_24
  · refine v_aload_n (pc := 13) h dX6_shortest_13 0 rfl rfl ?_
    refine v_iload_n (pc := 14) h dX6_shortest_14 2 rfl rfl ?_
    refine v_iconst (pc := 15) h dX6_shortest_15 (v := 0) rfl ?_
    refine v_iconst (pc := 16) h dX6_shortest_16 (v := 1) rfl ?_
    refine v_callp (pc := 17) h dX6_shortest_17 kX6_143 rfl hM.1 (tX6_isIn hM a2 (0 : Int32) (1 : Int32) I1) (by decide) rfl rfl (Nat.le_of_ble_eq_true rfl) rfl (fun r3 => ?_)
    refine v_if_ne (pc := 20) (t := 25) h dX6_shortest_20 rfl (fun _ => ?_) (fun _ => ?_)
    · refine v_aload_n (pc := 25) h dX6_shortest_25 0 rfl rfl ?_
      refine v_iload_n (pc := 26) h dX6_shortest_26 1 rfl rfl ?_
      refine v_callv (pc := 27) h dX6_shortest_27 kX6_409 rfl hM.1 (tX6_findsGoals hM a1 I1) (by decide) rfl rfl (Nat.le_of_ble_eq_true rfl) rfl (fun I4 => ?_)
      refine v_aload_n (pc := 30) h dX6_shortest_30 0 rfl rfl ?_
      refine v_geti (pc := 31) h dX6_shortest_31 fX6_406 rfl hM.1 ?_
      refine v_bipush (pc := 34) h dX6_shortest_34 (v := 8) rfl ?_
      refine v_icmp_le (pc := 36) (t := 41) h dX6_shortest_36 rfl (fun _ => ?_) (fun _ => ?_)
      · refine v_aload_n (pc := 41) h dX6_shortest_41 0 rfl rfl ?_
        refine v_geti (pc := 42) h dX6_shortest_42 fX6_406 rfl hM.1 ?_
        refine v_if_ne (pc := 45) (t := 58) h dX6_shortest_45 rfl (fun _ => ?_) (fun _ => ?_)
        · refine v_aload_n (pc := 58) h dX6_shortest_58 0 rfl rfl ?_
          refine v_callv (pc := 59) h dX6_shortest_59 kX6_412 rfl hM.1 (tX6_findsWays hM I4) (by decide) rfl rfl (Nat.le_of_ble_eq_true rfl) rfl (fun I5 => ?_)
          refine v_iconst (pc := 62) h dX6_shortest_62 (v := 1) rfl ?_
          refine v_aload_n (pc := 63) h dX6_shortest_63 0 rfl rfl ?_
          refine v_geti (pc := 64) h dX6_shortest_64 fX6_406 rfl hM.1 ?_
          refine v_ishl (pc := 67) h dX6_shortest_67 ?_
          refine v_iconst (pc := 68) h dX6_shortest_68 (v := 1) rfl ?_
          refine v_isub (pc := 69) h dX6_shortest_69 ?_
          refine v_nmi (fun v6 => ?_)
          refine v_istore_n (pc := 70) h dX6_shortest_70 rfl (by decide) (lv' := [(3, .int v6), (0, .ref mo), (1, .int a1), (2, .int a2)]) rfl ?_
          refine v_iconst (pc := 71) h dX6_shortest_71 (v := 1) rfl ?_
          refine v_istore (pc := 72) h dX6_shortest_72 (by decide) (lv' := [(4, .int (1 : Int32)), (3, .int v6), (0, .ref mo), (1, .int a1), (2, .int a2)]) rfl ?_
          refine v_sub [2, 3, 4, 1, 0] rfl ?_
          refine L2.run (lv := fun i4_7 I8 => [(0, .ref mo), (1, .int a1), (2, .int a2), (3, .int v6), (4, .int i4_7)]) (st := fun i4_7 I8 => []) (Im := fun i4_7 I8 => I8) (r := fun i4_7 I8 => r) (fun X9 hX9 i4_7 I8 => ?_) (1 : Int32) I5
          refine v_iload (pc := 74) h dX6_shortest_74 4 rfl ?_
          refine v_iload_n (pc := 76) h dX6_shortest_76 3 rfl rfl ?_
          refine v_icmp_gt (pc := 77) (t := 137) h dX6_shortest_77 rfl (fun _ => ?_) (fun _ => ?_)
          · refine v_iconst (pc := 137) h dX6_shortest_137 (v := 0) rfl ?_
            refine v_istore (pc := 138) h dX6_shortest_138 (by decide) (lv' := [(4, .int (0 : Int32)), (0, .ref mo), (1, .int a1), (2, .int a2), (3, .int v6)]) rfl ?_
            refine v_iconst (pc := 140) h dX6_shortest_140 (v := 1) rfl ?_
            refine v_istore (pc := 141) h dX6_shortest_141 (by decide) (lv' := [(5, .int (1 : Int32)), (4, .int (0 : Int32)), (0, .ref mo), (1, .int a1), (2, .int a2), (3, .int v6)]) rfl ?_
            refine v_sub [2, 4, 5, 1, 0] rfl ?_
            refine L2.run (lv := fun i4_10 i5_11 => [(0, .ref mo), (2, .int a2), (3, .int v6), (4, .int i4_10), (5, .int i5_11)]) (st := fun i4_10 i5_11 => []) (Im := fun i4_10 i5_11 => I8) (r := fun i4_10 i5_11 => r) (fun X12 hX12 i4_10 i5_11 => ?_) (0 : Int32) (1 : Int32)
            refine v_iload (pc := 143) h dX6_shortest_143 4 rfl ?_
            refine v_aload_n (pc := 145) h dX6_shortest_145 0 rfl rfl ?_
            refine v_geti (pc := 146) h dX6_shortest_146 fX6_406 rfl hM.1 ?_
            refine v_icmp_ge (pc := 149) (t := 189) h dX6_shortest_149 rfl (fun _ => ?_) (fun _ => ?_)
            · refine v_aload_n (pc := 189) h dX6_shortest_189 0 rfl rfl ?_
              refine v_getp (pc := 190) h dX6_shortest_190 fX6_80 rfl hM.1 (mA_44 hM).1 ?_
              refine v_bipush (pc := 193) h dX6_shortest_193 (v := 8) rfl ?_
              refine v_iload_n (pc := 195) h dX6_shortest_195 2 rfl rfl ?_
              refine v_imul (pc := 196) h dX6_shortest_196 ?_
              refine v_iload (pc := 197) h dX6_shortest_197 3 rfl ?_
              refine v_iadd (pc := 199) h dX6_shortest_199 ?_
              refine v_iald (pc := 200) h dX6_shortest_200 (mA_44 hM).2.1 (mA_44 hM).2.2 ?_
              refine v_ldcw (pc := 201) h dX6_shortest_201 (v := (100000000)) q1921 ?_
              refine v_icmp_lt (pc := 204) (t := 209) h dX6_shortest_204 rfl (fun _ => ?_) (fun _ => ?_)
              · refine v_iload_n (pc := 209) h dX6_shortest_209 1 rfl rfl ?_
                refine v_if_ne (pc := 210) (t := 228) h dX6_shortest_210 rfl (fun _ => ?_) (fun _ => ?_)
                · refine v_aload_n (pc := 228) h dX6_shortest_228 0 rfl rfl ?_
                  refine v_getp (pc := 229) h dX6_shortest_229 fX6_77 rfl hM.1 (mA_43 hM).1 ?_
                  refine v_iload (pc := 232) h dX6_shortest_232 3 rfl ?_
                  refine v_iald (pc := 234) h dX6_shortest_234 (mA_43 hM).2.1 (mA_43 hM).2.2 ?_
                  exact v_iret (pc := 235) h hr dX6_shortest_235
                · refine v_aload_n (pc := 213) h dX6_shortest_213 0 rfl rfl ?_
                  refine v_getp (pc := 214) h dX6_shortest_214 fX6_80 rfl hM.1 (mA_44 hM).1 ?_
                  refine v_bipush (pc := 217) h dX6_shortest_217 (v := 8) rfl ?_
                  refine v_iload_n (pc := 219) h dX6_shortest_219 2 rfl rfl ?_
                  refine v_imul (pc := 220) h dX6_shortest_220 ?_
                  refine v_iload (pc := 221) h dX6_shortest_221 3 rfl ?_
                  refine v_iadd (pc := 223) h dX6_shortest_223 ?_
                  refine v_iald (pc := 224) h dX6_shortest_224 (mA_44 hM).2.1 (mA_44 hM).2.2 ?_
                  refine v_goto (pc := 225) (t := 235) h dX6_shortest_225 rfl ?_
                  exact v_iret (pc := 235) h hr dX6_shortest_235
              · refine v_iconst (pc := 207) h dX6_shortest_207 (v := (-1)) rfl ?_
                exact v_iret (pc := 208) h hr dX6_shortest_208
            · refine v_aload_n (pc := 152) h dX6_shortest_152 0 rfl rfl ?_
              refine v_getp (pc := 153) h dX6_shortest_153 fX6_80 rfl hM.1 (mA_44 hM).1 ?_
              refine v_bipush (pc := 156) h dX6_shortest_156 (v := 8) rfl ?_
              refine v_iload_n (pc := 158) h dX6_shortest_158 2 rfl rfl ?_
              refine v_imul (pc := 159) h dX6_shortest_159 ?_
              refine v_iload (pc := 160) h dX6_shortest_160 4 rfl ?_
              refine v_iadd (pc := 162) h dX6_shortest_162 ?_
              refine v_iald (pc := 163) h dX6_shortest_163 (mA_44 hM).2.1 (mA_44 hM).2.2 ?_
              refine v_aload_n (pc := 164) h dX6_shortest_164 0 rfl rfl ?_
              refine v_getp (pc := 165) h dX6_shortest_165 fX6_80 rfl hM.1 (mA_44 hM).1 ?_
              refine v_bipush (pc := 168) h dX6_shortest_168 (v := 8) rfl ?_
              refine v_iload_n (pc := 170) h dX6_shortest_170 2 rfl rfl ?_
              refine v_imul (pc := 171) h dX6_shortest_171 ?_
              refine v_iload (pc := 172) h dX6_shortest_172 3 rfl ?_
              refine v_iadd (pc := 174) h dX6_shortest_174 ?_
              refine v_iald (pc := 175) h dX6_shortest_175 (mA_44 hM).2.1 (mA_44 hM).2.2 ?_
              refine v_jn1 (fun v4_13 => V g x 6 (0, 0) 183 [(0, .ref mo), (2, .int a2), (3, .int v6), (4, .int v4_13), (5, .int i5_11)] [] I8 r) (fun k14 hk14 => ?_) (fun v4_13 => ?_)
              · refine v_icmp_ge (pc := 176) (t := 183) h dX6_shortest_176 rfl (fun _ => ?_) (fun _ => ?_)
                · exact hk14 i4_10
                · refine v_iload (pc := 179) h dX6_shortest_179 4 rfl ?_
                  refine v_istore (pc := 181) h dX6_shortest_181 (by decide) (lv' := [(4, .int i5_11), (0, .ref mo), (2, .int a2), (3, .int v6), (5, .int i5_11)]) rfl ?_
                  refine v_sub [1, 2, 3, 0, 4] rfl ?_
                  exact hk14 i5_11
              · refine v_iinc (pc := 183) h dX6_shortest_183 4 rfl (w := (i5_11 + (1 : Int32))) rfl (by decide) (lv' := [(5, .int (i5_11 + (1 : Int32))), (0, .ref mo), (2, .int a2), (3, .int v6), (4, .int v4_13)]) rfl ?_
                refine v_goto (pc := 186) (t := 143) h dX6_shortest_186 rfl ?_
                refine v_sub [1, 2, 3, 4, 0] rfl ?_
                exact hX12 v4_13 (i5_11 + (1 : Int32))
          · refine v_iconst (pc := 80) h dX6_shortest_80 (v := 0) rfl ?_
            refine v_istore (pc := 81) h dX6_shortest_81 (by decide) (lv' := [(5, .int (0 : Int32)), (0, .ref mo), (1, .int a1), (2, .int a2), (3, .int v6), (4, .int i4_7)]) rfl ?_
            refine v_sub [1, 2, 3, 4, 5, 0] rfl ?_
            refine L2.run (lv := fun i5_15 I16 => [(0, .ref mo), (1, .int a1), (2, .int a2), (3, .int v6), (4, .int i4_7), (5, .int i5_15)]) (st := fun i5_15 I16 => []) (Im := fun i5_15 I16 => I16) (r := fun i5_15 I16 => r) (fun X17 hX17 i5_15 I16 => ?_) (0 : Int32) I8
            refine v_iload (pc := 83) h dX6_shortest_83 5 rfl ?_
            refine v_aload_n (pc := 85) h dX6_shortest_85 0 rfl rfl ?_
            refine v_geti (pc := 86) h dX6_shortest_86 fX6_406 rfl hM.1 ?_
            refine v_icmp_ge (pc := 89) (t := 131) h dX6_shortest_89 rfl (fun _ => ?_) (fun _ => ?_)
            · refine v_iinc (pc := 131) h dX6_shortest_131 4 rfl (w := (i4_7 + (1 : Int32))) rfl (by decide) (lv' := [(4, .int (i4_7 + (1 : Int32))), (0, .ref mo), (1, .int a1), (2, .int a2), (3, .int v6), (5, .int i5_15)]) rfl ?_
              refine v_goto (pc := 134) (t := 74) h dX6_shortest_134 rfl ?_
              refine v_sub [1, 2, 3, 4, 0] rfl ?_
              exact hX9 (i4_7 + (1 : Int32)) I16
            · refine v_aload_n (pc := 92) h dX6_shortest_92 0 rfl rfl ?_
              refine v_iload (pc := 93) h dX6_shortest_93 4 rfl ?_
              refine v_iload (pc := 95) h dX6_shortest_95 5 rfl ?_
              refine v_callp (pc := 97) h dX6_shortest_97 kX6_377 rfl hM.1 (tX6_lies hM i4_7 i5_15 I16) (by decide) rfl rfl (Nat.le_of_ble_eq_true rfl) rfl (fun r18 => ?_)
              refine v_jn1 (fun I19 => V g x 6 (0, 0) 125 [(0, .ref mo), (1, .int a1), (2, .int a2), (3, .int v6), (4, .int i4_7), (5, .int i5_15)] [] I19 r) (fun k20 hk20 => ?_) (fun I19 => ?_)
              · refine v_if_eq (pc := 100) (t := 125) h dX6_shortest_100 rfl (fun _ => ?_) (fun _ => ?_)
                · exact hk20 I16
                · refine v_aload_n (pc := 103) h dX6_shortest_103 0 rfl rfl ?_
                  refine v_getp (pc := 104) h dX6_shortest_104 fX6_80 rfl hM.1 (mA_44 hM).1 ?_
                  refine v_bipush (pc := 107) h dX6_shortest_107 (v := 8) rfl ?_
                  refine v_iload (pc := 109) h dX6_shortest_109 4 rfl ?_
                  refine v_imul (pc := 111) h dX6_shortest_111 ?_
                  refine v_iload (pc := 112) h dX6_shortest_112 5 rfl ?_
                  refine v_iadd (pc := 114) h dX6_shortest_114 ?_
                  refine v_aload_n (pc := 115) h dX6_shortest_115 0 rfl rfl ?_
                  refine v_iload_n (pc := 116) h dX6_shortest_116 1 rfl rfl ?_
                  refine v_iload (pc := 117) h dX6_shortest_117 4 rfl ?_
                  refine v_iload (pc := 119) h dX6_shortest_119 5 rfl ?_
                  refine v_callp (pc := 121) h dX6_shortest_121 kX6_415 rfl hM.1 (tX6_leastTo hM a1 i4_7 i5_15 I16) (by decide) rfl rfl (Nat.le_of_ble_eq_true rfl) rfl (fun r21 => ?_)
                  refine v_iast (pc := 124) h dX6_shortest_124 (mA_44 hM).2.1 (mA_44 hM).2.2 ?_
                  refine v_nmI (fun I22 => ?_)
                  exact hk20 I22
              · refine v_iinc (pc := 125) h dX6_shortest_125 5 rfl (w := (i5_15 + (1 : Int32))) rfl (by decide) (lv' := [(5, .int (i5_15 + (1 : Int32))), (0, .ref mo), (1, .int a1), (2, .int a2), (3, .int v6), (4, .int i4_7)]) rfl ?_
                refine v_goto (pc := 128) (t := 83) h dX6_shortest_128 rfl ?_
                refine v_sub [1, 2, 3, 4, 5, 0] rfl ?_
                exact hX17 (i5_15 + (1 : Int32)) I19
        · refine v_iload_n (pc := 48) h dX6_shortest_48 2 rfl rfl ?_
          refine v_if_ne (pc := 49) (t := 56) h dX6_shortest_49 rfl (fun _ => ?_) (fun _ => ?_)
          · refine v_iload_n (pc := 56) h dX6_shortest_56 1 rfl rfl ?_
            exact v_iret (pc := 57) h hr dX6_shortest_57
          · refine v_iconst (pc := 52) h dX6_shortest_52 (v := 0) rfl ?_
            refine v_goto (pc := 53) (t := 57) h dX6_shortest_53 rfl ?_
            exact v_iret (pc := 57) h hr dX6_shortest_57
      · refine v_iconst (pc := 39) h dX6_shortest_39 (v := (-1)) rfl ?_
        exact v_iret (pc := 40) h hr dX6_shortest_40
    · refine v_iconst (pc := 23) h dX6_shortest_23 (v := (-1)) rfl ?_
      exact v_iret (pc := 24) h hr dX6_shortest_24
set_option maxHeartbeats 4000000 in
theorem tX6_farthestFrom {g : Gl} {mo : Nat} {r : Rh} (hM : MStr mo r) (a1 : Int32) (I : MI) : CtP g yX6_farthestFrom cX6_farthestFrom 4 (some .int) 1 [.ref mo, .int a1] I r (pX6_farthestFrom mo a1 I) := by
  refine CtP.mk (lv := [(0, .ref mo), (1, .int a1)]) (by decide) (Nat.le_of_ble_eq_true rfl) rfl (fun x Q h hr => ?_)
  unfold pX6_farthestFrom
  refine v_iconst (pc := 0) h dX6_farthestFrom_0 (v := 0) rfl ?_
  refine v_istore_n (pc := 1) h dX6_farthestFrom_1 rfl (by decide) (lv' := [(2, .int (0 : Int32)), (0, .ref mo), (1, .int a1)]) rfl ?_
  refine v_iconst (pc := 2) h dX6_farthestFrom_2 (v := 0) rfl ?_
  refine v_istore_n (pc := 3) h dX6_farthestFrom_3 rfl (by decide) (lv' := [(3, .int (0 : Int32)), (2, .int (0 : Int32)), (0, .ref mo), (1, .int a1)]) rfl ?_
  refine v_sub [2, 3, 1, 0] rfl ?_
  refine L2.run (lv := fun i2_1 i3_2 => [(0, .ref mo), (1, .int a1), (2, .int i2_1), (3, .int i3_2)]) (st := fun i2_1 i3_2 => []) (Im := fun i2_1 i3_2 => I) (r := fun i2_1 i3_2 => r) (fun X3 hX3 i2_1 i3_2 => ?_) (0 : Int32) (0 : Int32)
  refine v_iload_n (pc := 4) h dX6_farthestFrom_4 3 rfl rfl ?_
  refine v_aload_n (pc := 5) h dX6_farthestFrom_5 0 rfl rfl ?_
  refine v_geti (pc := 6) h dX6_farthestFrom_6 fX6_129 rfl hM.1 ?_
  refine v_icmp_ge (pc := 9) (t := 35) h dX6_farthestFrom_9 rfl (fun _ => ?_) (fun _ => ?_)
  · refine v_iload_n (pc := 35) h dX6_farthestFrom_35 2 rfl rfl ?_
    exact v_iretP (pc := 36) h hr dX6_farthestFrom_36
  · refine v_aload_n (pc := 12) h dX6_farthestFrom_12 0 rfl rfl ?_
    refine v_iload_n (pc := 13) h dX6_farthestFrom_13 2 rfl rfl ?_
    refine v_aload_n (pc := 14) h dX6_farthestFrom_14 0 rfl rfl ?_
    refine v_getp (pc := 15) h dX6_farthestFrom_15 fX6_74 rfl hM.1 (mA_41 hM).1 ?_
    refine v_bipush (pc := 18) h dX6_farthestFrom_18 (v := 12) rfl ?_
    refine v_iload_n (pc := 20) h dX6_farthestFrom_20 1 rfl rfl ?_
    refine v_imul (pc := 21) h dX6_farthestFrom_21 ?_
    refine v_iload_n (pc := 22) h dX6_farthestFrom_22 3 rfl rfl ?_
    refine v_iadd (pc := 23) h dX6_farthestFrom_23 ?_
    refine v_iald (pc := 24) h dX6_farthestFrom_24 (mA_41 hM).2.1 (mA_41 hM).2.2 ?_
    refine v_callp (pc := 25) h dX6_farthestFrom_25 kX6_332 rfl hM.1 (tX6_greater hM i2_1 (I (mo + 21) (((12 : Int32) * a1) + i3_2).toNatClampNeg) I) (by decide) rfl rfl (Nat.le_of_ble_eq_true rfl) rfl (fun r4 => ?_)
    refine v_istore_n (pc := 28) h dX6_farthestFrom_28 rfl (by decide) (lv' := [(2, .int r4), (0, .ref mo), (1, .int a1), (3, .int i3_2)]) rfl ?_
    refine v_iinc (pc := 29) h dX6_farthestFrom_29 3 rfl (w := (i3_2 + (1 : Int32))) rfl (by decide) (lv' := [(3, .int (i3_2 + (1 : Int32))), (2, .int r4), (0, .ref mo), (1, .int a1)]) rfl ?_
    refine v_goto (pc := 32) (t := 4) h dX6_farthestFrom_32 rfl ?_
    refine v_sub [2, 3, 1, 0] rfl ?_
    exact hX3 r4 (i3_2 + (1 : Int32))
set_option maxHeartbeats 4000000 in
theorem tX6_box {g : Gl} {mo : Nat} {r : Rh} (hM : MStr mo r) (a1 : Int32) (I : MI) : CtI g yX6_box cX6_box 4 (some .int) 2 [.ref mo, .int a1] I r (pX6_box mo a1 I) := by
  refine CtI.mk (lv := [(0, .ref mo), (1, .int a1)]) (by decide) (Nat.le_of_ble_eq_true rfl) rfl (fun x Q h hr => ?_)
  unfold pX6_box
  refine v_aload_n (pc := 0) h dX6_box_0 0 rfl rfl ?_
  refine v_iconst (pc := 1) h dX6_box_1 (v := 0) rfl ?_
  refine v_puti (pc := 2) h dX6_box_2 fX6_116 rfl hM.1 ?_
  refine v_nmI (fun I1 => ?_)
  refine v_aload_n (pc := 5) h dX6_box_5 0 rfl rfl ?_
  refine v_geti (pc := 6) h dX6_box_6 fX6_129 rfl hM.1 ?_
  refine v_if_eq (pc := 9) (t := 22) h dX6_box_9 rfl (fun _ => ?_) (fun _ => ?_)
  · refine v_iconst (pc := 22) h dX6_box_22 (v := (-1)) rfl ?_
    exact v_iret (pc := 23) h hr dX6_box_23
  · refine v_aload_n (pc := 12) h dX6_box_12 0 rfl rfl ?_
    refine v_iload_n (pc := 13) h dX6_box_13 1 rfl rfl ?_
    refine v_iconst (pc := 14) h dX6_box_14 (v := 0) rfl ?_
    refine v_iconst (pc := 15) h dX6_box_15 (v := 1) rfl ?_
    refine v_callp (pc := 16) h dX6_box_16 kX6_143 rfl hM.1 (tX6_isIn hM a1 (0 : Int32) (1 : Int32) I1) (by decide) rfl rfl (Nat.le_of_ble_eq_true rfl) rfl (fun r2 => ?_)
    refine v_if_ne (pc := 19) (t := 24) h dX6_box_19 rfl (fun _ => ?_) (fun _ => ?_)
    · refine v_aload_n (pc := 24) h dX6_box_24 0 rfl rfl ?_
      refine v_callv (pc := 25) h dX6_box_25 kX6_412 rfl hM.1 (tX6_findsWays hM I1) (by decide) rfl rfl (Nat.le_of_ble_eq_true rfl) rfl (fun I3 => ?_)
      refine v_iconst (pc := 28) h dX6_box_28 (v := 0) rfl ?_
      refine v_istore_n (pc := 29) h dX6_box_29 rfl (by decide) (lv' := [(2, .int (0 : Int32)), (0, .ref mo), (1, .int a1)]) rfl ?_
      refine v_iconst (pc := 30) h dX6_box_30 (v := 1) rfl ?_
      refine v_istore_n (pc := 31) h dX6_box_31 rfl (by decide) (lv' := [(3, .int (1 : Int32)), (2, .int (0 : Int32)), (0, .ref mo), (1, .int a1)]) rfl ?_
      refine v_sub [2, 3, 1, 0] rfl ?_
      refine L2.run (lv := fun i2_4 i3_5 => [(0, .ref mo), (1, .int a1), (2, .int i2_4), (3, .int i3_5)]) (st := fun i2_4 i3_5 => []) (Im := fun i2_4 i3_5 => I3) (r := fun i2_4 i3_5 => r) (fun X6 hX6 i2_4 i3_5 => ?_) (0 : Int32) (1 : Int32)
      refine v_iload_n (pc := 32) h dX6_box_32 3 rfl rfl ?_
      refine v_aload_n (pc := 33) h dX6_box_33 0 rfl rfl ?_
      refine v_geti (pc := 34) h dX6_box_34 fX6_129 rfl hM.1 ?_
      refine v_icmp_ge (pc := 37) (t := 61) h dX6_box_37 rfl (fun _ => ?_) (fun _ => ?_)
      · refine v_aload_n (pc := 61) h dX6_box_61 0 rfl rfl ?_
        refine v_iload_n (pc := 62) h dX6_box_62 2 rfl rfl ?_
        refine v_callp (pc := 63) h dX6_box_63 kX6_418 rfl hM.1 (tX6_farthestFrom hM i2_4 I3) (by decide) rfl rfl (Nat.le_of_ble_eq_true rfl) rfl (fun r7 => ?_)
        refine v_ldcw (pc := 66) h dX6_box_66 (v := (100000000)) q1921 ?_
        refine v_icmp_lt (pc := 69) (t := 74) h dX6_box_69 rfl (fun _ => ?_) (fun _ => ?_)
        · refine v_iload_n (pc := 74) h dX6_box_74 1 rfl rfl ?_
          refine v_if_ne (pc := 75) (t := 82) h dX6_box_75 rfl (fun _ => ?_) (fun _ => ?_)
          · refine v_aload_n (pc := 82) h dX6_box_82 0 rfl rfl ?_
            refine v_iload_n (pc := 83) h dX6_box_83 2 rfl rfl ?_
            refine v_callp (pc := 84) h dX6_box_84 kX6_418 rfl hM.1 (tX6_farthestFrom hM i2_4 I3) (by decide) rfl rfl (Nat.le_of_ble_eq_true rfl) rfl (fun r8 => ?_)
            exact v_iret (pc := 87) h hr dX6_box_87
          · refine v_iload_n (pc := 78) h dX6_box_78 2 rfl rfl ?_
            refine v_goto (pc := 79) (t := 87) h dX6_box_79 rfl ?_
            exact v_iret (pc := 87) h hr dX6_box_87
        · refine v_iconst (pc := 72) h dX6_box_72 (v := (-1)) rfl ?_
          exact v_iret (pc := 73) h hr dX6_box_73
      · refine v_aload_n (pc := 40) h dX6_box_40 0 rfl rfl ?_
        refine v_iload_n (pc := 41) h dX6_box_41 3 rfl rfl ?_
        refine v_callp (pc := 42) h dX6_box_42 kX6_418 rfl hM.1 (tX6_farthestFrom hM i3_5 I3) (by decide) rfl rfl (Nat.le_of_ble_eq_true rfl) rfl (fun r9 => ?_)
        refine v_aload_n (pc := 45) h dX6_box_45 0 rfl rfl ?_
        refine v_iload_n (pc := 46) h dX6_box_46 2 rfl rfl ?_
        refine v_callp (pc := 47) h dX6_box_47 kX6_418 rfl hM.1 (tX6_farthestFrom hM i2_4 I3) (by decide) rfl rfl (Nat.le_of_ble_eq_true rfl) rfl (fun r10 => ?_)
        refine v_jn1 (fun v2_11 => V g x 4 (0, 0) 55 [(0, .ref mo), (1, .int a1), (2, .int v2_11), (3, .int i3_5)] [] I3 r) (fun k12 hk12 => ?_) (fun v2_11 => ?_)
        · refine v_icmp_ge (pc := 50) (t := 55) h dX6_box_50 rfl (fun _ => ?_) (fun _ => ?_)
          · exact hk12 i2_4
          · refine v_iload_n (pc := 53) h dX6_box_53 3 rfl rfl ?_
            refine v_istore_n (pc := 54) h dX6_box_54 rfl (by decide) (lv' := [(2, .int i3_5), (0, .ref mo), (1, .int a1), (3, .int i3_5)]) rfl ?_
            refine v_sub [1, 2, 0, 3] rfl ?_
            exact hk12 i3_5
        · refine v_iinc (pc := 55) h dX6_box_55 3 rfl (w := (i3_5 + (1 : Int32))) rfl (by decide) (lv' := [(3, .int (i3_5 + (1 : Int32))), (0, .ref mo), (1, .int a1), (2, .int v2_11)]) rfl ?_
          refine v_goto (pc := 58) (t := 32) h dX6_box_58 rfl ?_
          refine v_sub [1, 2, 3, 0] rfl ?_
          exact hX6 v2_11 (i3_5 + (1 : Int32))
    · refine v_iconst (pc := 22) h dX6_box_22 (v := (-1)) rfl ?_
      exact v_iret (pc := 23) h hr dX6_box_23
set_option maxHeartbeats 4000000 in
theorem tX6_blow {g : Gl} {mo : Nat} {r : Rh} (hM : MStr mo r) (a1 : Int32) (I : MI) : CtI g yX6_blow cX6_blow 2 (some .int) 1 [.ref mo, .int a1] I r (pX6_blow mo a1 I) := by
  refine CtI.mk (lv := [(0, .ref mo), (1, .int a1)]) (by decide) (Nat.le_of_ble_eq_true rfl) rfl (fun x Q h hr => ?_)
  unfold pX6_blow
  refine v_aload_n (pc := 0) h dX6_blow_0 0 rfl rfl ?_
  refine v_iconst (pc := 1) h dX6_blow_1 (v := 0) rfl ?_
  refine v_puti (pc := 2) h dX6_blow_2 fX6_116 rfl hM.1 ?_
  refine v_nmI (fun I1 => ?_)
  refine v_iload_n (pc := 5) h dX6_blow_5 1 rfl rfl ?_
  refine v_if_ne (pc := 6) (t := 16) h dX6_blow_6 rfl (fun _ => ?_) (fun _ => ?_)
  · refine v_aload_n (pc := 16) h dX6_blow_16 0 rfl rfl ?_
    refine v_iload_n (pc := 17) h dX6_blow_17 1 rfl rfl ?_
    refine v_bipush (pc := 18) h dX6_blow_18 (v := (-50)) rfl ?_
    refine v_bipush (pc := 20) h dX6_blow_20 (v := 50) rfl ?_
    refine v_callp (pc := 22) h dX6_blow_22 kX6_143 rfl hM.1 (tX6_isIn hM a1 (-50 : Int32) (50 : Int32) I1) (by decide) rfl rfl (Nat.le_of_ble_eq_true rfl) rfl (fun r2 => ?_)
    refine v_if_eq (pc := 25) (t := 37) h dX6_blow_25 rfl (fun _ => ?_) (fun _ => ?_)
    · refine v_iconst (pc := 37) h dX6_blow_37 (v := (-1)) rfl ?_
      exact v_iret (pc := 38) h hr dX6_blow_38
    · refine v_aload_n (pc := 28) h dX6_blow_28 0 rfl rfl ?_
      refine v_geti (pc := 29) h dX6_blow_29 fX6_421 rfl hM.1 ?_
      refine v_bipush (pc := 32) h dX6_blow_32 (v := 8) rfl ?_
      refine v_icmp_ne (pc := 34) (t := 39) h dX6_blow_34 rfl (fun _ => ?_) (fun _ => ?_)
      · refine v_aload_n (pc := 39) h dX6_blow_39 0 rfl rfl ?_
        refine v_getp (pc := 40) h dX6_blow_40 fX6_83 rfl hM.1 (mA_46 hM).1 ?_
        refine v_aload_n (pc := 43) h dX6_blow_43 0 rfl rfl ?_
        refine v_geti (pc := 44) h dX6_blow_44 fX6_421 rfl hM.1 ?_
        refine v_iload_n (pc := 47) h dX6_blow_47 1 rfl rfl ?_
        refine v_iast (pc := 48) h dX6_blow_48 (mA_46 hM).2.1 (mA_46 hM).2.2 ?_
        refine v_nmI (fun I3 => ?_)
        refine v_aload_n (pc := 49) h dX6_blow_49 0 rfl rfl ?_
        refine v_aload_n (pc := 50) h dX6_blow_50 0 rfl rfl ?_
        refine v_geti (pc := 51) h dX6_blow_51 fX6_421 rfl hM.1 ?_
        refine v_iconst (pc := 54) h dX6_blow_54 (v := 1) rfl ?_
        refine v_iadd (pc := 55) h dX6_blow_55 ?_
        refine v_puti (pc := 56) h dX6_blow_56 fX6_421 rfl hM.1 ?_
        refine v_nmI (fun I4 => ?_)
        refine v_aload_n (pc := 59) h dX6_blow_59 0 rfl rfl ?_
        refine v_geti (pc := 60) h dX6_blow_60 fX6_421 rfl hM.1 ?_
        exact v_iret (pc := 63) h hr dX6_blow_63
      · refine v_iconst (pc := 37) h dX6_blow_37 (v := (-1)) rfl ?_
        exact v_iret (pc := 38) h hr dX6_blow_38
  · refine v_aload_n (pc := 9) h dX6_blow_9 0 rfl rfl ?_
    refine v_iconst (pc := 10) h dX6_blow_10 (v := 0) rfl ?_
    refine v_puti (pc := 11) h dX6_blow_11 fX6_421 rfl hM.1 ?_
    refine v_nmI (fun I5 => ?_)
    refine v_iconst (pc := 14) h dX6_blow_14 (v := 0) rfl ?_
    exact v_iret (pc := 15) h hr dX6_blow_15
set_option maxHeartbeats 4000000 in
theorem tX6_behind {g : Gl} {mo : Nat} {r : Rh} (hM : MStr mo r) (a1 : Int32) (a2 : Int32) (I : MI) : CtP g yX6_behind cX6_behind 4 (some .int) 1 [.ref mo, .int a1, .int a2] I r (pX6_behind mo a1 a2 I) := by
  refine CtP.mk (lv := [(0, .ref mo), (1, .int a1), (2, .int a2)]) (by decide) (Nat.le_of_ble_eq_true rfl) rfl (fun x Q h hr => ?_)
  unfold pX6_behind
  refine v_iload_n (pc := 0) h dX6_behind_0 1 rfl rfl ?_
  refine v_iconst (pc := 1) h dX6_behind_1 (v := (-1)) rfl ?_
  refine v_jn1 (fun t1 => V g x 4 (0, 0) 23 [] [.int t1] I r) (fun k2 hk2 => ?_) (fun t1 => ?_)
  · refine v_icmp_ne (pc := 2) (t := 9) h dX6_behind_2 rfl (fun _ => ?_) (fun _ => ?_)
    · refine v_aload_n (pc := 9) h dX6_behind_9 0 rfl rfl ?_
      refine v_bipush (pc := 10) h dX6_behind_10 (v := 99) rfl ?_
      refine v_iload_n (pc := 12) h dX6_behind_12 1 rfl rfl ?_
      refine v_aload_n (pc := 13) h dX6_behind_13 0 rfl rfl ?_
      refine v_getp (pc := 14) h dX6_behind_14 fX6_83 rfl hM.1 (mA_46 hM).1 ?_
      refine v_iload_n (pc := 17) h dX6_behind_17 2 rfl rfl ?_
      refine v_iald (pc := 18) h dX6_behind_18 (mA_46 hM).2.1 (mA_46 hM).2.2 ?_
      refine v_iadd (pc := 19) h dX6_behind_19 ?_
      refine v_callp (pc := 20) h dX6_behind_20 kX6_353 rfl hM.1 (tX6_lesser hM (99 : Int32) (a1 + (I (mo + 24) a2.toNatClampNeg)) I) (by decide) rfl rfl (Nat.le_of_ble_eq_true rfl) rfl (fun r3 => ?_)
      refine v_sub [] rfl ?_
      exact hk2 r3
    · refine v_iconst (pc := 5) h dX6_behind_5 (v := (-1)) rfl ?_
      refine v_goto (pc := 6) (t := 23) h dX6_behind_6 rfl ?_
      refine v_sub [] rfl ?_
      exact hk2 (-1 : Int32)
  · refine v_istore_n (pc := 23) h dX6_behind_23 rfl (by decide) (lv' := [(3, .int t1)]) rfl ?_
    refine v_iload_n (pc := 24) h dX6_behind_24 0 rfl rfl ?_
    refine v_iconst (pc := 25) h dX6_behind_25 (v := 1) rfl ?_
    refine v_icmp_ge (pc := 26) (t := 33) h dX6_behind_26 rfl (fun _ => ?_) (fun _ => ?_)
    · refine v_iload_n (pc := 33) h dX6_behind_33 0 rfl rfl ?_
      exact v_iretP (pc := 34) h hr dX6_behind_34
    · refine v_iconst (pc := 29) h dX6_behind_29 (v := (-1)) rfl ?_
      refine v_goto (pc := 30) (t := 34) h dX6_behind_30 rfl ?_
      exact v_iretP (pc := 34) h hr dX6_behind_34
set_option maxHeartbeats 4000000 in
theorem tX6_mostLeft {g : Gl} {mo : Nat} {r : Rh} (hM : MStr mo r) (a1 : Int32) (a2 : Int32) (I : MI) : CtI g yX6_mostLeft cX6_mostLeft 6 (some .int) 2 [.ref mo, .int a1, .int a2] I r (pX6_mostLeft mo a1 a2 I) := by
  refine CtI.mk (lv := [(0, .ref mo), (1, .int a1), (2, .int a2)]) (by decide) (Nat.le_of_ble_eq_true rfl) rfl (fun x Q h hr => ?_)
  unfold pX6_mostLeft
  refine v_iconst (pc := 0) h dX6_mostLeft_0 (v := 1) rfl ?_
  refine v_aload_n (pc := 1) h dX6_mostLeft_1 0 rfl rfl ?_
  refine v_geti (pc := 2) h dX6_mostLeft_2 fX6_421 rfl hM.1 ?_
  refine v_ishl (pc := 5) h dX6_mostLeft_5 ?_
  refine v_iconst (pc := 6) h dX6_mostLeft_6 (v := 1) rfl ?_
  refine v_isub (pc := 7) h dX6_mostLeft_7 ?_
  refine v_nmi (fun v1 => ?_)
  refine v_istore_n (pc := 8) h dX6_mostLeft_8 rfl (by decide) (lv' := [(3, .int v1), (0, .ref mo), (1, .int a1), (2, .int a2)]) rfl ?_
  refine v_iconst (pc := 9) h dX6_mostLeft_9 (v := 0) rfl ?_
  refine v_istore (pc := 10) h dX6_mostLeft_10 (by decide) (lv' := [(4, .int (0 : Int32)), (3, .int v1), (0, .ref mo), (1, .int a1), (2, .int a2)]) rfl ?_
  refine v_sub [2, 3, 4, 1, 0] rfl ?_
  refine L2.run (lv := fun i4_2 I3 => [(0, .ref mo), (1, .int a1), (2, .int a2), (3, .int v1), (4, .int i4_2)]) (st := fun i4_2 I3 => []) (Im := fun i4_2 I3 => I3) (r := fun i4_2 I3 => r) (fun X4 hX4 i4_2 I3 => ?_) (0 : Int32) I
  refine v_iload (pc := 12) h dX6_mostLeft_12 4 rfl ?_
  refine v_iload_n (pc := 14) h dX6_mostLeft_14 3 rfl rfl ?_
  refine v_icmp_gt (pc := 15) (t := 161) h dX6_mostLeft_15 rfl (fun _ => ?_) (fun _ => ?_)
  · refine v_aload_n (pc := 161) h dX6_mostLeft_161 0 rfl rfl ?_
    refine v_getp (pc := 162) h dX6_mostLeft_162 fX6_86 rfl hM.1 (mA_47 hM).1 ?_
    refine v_iload_n (pc := 165) h dX6_mostLeft_165 3 rfl rfl ?_
    refine v_iald (pc := 166) h dX6_mostLeft_166 (mA_47 hM).2.1 (mA_47 hM).2.2 ?_
    exact v_iret (pc := 167) h hr dX6_mostLeft_167
  · refine v_aload_n (pc := 18) h dX6_mostLeft_18 0 rfl rfl ?_
    refine v_getp (pc := 19) h dX6_mostLeft_19 fX6_86 rfl hM.1 (mA_47 hM).1 ?_
    refine v_iload (pc := 22) h dX6_mostLeft_22 4 rfl ?_
    refine v_iload (pc := 24) h dX6_mostLeft_24 4 rfl ?_
    refine v_jn1 (fun t5 => V g x 6 (0, 0) 39 [(0, .ref mo), (1, .int a1), (2, .int a2), (3, .int v1), (4, .int i4_2)] [.int t5, .int i4_2, .ref (mo + 25)] I3 r) (fun k6 hk6 => ?_) (fun t5 => ?_)
    · refine v_jn0 (V g x 6 (0, 0) 38 [(0, .ref mo), (1, .int a1), (2, .int a2), (3, .int v1), (4, .int i4_2)] [.int i4_2, .ref (mo + 25)] I3 r) (fun k7 hk7 => ?_) ?_
      · refine v_if_ne (pc := 26) (t := 38) h dX6_mostLeft_26 rfl (fun _ => ?_) (fun _ => ?_)
        · exact hk7
        · refine v_iload_n (pc := 29) h dX6_mostLeft_29 2 rfl rfl ?_
          refine v_iconst (pc := 30) h dX6_mostLeft_30 (v := (-1)) rfl ?_
          refine v_icmp_ne (pc := 31) (t := 38) h dX6_mostLeft_31 rfl (fun _ => ?_) (fun _ => ?_)
          · exact hk7
          · refine v_iload_n (pc := 34) h dX6_mostLeft_34 1 rfl rfl ?_
            refine v_goto (pc := 35) (t := 39) h dX6_mostLeft_35 rfl ?_
            exact hk6 a1
      · refine v_iconst (pc := 38) h dX6_mostLeft_38 (v := (-1)) rfl ?_
        exact hk6 (-1 : Int32)
    · refine v_iast (pc := 39) h dX6_mostLeft_39 (mA_47 hM).2.1 (mA_47 hM).2.2 ?_
      refine v_nmI (fun I8 => ?_)
      refine v_iload_n (pc := 40) h dX6_mostLeft_40 2 rfl rfl ?_
      refine v_iconst (pc := 41) h dX6_mostLeft_41 (v := (-1)) rfl ?_
      refine v_jn1 (fun I9 => V g x 6 (0, 0) 66 [(0, .ref mo), (1, .int a1), (2, .int a2), (3, .int v1), (4, .int i4_2)] [] I9 r) (fun k10 hk10 => ?_) (fun I9 => ?_)
      · refine v_icmp_eq (pc := 42) (t := 66) h dX6_mostLeft_42 rfl (fun _ => ?_) (fun _ => ?_)
        · exact hk10 I8
        · refine v_iload (pc := 45) h dX6_mostLeft_45 4 rfl ?_
          refine v_iconst (pc := 47) h dX6_mostLeft_47 (v := 1) rfl ?_
          refine v_iload_n (pc := 48) h dX6_mostLeft_48 2 rfl rfl ?_
          refine v_ishl (pc := 49) h dX6_mostLeft_49 ?_
          refine v_icmp_ne (pc := 50) (t := 66) h dX6_mostLeft_50 rfl (fun _ => ?_) (fun _ => ?_)
          · exact hk10 I8
          · refine v_aload_n (pc := 53) h dX6_mostLeft_53 0 rfl rfl ?_
            refine v_getp (pc := 54) h dX6_mostLeft_54 fX6_86 rfl hM.1 (mA_47 hM).1 ?_
            refine v_iload (pc := 57) h dX6_mostLeft_57 4 rfl ?_
            refine v_aload_n (pc := 59) h dX6_mostLeft_59 0 rfl rfl ?_
            refine v_iload_n (pc := 60) h dX6_mostLeft_60 1 rfl rfl ?_
            refine v_iload_n (pc := 61) h dX6_mostLeft_61 2 rfl rfl ?_
            refine v_callp (pc := 62) h dX6_mostLeft_62 kX6_424 rfl hM.1 (tX6_behind hM a1 a2 I8) (by decide) rfl rfl (Nat.le_of_ble_eq_true rfl) rfl (fun r11 => ?_)
            refine v_iast (pc := 65) h dX6_mostLeft_65 (mA_47 hM).2.1 (mA_47 hM).2.2 ?_
            refine v_nmI (fun I12 => ?_)
            exact hk10 I12
      · refine v_iconst (pc := 66) h dX6_mostLeft_66 (v := 0) rfl ?_
        refine v_istore (pc := 67) h dX6_mostLeft_67 (by decide) (lv' := [(5, .int (0 : Int32)), (0, .ref mo), (1, .int a1), (2, .int a2), (3, .int v1), (4, .int i4_2)]) rfl ?_
        refine v_sub [1, 2, 3, 4, 5, 0] rfl ?_
        refine L2.run (lv := fun i5_13 I14 => [(0, .ref mo), (1, .int a1), (2, .int a2), (3, .int v1), (4, .int i4_2), (5, .int i5_13)]) (st := fun i5_13 I14 => []) (Im := fun i5_13 I14 => I14) (r := fun i5_13 I14 => r) (fun X15 hX15 i5_13 I14 => ?_) (0 : Int32) I9
        refine v_iload (pc := 69) h dX6_mostLeft_69 5 rfl ?_
        refine v_aload_n (pc := 71) h dX6_mostLeft_71 0 rfl rfl ?_
        refine v_geti (pc := 72) h dX6_mostLeft_72 fX6_421 rfl hM.1 ?_
        refine v_icmp_ge (pc := 75) (t := 155) h dX6_mostLeft_75 rfl (fun _ => ?_) (fun _ => ?_)
        · refine v_iinc (pc := 155) h dX6_mostLeft_155 4 rfl (w := (i4_2 + (1 : Int32))) rfl (by decide) (lv' := [(4, .int (i4_2 + (1 : Int32))), (0, .ref mo), (1, .int a1), (2, .int a2), (3, .int v1), (5, .int i5_13)]) rfl ?_
          refine v_goto (pc := 158) (t := 12) h dX6_mostLeft_158 rfl ?_
          refine v_sub [1, 2, 3, 4, 0] rfl ?_
          exact hX4 (i4_2 + (1 : Int32)) I14
        · refine v_aload_n (pc := 78) h dX6_mostLeft_78 0 rfl rfl ?_
          refine v_iload (pc := 79) h dX6_mostLeft_79 4 rfl ?_
          refine v_iload (pc := 81) h dX6_mostLeft_81 5 rfl ?_
          refine v_callp (pc := 83) h dX6_mostLeft_83 kX6_377 rfl hM.1 (tX6_lies hM i4_2 i5_13 I14) (by decide) rfl rfl (Nat.le_of_ble_eq_true rfl) rfl (fun r16 => ?_)
          refine v_jn1 (fun I17 => V g x 6 (0, 0) 149 [(0, .ref mo), (1, .int a1), (2, .int a2), (3, .int v1), (4, .int i4_2), (5, .int i5_13)] [] I17 r) (fun k18 hk18 => ?_) (fun I17 => ?_)
          · refine v_if_eq (pc := 86) (t := 149) h dX6_mostLeft_86 rfl (fun _ => ?_) (fun _ => ?_)
            · exact hk18 I14
            · refine v_iload_n (pc := 89) h dX6_mostLeft_89 2 rfl rfl ?_
              refine v_iconst (pc := 90) h dX6_mostLeft_90 (v := (-1)) rfl ?_
              refine v_jn0 (V g x 6 (0, 0) 111 [(0, .ref mo), (1, .int a1), (2, .int a2), (3, .int v1), (4, .int i4_2), (5, .int i5_13)] [] I14 r) (fun k19 hk19 => ?_) ?_
              · refine v_icmp_eq (pc := 91) (t := 111) h dX6_mostLeft_91 rfl (fun _ => ?_) (fun _ => ?_)
                · exact hk19
                · refine v_aload_n (pc := 94) h dX6_mostLeft_94 0 rfl rfl ?_
                  refine v_iload (pc := 95) h dX6_mostLeft_95 4 rfl ?_
                  refine v_iconst (pc := 97) h dX6_mostLeft_97 (v := 1) rfl ?_
                  refine v_iload (pc := 98) h dX6_mostLeft_98 5 rfl ?_
                  refine v_ishl (pc := 100) h dX6_mostLeft_100 ?_
                  refine v_iconst (pc := 101) h dX6_mostLeft_101 (v := (-1)) rfl ?_
                  refine v_ixor (pc := 102) h dX6_mostLeft_102 ?_
                  refine v_iand (pc := 103) h dX6_mostLeft_103 ?_
                  refine v_iload_n (pc := 104) h dX6_mostLeft_104 2 rfl rfl ?_
                  refine v_callp (pc := 105) h dX6_mostLeft_105 kX6_377 rfl hM.1 (tX6_lies hM (i4_2 &&& ((sl (1 : Int32) i5_13) ^^^ (-1 : Int32))) a2 I14) (by decide) rfl rfl (Nat.le_of_ble_eq_true rfl) rfl (fun r20 => ?_)
                  refine v_if_eq (pc := 108) (t := 149) h dX6_mostLeft_108 rfl (fun _ => ?_) (fun _ => ?_)
                  · exact hk18 I14
                  · exact hk19
              · refine v_aload_n (pc := 111) h dX6_mostLeft_111 0 rfl rfl ?_
                refine v_getp (pc := 112) h dX6_mostLeft_112 fX6_86 rfl hM.1 (mA_47 hM).1 ?_
                refine v_iload (pc := 115) h dX6_mostLeft_115 4 rfl ?_
                refine v_aload_n (pc := 117) h dX6_mostLeft_117 0 rfl rfl ?_
                refine v_aload_n (pc := 118) h dX6_mostLeft_118 0 rfl rfl ?_
                refine v_getp (pc := 119) h dX6_mostLeft_119 fX6_86 rfl hM.1 (mA_47 hM).1 ?_
                refine v_iload (pc := 122) h dX6_mostLeft_122 4 rfl ?_
                refine v_iald (pc := 124) h dX6_mostLeft_124 (mA_47 hM).2.1 (mA_47 hM).2.2 ?_
                refine v_aload_n (pc := 125) h dX6_mostLeft_125 0 rfl rfl ?_
                refine v_aload_n (pc := 126) h dX6_mostLeft_126 0 rfl rfl ?_
                refine v_getp (pc := 127) h dX6_mostLeft_127 fX6_86 rfl hM.1 (mA_47 hM).1 ?_
                refine v_iload (pc := 130) h dX6_mostLeft_130 4 rfl ?_
                refine v_iconst (pc := 132) h dX6_mostLeft_132 (v := 1) rfl ?_
                refine v_iload (pc := 133) h dX6_mostLeft_133 5 rfl ?_
                refine v_ishl (pc := 135) h dX6_mostLeft_135 ?_
                refine v_iconst (pc := 136) h dX6_mostLeft_136 (v := (-1)) rfl ?_
                refine v_ixor (pc := 137) h dX6_mostLeft_137 ?_
                refine v_iand (pc := 138) h dX6_mostLeft_138 ?_
                refine v_iald (pc := 139) h dX6_mostLeft_139 (mA_47 hM).2.1 (mA_47 hM).2.2 ?_
                refine v_iload (pc := 140) h dX6_mostLeft_140 5 rfl ?_
                refine v_callp (pc := 142) h dX6_mostLeft_142 kX6_424 rfl hM.1 (tX6_behind hM (I14 (mo + 25) (i4_2 &&& ((sl (1 : Int32) i5_13) ^^^ (-1 : Int32))).toNatClampNeg) i5_13 I14) (by decide) rfl rfl (Nat.le_of_ble_eq_true rfl) rfl (fun r21 => ?_)
                refine v_callp (pc := 145) h dX6_mostLeft_145 kX6_332 rfl hM.1 (tX6_greater hM (I14 (mo + 25) i4_2.toNatClampNeg) r21 I14) (by decide) rfl rfl (Nat.le_of_ble_eq_true rfl) rfl (fun r22 => ?_)
                refine v_iast (pc := 148) h dX6_mostLeft_148 (mA_47 hM).2.1 (mA_47 hM).2.2 ?_
                refine v_nmI (fun I23 => ?_)
                exact hk18 I23
          · refine v_iinc (pc := 149) h dX6_mostLeft_149 5 rfl (w := (i5_13 + (1 : Int32))) rfl (by decide) (lv' := [(5, .int (i5_13 + (1 : Int32))), (0, .ref mo), (1, .int a1), (2, .int a2), (3, .int v1), (4, .int i4_2)]) rfl ?_
            refine v_goto (pc := 152) (t := 69) h dX6_mostLeft_152 rfl ?_
            refine v_sub [1, 2, 3, 4, 5, 0] rfl ?_
            exact hX15 (i5_13 + (1 : Int32)) I17
set_option maxHeartbeats 4000000 in
theorem tX6_bears {g : Gl} {mo : Nat} {r : Rh} (hM : MStr mo r) (a1 : Int32) (a2 : Int32) (I : MI) : CtI g yX6_bears cX6_bears 4 (some .int) 3 [.ref mo, .int a1, .int a2] I r (pX6_bears mo a1 a2 I) := by
  refine CtI.mk (lv := [(0, .ref mo), (1, .int a1), (2, .int a2)]) (by decide) (Nat.le_of_ble_eq_true rfl) rfl (fun x Q h hr => ?_)
  unfold pX6_bears
  refine v_aload_n (pc := 0) h dX6_bears_0 0 rfl rfl ?_
  refine v_iconst (pc := 1) h dX6_bears_1 (v := 0) rfl ?_
  refine v_puti (pc := 2) h dX6_bears_2 fX6_116 rfl hM.1 ?_
  refine v_nmI (fun I1 => ?_)
  refine v_aload_n (pc := 5) h dX6_bears_5 0 rfl rfl ?_
  refine v_iload_n (pc := 6) h dX6_bears_6 1 rfl rfl ?_
  refine v_iconst (pc := 7) h dX6_bears_7 (v := 1) rfl ?_
  refine v_bipush (pc := 8) h dX6_bears_8 (v := 99) rfl ?_
  refine v_callp (pc := 10) h dX6_bears_10 kX6_143 rfl hM.1 (tX6_isIn hM a1 (1 : Int32) (99 : Int32) I1) (by decide) rfl rfl (Nat.le_of_ble_eq_true rfl) rfl (fun r2 => ?_)
  refine v_if_eq (pc := 13) (t := 26) h dX6_bears_13 rfl (fun _ => ?_) (fun _ => ?_)
  · refine v_iconst (pc := 26) h dX6_bears_26 (v := (-1)) rfl ?_
    exact v_iret (pc := 27) h hr dX6_bears_27
  · refine v_aload_n (pc := 16) h dX6_bears_16 0 rfl rfl ?_
    refine v_iload_n (pc := 17) h dX6_bears_17 2 rfl rfl ?_
    refine v_iconst (pc := 18) h dX6_bears_18 (v := 0) rfl ?_
    refine v_iconst (pc := 19) h dX6_bears_19 (v := 1) rfl ?_
    refine v_callp (pc := 20) h dX6_bears_20 kX6_143 rfl hM.1 (tX6_isIn hM a2 (0 : Int32) (1 : Int32) I1) (by decide) rfl rfl (Nat.le_of_ble_eq_true rfl) rfl (fun r3 => ?_)
    refine v_if_ne (pc := 23) (t := 28) h dX6_bears_23 rfl (fun _ => ?_) (fun _ => ?_)
    · refine v_iload_n (pc := 28) h dX6_bears_28 2 rfl rfl ?_
      refine v_iconst (pc := 29) h dX6_bears_29 (v := 1) rfl ?_
      refine v_icmp_ne (pc := 30) (t := 40) h dX6_bears_30 rfl (fun _ => ?_) (fun _ => ?_)
      · refine v_iconst (pc := 40) h dX6_bears_40 (v := 0) rfl ?_
        refine v_istore_n (pc := 41) h dX6_bears_41 rfl (by decide) (lv' := [(3, .int (0 : Int32)), (0, .ref mo), (1, .int a1), (2, .int a2)]) rfl ?_
        refine v_sub [1, 2, 0] rfl ?_
        refine L2.run (lv := fun i3_4 I5 => [(0, .ref mo), (1, .int a1), (3, .int i3_4)]) (st := fun i3_4 I5 => []) (Im := fun i3_4 I5 => I5) (r := fun i3_4 I5 => r) (fun X6 hX6 i3_4 I5 => ?_) (0 : Int32) I1
        refine v_iload_n (pc := 42) h dX6_bears_42 2 rfl rfl ?_
        refine v_aload_n (pc := 43) h dX6_bears_43 0 rfl rfl ?_
        refine v_geti (pc := 44) h dX6_bears_44 fX6_421 rfl hM.1 ?_
        refine v_icmp_ge (pc := 47) (t := 68) h dX6_bears_47 rfl (fun _ => ?_) (fun _ => ?_)
        · refine v_iconst (pc := 68) h dX6_bears_68 (v := (-1)) rfl ?_
          exact v_iret (pc := 69) h hr dX6_bears_69
        · refine v_aload_n (pc := 50) h dX6_bears_50 0 rfl rfl ?_
          refine v_iload_n (pc := 51) h dX6_bears_51 1 rfl rfl ?_
          refine v_iload_n (pc := 52) h dX6_bears_52 2 rfl rfl ?_
          refine v_calli (pc := 53) h dX6_bears_53 kX6_427 rfl hM.1 (tX6_mostLeft hM a1 i3_4 I5) (by decide) rfl rfl (Nat.le_of_ble_eq_true rfl) rfl (fun r7 I8 => ?_)
          refine v_iconst (pc := 56) h dX6_bears_56 (v := (-1)) rfl ?_
          refine v_icmp_eq (pc := 57) (t := 62) h dX6_bears_57 rfl (fun _ => ?_) (fun _ => ?_)
          · refine v_iinc (pc := 62) h dX6_bears_62 2 rfl (w := (i3_4 + (1 : Int32))) rfl (by decide) (lv' := [(3, .int (i3_4 + (1 : Int32))), (0, .ref mo), (1, .int a1)]) rfl ?_
            refine v_goto (pc := 65) (t := 42) h dX6_bears_65 rfl ?_
            refine v_sub [1, 2, 0] rfl ?_
            exact hX6 (i3_4 + (1 : Int32)) I8
          · refine v_iload_n (pc := 60) h dX6_bears_60 2 rfl rfl ?_
            exact v_iret (pc := 61) h hr dX6_bears_61
      · refine v_aload_n (pc := 33) h dX6_bears_33 0 rfl rfl ?_
        refine v_iload_n (pc := 34) h dX6_bears_34 1 rfl rfl ?_
        refine v_iconst (pc := 35) h dX6_bears_35 (v := (-1)) rfl ?_
        refine v_calli (pc := 36) h dX6_bears_36 kX6_427 rfl hM.1 (tX6_mostLeft hM a1 (-1 : Int32) I1) (by decide) rfl rfl (Nat.le_of_ble_eq_true rfl) rfl (fun r9 I10 => ?_)
        exact v_iret (pc := 39) h hr dX6_bears_39
    · refine v_iconst (pc := 26) h dX6_bears_26 (v := (-1)) rfl ?_
      exact v_iret (pc := 27) h hr dX6_bears_27
set_option maxHeartbeats 4000000 in
theorem tX6_added {g : Gl} {mo : Nat} {r : Rh} (hM : MStr mo r) (a1 : Int32) (a2 : Int32) (I : MI) : CtP g yX6_added cX6_added 3 (some .int) 0 [.ref mo, .int a1, .int a2] I r (pX6_added mo a1 a2 I) := by
  refine CtP.mk (lv := [(0, .ref mo), (1, .int a1), (2, .int a2)]) (by decide) (Nat.le_of_ble_eq_true rfl) rfl (fun x Q h hr => ?_)
  unfold pX6_added
  refine v_iload_n (pc := 0) h dX6_added_0 1 rfl rfl ?_
  refine v_ldc (pc := 1) h dX6_added_1 (v := (1000000007)) q1962 ?_
  refine v_iload_n (pc := 3) h dX6_added_3 2 rfl rfl ?_
  refine v_isub (pc := 4) h dX6_added_4 ?_
  refine v_icmp_lt (pc := 5) (t := 17) h dX6_added_5 rfl (fun _ => ?_) (fun _ => ?_)
  · refine v_iload_n (pc := 17) h dX6_added_17 1 rfl rfl ?_
    refine v_iload_n (pc := 18) h dX6_added_18 2 rfl rfl ?_
    refine v_iadd (pc := 19) h dX6_added_19 ?_
    exact v_iretP (pc := 20) h hr dX6_added_20
  · refine v_iload_n (pc := 8) h dX6_added_8 1 rfl rfl ?_
    refine v_ldc (pc := 9) h dX6_added_9 (v := (1000000007)) q1962 ?_
    refine v_iload_n (pc := 11) h dX6_added_11 2 rfl rfl ?_
    refine v_isub (pc := 12) h dX6_added_12 ?_
    refine v_isub (pc := 13) h dX6_added_13 ?_
    refine v_goto (pc := 14) (t := 20) h dX6_added_14 rfl ?_
    exact v_iretP (pc := 20) h hr dX6_added_20
set_option maxHeartbeats 4000000 in
theorem tX6_findsCarried {g : Gl} {mo : Nat} {r : Rh} (hM : MStr mo r) (a1 : Int32) (I : MI) : CtV g yX6_findsCarried cX6_findsCarried 6 1 [.ref mo, .int a1] I r (pX6_findsCarried mo a1 I) := by
  refine CtV.mk (lv := [(0, .ref mo), (1, .int a1)]) (by decide) (Nat.le_of_ble_eq_true rfl) rfl (fun x Q h hr => ?_)
  unfold pX6_findsCarried
  refine v_iconst (pc := 0) h dX6_findsCarried_0 (v := 0) rfl ?_
  refine v_istore_n (pc := 1) h dX6_findsCarried_1 rfl (by decide) (lv' := [(2, .int (0 : Int32)), (0, .ref mo), (1, .int a1)]) rfl ?_
  refine v_sub [1, 2, 0] rfl ?_
  refine L2.run (lv := fun i2_1 I2 => [(0, .ref mo), (1, .int a1), (2, .int i2_1)]) (st := fun i2_1 I2 => []) (Im := fun i2_1 I2 => I2) (r := fun i2_1 I2 => r) (fun X3 hX3 i2_1 I2 => ?_) (0 : Int32) I
  refine v_iload_n (pc := 2) h dX6_findsCarried_2 2 rfl rfl ?_
  refine v_sipush (pc := 3) h dX6_findsCarried_3 (v := 10025) rfl ?_
  refine v_icmp_ge (pc := 6) (t := 30) h dX6_findsCarried_6 rfl (fun _ => ?_) (fun _ => ?_)
  · refine v_iconst (pc := 30) h dX6_findsCarried_30 (v := 0) rfl ?_
    refine v_istore_n (pc := 31) h dX6_findsCarried_31 rfl (by decide) (lv' := [(2, .int (0 : Int32)), (0, .ref mo), (1, .int a1)]) rfl ?_
    refine v_sub [1, 2, 0] rfl ?_
    refine L2.run (lv := fun i2_4 I5 => [(0, .ref mo), (1, .int a1), (2, .int i2_4)]) (st := fun i2_4 I5 => []) (Im := fun i2_4 I5 => I5) (r := fun i2_4 I5 => r) (fun X6 hX6 i2_4 I5 => ?_) (0 : Int32) I2
    refine v_iload_n (pc := 32) h dX6_findsCarried_32 2 rfl rfl ?_
    refine v_aload_n (pc := 33) h dX6_findsCarried_33 0 rfl rfl ?_
    refine v_getp (pc := 34) h dX6_findsCarried_34 fX6_7 rfl hM.1 (mA_1 hM).1 ?_
    refine v_bipush (pc := 37) h dX6_findsCarried_37 (v := 10) rfl ?_
    refine v_ialdL (pc := 39) h dX6_findsCarried_39 (mA_1 hM).2.1 (mA_1 hM).2.2 (vpd rfl) (k := 10) rfl ?_
    refine v_icmp_ge (pc := 40) (t := 147) h dX6_findsCarried_40 rfl (fun _ => ?_) (fun _ => ?_)
    · exact v_vret (pc := 147) h hr dX6_findsCarried_147
    · refine v_aload_n (pc := 43) h dX6_findsCarried_43 0 rfl rfl ?_
      refine v_getp (pc := 44) h dX6_findsCarried_44 fX6_7 rfl hM.1 (mA_1 hM).1 ?_
      refine v_aload_n (pc := 47) h dX6_findsCarried_47 0 rfl rfl ?_
      refine v_iload_n (pc := 48) h dX6_findsCarried_48 2 rfl rfl ?_
      refine v_callp (pc := 49) h dX6_findsCarried_49 kX6_136 rfl hM.1 (tX6_letterAt hM i2_4 I5) (by decide) rfl rfl (Nat.le_of_ble_eq_true rfl) rfl (fun r7 => ?_)
      refine v_iconst (pc := 52) h dX6_findsCarried_52 (v := 3) rfl ?_
      refine v_iadd (pc := 53) h dX6_findsCarried_53 ?_
      refine v_iald (pc := 54) h dX6_findsCarried_54 (mA_1 hM).2.1 (mA_1 hM).2.2 ?_
      refine v_nmi (fun v8 => ?_)
      refine v_istore_n (pc := 55) h dX6_findsCarried_55 rfl (by decide) (lv' := [(3, .int v8), (0, .ref mo), (1, .int a1), (2, .int i2_4)]) rfl ?_
      refine v_iload_n (pc := 56) h dX6_findsCarried_56 3 rfl rfl ?_
      refine v_istore (pc := 57) h dX6_findsCarried_57 (by decide) (lv' := [(4, .int i2_4), (3, .int v8), (0, .ref mo), (1, .int a1), (2, .int i2_4)]) rfl ?_
      refine v_sub [2, 3, 4, 1, 0] rfl ?_
      refine L2.run (lv := fun i4_9 I10 => [(0, .ref mo), (1, .int a1), (2, .int i2_4), (3, .int v8), (4, .int i4_9)]) (st := fun i4_9 I10 => []) (Im := fun i4_9 I10 => I10) (r := fun i4_9 I10 => r) (fun X11 hX11 i4_9 I10 => ?_) i2_4 I5
      refine v_iload (pc := 59) h dX6_findsCarried_59 4 rfl ?_
      refine v_if_lt (pc := 61) (t := 141) h dX6_findsCarried_61 rfl (fun _ => ?_) (fun _ => ?_)
      · refine v_iinc (pc := 141) h dX6_findsCarried_141 2 rfl (w := (i2_4 + (1 : Int32))) rfl (by decide) (lv' := [(2, .int (i2_4 + (1 : Int32))), (0, .ref mo), (1, .int a1), (3, .int v8), (4, .int i4_9)]) rfl ?_
        refine v_goto (pc := 144) (t := 32) h dX6_findsCarried_144 rfl ?_
        refine v_sub [1, 2, 0] rfl ?_
        exact hX6 (i2_4 + (1 : Int32)) I10
      · refine v_iconst (pc := 64) h dX6_findsCarried_64 (v := 0) rfl ?_
        refine v_istore (pc := 65) h dX6_findsCarried_65 (by decide) (lv' := [(5, .int (0 : Int32)), (0, .ref mo), (1, .int a1), (2, .int i2_4), (3, .int v8), (4, .int i4_9)]) rfl ?_
        refine v_sub [1, 2, 3, 4, 5, 0] rfl ?_
        refine L2.run (lv := fun i5_12 I13 => [(0, .ref mo), (1, .int a1), (2, .int i2_4), (3, .int v8), (4, .int i4_9), (5, .int i5_12)]) (st := fun i5_12 I13 => []) (Im := fun i5_12 I13 => I13) (r := fun i5_12 I13 => r) (fun X14 hX14 i5_12 I13 => ?_) (0 : Int32) I10
        refine v_iload (pc := 67) h dX6_findsCarried_67 5 rfl ?_
        refine v_iload_n (pc := 69) h dX6_findsCarried_69 3 rfl rfl ?_
        refine v_iadd (pc := 70) h dX6_findsCarried_70 ?_
        refine v_iload_n (pc := 71) h dX6_findsCarried_71 1 rfl rfl ?_
        refine v_icmp_gt (pc := 72) (t := 135) h dX6_findsCarried_72 rfl (fun _ => ?_) (fun _ => ?_)
        · refine v_iinc (pc := 135) h dX6_findsCarried_135 4 rfl (w := (i4_9 + (-1 : Int32))) rfl (by decide) (lv' := [(4, .int (i4_9 + (-1 : Int32))), (0, .ref mo), (1, .int a1), (2, .int i2_4), (3, .int v8), (5, .int i5_12)]) rfl ?_
          refine v_goto (pc := 138) (t := 59) h dX6_findsCarried_138 rfl ?_
          refine v_sub [1, 2, 3, 4, 0] rfl ?_
          exact hX11 (i4_9 + (-1 : Int32)) I13
        · refine v_aload_n (pc := 75) h dX6_findsCarried_75 0 rfl rfl ?_
          refine v_getp (pc := 76) h dX6_findsCarried_76 fX6_89 rfl hM.1 (mA_48 hM).1 ?_
          refine v_sipush (pc := 79) h dX6_findsCarried_79 (v := 401) rfl ?_
          refine v_iload (pc := 82) h dX6_findsCarried_82 4 rfl ?_
          refine v_iconst (pc := 84) h dX6_findsCarried_84 (v := 1) rfl ?_
          refine v_iadd (pc := 85) h dX6_findsCarried_85 ?_
          refine v_imul (pc := 86) h dX6_findsCarried_86 ?_
          refine v_iload (pc := 87) h dX6_findsCarried_87 5 rfl ?_
          refine v_iadd (pc := 89) h dX6_findsCarried_89 ?_
          refine v_iload_n (pc := 90) h dX6_findsCarried_90 3 rfl rfl ?_
          refine v_iadd (pc := 91) h dX6_findsCarried_91 ?_
          refine v_aload_n (pc := 92) h dX6_findsCarried_92 0 rfl rfl ?_
          refine v_aload_n (pc := 93) h dX6_findsCarried_93 0 rfl rfl ?_
          refine v_getp (pc := 94) h dX6_findsCarried_94 fX6_89 rfl hM.1 (mA_48 hM).1 ?_
          refine v_sipush (pc := 97) h dX6_findsCarried_97 (v := 401) rfl ?_
          refine v_iload (pc := 100) h dX6_findsCarried_100 4 rfl ?_
          refine v_iconst (pc := 102) h dX6_findsCarried_102 (v := 1) rfl ?_
          refine v_iadd (pc := 103) h dX6_findsCarried_103 ?_
          refine v_imul (pc := 104) h dX6_findsCarried_104 ?_
          refine v_iload (pc := 105) h dX6_findsCarried_105 5 rfl ?_
          refine v_iadd (pc := 107) h dX6_findsCarried_107 ?_
          refine v_iload_n (pc := 108) h dX6_findsCarried_108 3 rfl rfl ?_
          refine v_iadd (pc := 109) h dX6_findsCarried_109 ?_
          refine v_iald (pc := 110) h dX6_findsCarried_110 (mA_48 hM).2.1 (mA_48 hM).2.2 ?_
          refine v_aload_n (pc := 111) h dX6_findsCarried_111 0 rfl rfl ?_
          refine v_getp (pc := 112) h dX6_findsCarried_112 fX6_89 rfl hM.1 (mA_48 hM).1 ?_
          refine v_sipush (pc := 115) h dX6_findsCarried_115 (v := 401) rfl ?_
          refine v_iload (pc := 118) h dX6_findsCarried_118 4 rfl ?_
          refine v_imul (pc := 120) h dX6_findsCarried_120 ?_
          refine v_iload (pc := 121) h dX6_findsCarried_121 5 rfl ?_
          refine v_iadd (pc := 123) h dX6_findsCarried_123 ?_
          refine v_iald (pc := 124) h dX6_findsCarried_124 (mA_48 hM).2.1 (mA_48 hM).2.2 ?_
          refine v_callp (pc := 125) h dX6_findsCarried_125 kX6_430 rfl hM.1 (tX6_added hM (I13 (mo + 26) ((((401 : Int32) * (i4_9 + (1 : Int32))) + i5_12) + v8).toNatClampNeg) (I13 (mo + 26) (((401 : Int32) * i4_9) + i5_12).toNatClampNeg) I13) (by decide) rfl rfl (Nat.le_of_ble_eq_true rfl) rfl (fun r15 => ?_)
          refine v_iast (pc := 128) h dX6_findsCarried_128 (mA_48 hM).2.1 (mA_48 hM).2.2 ?_
          refine v_nmI (fun I16 => ?_)
          refine v_iinc (pc := 129) h dX6_findsCarried_129 5 rfl (w := (i5_12 + (1 : Int32))) rfl (by decide) (lv' := [(5, .int (i5_12 + (1 : Int32))), (0, .ref mo), (1, .int a1), (2, .int i2_4), (3, .int v8), (4, .int i4_9)]) rfl ?_
          refine v_goto (pc := 132) (t := 67) h dX6_findsCarried_132 rfl ?_
          refine v_sub [1, 2, 3, 4, 5, 0] rfl ?_
          exact hX14 (i5_12 + (1 : Int32)) I16
  · refine v_aload_n (pc := 9) h dX6_findsCarried_9 0 rfl rfl ?_
    refine v_getp (pc := 10) h dX6_findsCarried_10 fX6_89 rfl hM.1 (mA_48 hM).1 ?_
    refine v_iload_n (pc := 13) h dX6_findsCarried_13 2 rfl rfl ?_
    refine v_iload_n (pc := 14) h dX6_findsCarried_14 2 rfl rfl ?_
    refine v_jn1 (fun t17 => V g x 6 (0, 0) 23 [(0, .ref mo), (1, .int a1), (2, .int i2_1)] [.int t17, .int i2_1, .ref (mo + 26)] I2 r) (fun k18 hk18 => ?_) (fun t17 => ?_)
    · refine v_if_ne (pc := 15) (t := 22) h dX6_findsCarried_15 rfl (fun _ => ?_) (fun _ => ?_)
      · refine v_iconst (pc := 22) h dX6_findsCarried_22 (v := 0) rfl ?_
        exact hk18 (0 : Int32)
      · refine v_iconst (pc := 18) h dX6_findsCarried_18 (v := 1) rfl ?_
        refine v_goto (pc := 19) (t := 23) h dX6_findsCarried_19 rfl ?_
        exact hk18 (1 : Int32)
    · refine v_iast (pc := 23) h dX6_findsCarried_23 (mA_48 hM).2.1 (mA_48 hM).2.2 ?_
      refine v_nmI (fun I19 => ?_)
      refine v_iinc (pc := 24) h dX6_findsCarried_24 2 rfl (w := (i2_1 + (1 : Int32))) rfl (by decide) (lv' := [(2, .int (i2_1 + (1 : Int32))), (0, .ref mo), (1, .int a1)]) rfl ?_
      refine v_goto (pc := 27) (t := 2) h dX6_findsCarried_27 rfl ?_
      refine v_sub [1, 2, 0] rfl ?_
      exact hX3 (i2_1 + (1 : Int32)) I19
set_option maxHeartbeats 4000000 in
theorem tX6_carries {g : Gl} {mo : Nat} {r : Rh} (hM : MStr mo r) (a1 : Int32) (a2 : Int32) (I : MI) : CtI g yX6_carries cX6_carries 7 (some .int) 2 [.ref mo, .int a1, .int a2] I r (pX6_carries mo a1 a2 I) := by
  refine CtI.mk (lv := [(0, .ref mo), (1, .int a1), (2, .int a2)]) (by decide) (Nat.le_of_ble_eq_true rfl) rfl (fun x Q h hr => ?_)
  unfold pX6_carries
  refine v_aload_n (pc := 0) h dX6_carries_0 0 rfl rfl ?_
  refine v_iconst (pc := 1) h dX6_carries_1 (v := 0) rfl ?_
  refine v_puti (pc := 2) h dX6_carries_2 fX6_116 rfl hM.1 ?_
  refine v_nmI (fun I1 => ?_)
  refine v_aload_n (pc := 5) h dX6_carries_5 0 rfl rfl ?_
  refine v_iload_n (pc := 6) h dX6_carries_6 1 rfl rfl ?_
  refine v_iconst (pc := 7) h dX6_carries_7 (v := 1) rfl ?_
  refine v_sipush (pc := 8) h dX6_carries_8 (v := 400) rfl ?_
  refine v_callp (pc := 11) h dX6_carries_11 kX6_143 rfl hM.1 (tX6_isIn hM a1 (1 : Int32) (400 : Int32) I1) (by decide) rfl rfl (Nat.le_of_ble_eq_true rfl) rfl (fun r2 => ?_)
  refine v_if_eq (pc := 14) (t := 27) h dX6_carries_14 rfl (fun _ => ?_) (fun _ => ?_)
  · refine v_iconst (pc := 27) h dX6_carries_27 (v := (-1)) rfl ?_
    exact v_iret (pc := 28) h hr dX6_carries_28
  · refine v_aload_n (pc := 17) h dX6_carries_17 0 rfl rfl ?_
    refine v_iload_n (pc := 18) h dX6_carries_18 2 rfl rfl ?_
    refine v_iconst (pc := 19) h dX6_carries_19 (v := 0) rfl ?_
    refine v_iconst (pc := 20) h dX6_carries_20 (v := 1) rfl ?_
    refine v_callp (pc := 21) h dX6_carries_21 kX6_143 rfl hM.1 (tX6_isIn hM a2 (0 : Int32) (1 : Int32) I1) (by decide) rfl rfl (Nat.le_of_ble_eq_true rfl) rfl (fun r3 => ?_)
    refine v_if_ne (pc := 24) (t := 29) h dX6_carries_24 rfl (fun _ => ?_) (fun _ => ?_)
    · refine v_iconst (pc := 29) h dX6_carries_29 (v := 0) rfl ?_
      refine v_istore_n (pc := 30) h dX6_carries_30 rfl (by decide) (lv' := [(3, .int (0 : Int32)), (0, .ref mo), (1, .int a1), (2, .int a2)]) rfl ?_
      refine v_iconst (pc := 31) h dX6_carries_31 (v := 0) rfl ?_
      refine v_istore (pc := 32) h dX6_carries_32 (by decide) (lv' := [(4, .int (0 : Int32)), (3, .int (0 : Int32)), (0, .ref mo), (1, .int a1), (2, .int a2)]) rfl ?_
      refine v_iconst (pc := 34) h dX6_carries_34 (v := 1) rfl ?_
      refine v_istore (pc := 35) h dX6_carries_35 (by decide) (lv' := [(5, .int (1 : Int32)), (4, .int (0 : Int32)), (3, .int (0 : Int32)), (0, .ref mo), (1, .int a1), (2, .int a2)]) rfl ?_
      refine v_sub [3, 4, 5, 2, 1, 0] rfl ?_
      refine L3.run (lv := fun i3_4 i4_5 i5_6 => [(0, .ref mo), (1, .int a1), (2, .int a2), (3, .int i3_4), (4, .int i4_5), (5, .int i5_6)]) (st := fun i3_4 i4_5 i5_6 => []) (Im := fun i3_4 i4_5 i5_6 => I1) (r := fun i3_4 i4_5 i5_6 => r) (fun X7 hX7 i3_4 i4_5 i5_6 => ?_) (0 : Int32) (0 : Int32) (1 : Int32)
      refine v_iload (pc := 37) h dX6_carries_37 5 rfl ?_
      refine v_bipush (pc := 39) h dX6_carries_39 (v := 99) rfl ?_
      refine v_icmp_gt (pc := 41) (t := 112) h dX6_carries_41 rfl (fun _ => ?_) (fun _ => ?_)
      · refine v_iload_n (pc := 112) h dX6_carries_112 2 rfl rfl ?_
        refine v_if_ne (pc := 113) (t := 118) h dX6_carries_113 rfl (fun _ => ?_) (fun _ => ?_)
        · refine v_aload_n (pc := 118) h dX6_carries_118 0 rfl rfl ?_
          refine v_iload_n (pc := 119) h dX6_carries_119 1 rfl rfl ?_
          refine v_callv (pc := 120) h dX6_carries_120 kX6_433 rfl hM.1 (tX6_findsCarried hM a1 I1) (by decide) rfl rfl (Nat.le_of_ble_eq_true rfl) rfl (fun I8 => ?_)
          refine v_iconst (pc := 123) h dX6_carries_123 (v := 0) rfl ?_
          refine v_istore (pc := 124) h dX6_carries_124 (by decide) (lv' := [(5, .int (0 : Int32)), (0, .ref mo), (1, .int a1), (2, .int a2), (3, .int i3_4), (4, .int i4_5)]) rfl ?_
          refine v_iconst (pc := 126) h dX6_carries_126 (v := 0) rfl ?_
          refine v_istore (pc := 127) h dX6_carries_127 (by decide) (lv' := [(6, .int (0 : Int32)), (5, .int (0 : Int32)), (0, .ref mo), (1, .int a1), (2, .int a2), (3, .int i3_4), (4, .int i4_5)]) rfl ?_
          refine v_sub [2, 3, 5, 1, 0] rfl ?_
          refine L2.run (lv := fun i5_9 i6_10 => [(0, .ref mo), (1, .int a1), (3, .int i3_4), (5, .int i5_9), (6, .int i6_10)]) (st := fun i5_9 i6_10 => []) (Im := fun i5_9 i6_10 => I8) (r := fun i5_9 i6_10 => r) (fun X11 hX11 i5_9 i6_10 => ?_) (0 : Int32) (0 : Int32)
          refine v_iload (pc := 129) h dX6_carries_129 4 rfl ?_
          refine v_iload_n (pc := 131) h dX6_carries_131 1 rfl rfl ?_
          refine v_icmp_gt (pc := 132) (t := 162) h dX6_carries_132 rfl (fun _ => ?_) (fun _ => ?_)
          · refine v_iload (pc := 162) h dX6_carries_162 3 rfl ?_
            exact v_iret (pc := 164) h hr dX6_carries_164
          · refine v_aload_n (pc := 135) h dX6_carries_135 0 rfl rfl ?_
            refine v_iload (pc := 136) h dX6_carries_136 3 rfl ?_
            refine v_aload_n (pc := 138) h dX6_carries_138 0 rfl rfl ?_
            refine v_getp (pc := 139) h dX6_carries_139 fX6_89 rfl hM.1 (mA_48 hM).1 ?_
            refine v_sipush (pc := 142) h dX6_carries_142 (v := 401) rfl ?_
            refine v_iload_n (pc := 145) h dX6_carries_145 2 rfl rfl ?_
            refine v_imul (pc := 146) h dX6_carries_146 ?_
            refine v_iload (pc := 147) h dX6_carries_147 4 rfl ?_
            refine v_iadd (pc := 149) h dX6_carries_149 ?_
            refine v_iald (pc := 150) h dX6_carries_150 (mA_48 hM).2.1 (mA_48 hM).2.2 ?_
            refine v_callp (pc := 151) h dX6_carries_151 kX6_430 rfl hM.1 (tX6_added hM i5_9 (I8 (mo + 26) (((401 : Int32) * i3_4) + i6_10).toNatClampNeg) I8) (by decide) rfl rfl (Nat.le_of_ble_eq_true rfl) rfl (fun r12 => ?_)
            refine v_istore (pc := 154) h dX6_carries_154 (by decide) (lv' := [(5, .int r12), (0, .ref mo), (1, .int a1), (3, .int i3_4), (6, .int i6_10)]) rfl ?_
            refine v_iinc (pc := 156) h dX6_carries_156 4 rfl (w := (i6_10 + (1 : Int32))) rfl (by decide) (lv' := [(6, .int (i6_10 + (1 : Int32))), (5, .int r12), (0, .ref mo), (1, .int a1), (3, .int i3_4)]) rfl ?_
            refine v_goto (pc := 159) (t := 129) h dX6_carries_159 rfl ?_
            refine v_sub [2, 3, 4, 1, 0] rfl ?_
            exact hX11 r12 (i6_10 + (1 : Int32))
        · refine v_iload_n (pc := 116) h dX6_carries_116 3 rfl rfl ?_
          exact v_iret (pc := 117) h hr dX6_carries_117
      · refine v_iconst (pc := 44) h dX6_carries_44 (v := 0) rfl ?_
        refine v_istore (pc := 45) h dX6_carries_45 (by decide) (lv' := [(6, .int (0 : Int32)), (0, .ref mo), (1, .int a1), (2, .int a2), (3, .int i3_4), (4, .int i4_5), (5, .int i5_6)]) rfl ?_
        refine v_sub [1, 2, 3, 4, 5, 6, 0] rfl ?_
        refine L3.run (lv := fun i3_13 i4_14 i6_15 => [(0, .ref mo), (1, .int a1), (2, .int a2), (3, .int i3_13), (4, .int i4_14), (5, .int i5_6), (6, .int i6_15)]) (st := fun i3_13 i4_14 i6_15 => []) (Im := fun i3_13 i4_14 i6_15 => I1) (r := fun i3_13 i4_14 i6_15 => r) (fun X16 hX16 i3_13 i4_14 i6_15 => ?_) i3_4 i4_5 (0 : Int32)
        refine v_iload (pc := 47) h dX6_carries_47 6 rfl ?_
        refine v_aload_n (pc := 49) h dX6_carries_49 0 rfl rfl ?_
        refine v_getp (pc := 50) h dX6_carries_50 fX6_7 rfl hM.1 (mA_1 hM).1 ?_
        refine v_bipush (pc := 53) h dX6_carries_53 (v := 10) rfl ?_
        refine v_ialdL (pc := 55) h dX6_carries_55 (mA_1 hM).2.1 (mA_1 hM).2.2 (vpd rfl) (k := 10) rfl ?_
        refine v_icmp_ge (pc := 56) (t := 106) h dX6_carries_56 rfl (fun _ => ?_) (fun _ => ?_)
        · refine v_iinc (pc := 106) h dX6_carries_106 5 rfl (w := (i5_6 + (1 : Int32))) rfl (by decide) (lv' := [(5, .int (i5_6 + (1 : Int32))), (0, .ref mo), (1, .int a1), (2, .int a2), (3, .int i3_13), (4, .int i4_14), (6, .int i6_15)]) rfl ?_
          refine v_goto (pc := 109) (t := 37) h dX6_carries_109 rfl ?_
          refine v_sub [1, 2, 3, 4, 5, 0] rfl ?_
          exact hX7 i3_13 i4_14 (i5_6 + (1 : Int32))
        · refine v_aload_n (pc := 59) h dX6_carries_59 0 rfl rfl ?_
          refine v_getp (pc := 60) h dX6_carries_60 fX6_7 rfl hM.1 (mA_1 hM).1 ?_
          refine v_aload_n (pc := 63) h dX6_carries_63 0 rfl rfl ?_
          refine v_iload (pc := 64) h dX6_carries_64 6 rfl ?_
          refine v_callp (pc := 66) h dX6_carries_66 kX6_136 rfl hM.1 (tX6_letterAt hM i6_15 I1) (by decide) rfl rfl (Nat.le_of_ble_eq_true rfl) rfl (fun r17 => ?_)
          refine v_iconst (pc := 69) h dX6_carries_69 (v := 3) rfl ?_
          refine v_iadd (pc := 70) h dX6_carries_70 ?_
          refine v_iald (pc := 71) h dX6_carries_71 (mA_1 hM).2.1 (mA_1 hM).2.2 ?_
          refine v_iload (pc := 72) h dX6_carries_72 5 rfl ?_
          refine v_jn2 (fun v3_18 v4_19 => V g x 7 (0, 0) 100 [(0, .ref mo), (1, .int a1), (2, .int a2), (3, .int v3_18), (4, .int v4_19), (5, .int i5_6), (6, .int i6_15)] [] I1 r) (fun k20 hk20 => ?_) (fun v3_18 v4_19 => ?_)
          · refine v_icmp_ne (pc := 74) (t := 100) h dX6_carries_74 rfl (fun _ => ?_) (fun _ => ?_)
            · exact hk20 i3_13 i4_14
            · refine v_iload (pc := 77) h dX6_carries_77 4 rfl ?_
              refine v_iload (pc := 79) h dX6_carries_79 5 rfl ?_
              refine v_iadd (pc := 81) h dX6_carries_81 ?_
              refine v_iload_n (pc := 82) h dX6_carries_82 1 rfl rfl ?_
              refine v_icmp_le (pc := 83) (t := 89) h dX6_carries_83 rfl (fun _ => ?_) (fun _ => ?_)
              · refine v_iload (pc := 89) h dX6_carries_89 4 rfl ?_
                refine v_iload (pc := 91) h dX6_carries_91 5 rfl ?_
                refine v_iadd (pc := 93) h dX6_carries_93 ?_
                refine v_nmi (fun v21 => ?_)
                refine v_istore (pc := 94) h dX6_carries_94 (by decide) (lv' := [(4, .int v21), (0, .ref mo), (1, .int a1), (2, .int a2), (3, .int i3_13), (5, .int i5_6), (6, .int i6_15)]) rfl ?_
                refine v_iload_n (pc := 96) h dX6_carries_96 4 rfl rfl ?_
                refine v_iconst (pc := 97) h dX6_carries_97 (v := 1) rfl ?_
                refine v_iadd (pc := 98) h dX6_carries_98 ?_
                refine v_nmi (fun v22 => ?_)
                refine v_istore_n (pc := 99) h dX6_carries_99 rfl (by decide) (lv' := [(3, .int v22), (4, .int v21), (0, .ref mo), (1, .int a1), (2, .int a2), (5, .int i5_6), (6, .int i6_15)]) rfl ?_
                refine v_sub [2, 3, 4, 0, 1, 5, 6] rfl ?_
                exact hk20 v22 v21
              · refine v_goto (pc := 86) (t := 100) h dX6_carries_86 rfl ?_
                exact hk20 i3_13 i4_14
          · refine v_iinc (pc := 100) h dX6_carries_100 6 rfl (w := (i6_15 + (1 : Int32))) rfl (by decide) (lv' := [(6, .int (i6_15 + (1 : Int32))), (0, .ref mo), (1, .int a1), (2, .int a2), (3, .int v3_18), (4, .int v4_19), (5, .int i5_6)]) rfl ?_
            refine v_goto (pc := 103) (t := 47) h dX6_carries_103 rfl ?_
            refine v_sub [1, 2, 3, 4, 5, 6, 0] rfl ?_
            exact hX16 v3_18 v4_19 (i6_15 + (1 : Int32))
    · refine v_iconst (pc := 27) h dX6_carries_27 (v := (-1)) rfl ?_
      exact v_iret (pc := 28) h hr dX6_carries_28
set_option maxHeartbeats 4000000 in
theorem tX6_owes {g : Gl} {mo : Nat} {r : Rh} (hM : MStr mo r) (a1 : Int32) (a2 : Int32) (a3 : Int32) (I : MI) : CtI g yX6_owes cX6_owes 5 (some .int) 1 [.ref mo, .int a1, .int a2, .int a3] I r (pX6_owes mo a1 a2 a3 I) := by
  refine CtI.mk (lv := [(0, .ref mo), (1, .int a1), (2, .int a2), (3, .int a3)]) (by decide) (Nat.le_of_ble_eq_true rfl) rfl (fun x Q h hr => ?_)
  unfold pX6_owes
  refine v_aload_n (pc := 0) h dX6_owes_0 0 rfl rfl ?_
  refine v_iconst (pc := 1) h dX6_owes_1 (v := 0) rfl ?_
  refine v_puti (pc := 2) h dX6_owes_2 fX6_116 rfl hM.1 ?_
  refine v_nmI (fun I1 => ?_)
  refine v_iload_n (pc := 5) h dX6_owes_5 1 rfl rfl ?_
  refine v_iconst (pc := 6) h dX6_owes_6 (v := (-1)) rfl ?_
  refine v_icmp_ne (pc := 7) (t := 41) h dX6_owes_7 rfl (fun _ => ?_) (fun _ => ?_)
  · refine v_aload_n (pc := 41) h dX6_owes_41 0 rfl rfl ?_
    refine v_iload_n (pc := 42) h dX6_owes_42 1 rfl rfl ?_
    refine v_iconst (pc := 43) h dX6_owes_43 (v := 0) rfl ?_
    refine v_bipush (pc := 44) h dX6_owes_44 (v := 11) rfl ?_
    refine v_callp (pc := 46) h dX6_owes_46 kX6_143 rfl hM.1 (tX6_isIn hM a1 (0 : Int32) (11 : Int32) I1) (by decide) rfl rfl (Nat.le_of_ble_eq_true rfl) rfl (fun r2 => ?_)
    refine v_if_eq (pc := 49) (t := 88) h dX6_owes_49 rfl (fun _ => ?_) (fun _ => ?_)
    · refine v_iconst (pc := 88) h dX6_owes_88 (v := (-1)) rfl ?_
      exact v_iret (pc := 89) h hr dX6_owes_89
    · refine v_aload_n (pc := 52) h dX6_owes_52 0 rfl rfl ?_
      refine v_iload_n (pc := 53) h dX6_owes_53 2 rfl rfl ?_
      refine v_iconst (pc := 54) h dX6_owes_54 (v := 0) rfl ?_
      refine v_bipush (pc := 55) h dX6_owes_55 (v := 11) rfl ?_
      refine v_callp (pc := 57) h dX6_owes_57 kX6_143 rfl hM.1 (tX6_isIn hM a2 (0 : Int32) (11 : Int32) I1) (by decide) rfl rfl (Nat.le_of_ble_eq_true rfl) rfl (fun r3 => ?_)
      refine v_if_eq (pc := 60) (t := 88) h dX6_owes_60 rfl (fun _ => ?_) (fun _ => ?_)
      · refine v_iconst (pc := 88) h dX6_owes_88 (v := (-1)) rfl ?_
        exact v_iret (pc := 89) h hr dX6_owes_89
      · refine v_iload_n (pc := 63) h dX6_owes_63 1 rfl rfl ?_
        refine v_iload_n (pc := 64) h dX6_owes_64 2 rfl rfl ?_
        refine v_icmp_eq (pc := 65) (t := 88) h dX6_owes_65 rfl (fun _ => ?_) (fun _ => ?_)
        · refine v_iconst (pc := 88) h dX6_owes_88 (v := (-1)) rfl ?_
          exact v_iret (pc := 89) h hr dX6_owes_89
        · refine v_aload_n (pc := 68) h dX6_owes_68 0 rfl rfl ?_
          refine v_iload_n (pc := 69) h dX6_owes_69 3 rfl rfl ?_
          refine v_iconst (pc := 70) h dX6_owes_70 (v := 1) rfl ?_
          refine v_bipush (pc := 71) h dX6_owes_71 (v := 99) rfl ?_
          refine v_callp (pc := 73) h dX6_owes_73 kX6_143 rfl hM.1 (tX6_isIn hM a3 (1 : Int32) (99 : Int32) I1) (by decide) rfl rfl (Nat.le_of_ble_eq_true rfl) rfl (fun r4 => ?_)
          refine v_if_eq (pc := 76) (t := 88) h dX6_owes_76 rfl (fun _ => ?_) (fun _ => ?_)
          · refine v_iconst (pc := 88) h dX6_owes_88 (v := (-1)) rfl ?_
            exact v_iret (pc := 89) h hr dX6_owes_89
          · refine v_aload_n (pc := 79) h dX6_owes_79 0 rfl rfl ?_
            refine v_geti (pc := 80) h dX6_owes_80 fX6_436 rfl hM.1 ?_
            refine v_bipush (pc := 83) h dX6_owes_83 (v := 16) rfl ?_
            refine v_icmp_ne (pc := 85) (t := 90) h dX6_owes_85 rfl (fun _ => ?_) (fun _ => ?_)
            · refine v_aload_n (pc := 90) h dX6_owes_90 0 rfl rfl ?_
              refine v_getp (pc := 91) h dX6_owes_91 fX6_92 rfl hM.1 (mA_50 hM).1 ?_
              refine v_iload_n (pc := 94) h dX6_owes_94 1 rfl rfl ?_
              refine v_aload_n (pc := 95) h dX6_owes_95 0 rfl rfl ?_
              refine v_getp (pc := 96) h dX6_owes_96 fX6_92 rfl hM.1 (mA_50 hM).1 ?_
              refine v_iload_n (pc := 99) h dX6_owes_99 1 rfl rfl ?_
              refine v_iald (pc := 100) h dX6_owes_100 (mA_50 hM).2.1 (mA_50 hM).2.2 ?_
              refine v_iload_n (pc := 101) h dX6_owes_101 3 rfl rfl ?_
              refine v_isub (pc := 102) h dX6_owes_102 ?_
              refine v_iast (pc := 103) h dX6_owes_103 (mA_50 hM).2.1 (mA_50 hM).2.2 ?_
              refine v_nmI (fun I5 => ?_)
              refine v_aload_n (pc := 104) h dX6_owes_104 0 rfl rfl ?_
              refine v_getp (pc := 105) h dX6_owes_105 fX6_92 rfl hM.1 (mA_50 hM).1 ?_
              refine v_iload_n (pc := 108) h dX6_owes_108 2 rfl rfl ?_
              refine v_aload_n (pc := 109) h dX6_owes_109 0 rfl rfl ?_
              refine v_getp (pc := 110) h dX6_owes_110 fX6_92 rfl hM.1 (mA_50 hM).1 ?_
              refine v_iload_n (pc := 113) h dX6_owes_113 2 rfl rfl ?_
              refine v_iald (pc := 114) h dX6_owes_114 (mA_50 hM).2.1 (mA_50 hM).2.2 ?_
              refine v_iload_n (pc := 115) h dX6_owes_115 3 rfl rfl ?_
              refine v_iadd (pc := 116) h dX6_owes_116 ?_
              refine v_iast (pc := 117) h dX6_owes_117 (mA_50 hM).2.1 (mA_50 hM).2.2 ?_
              refine v_nmI (fun I6 => ?_)
              refine v_aload_n (pc := 118) h dX6_owes_118 0 rfl rfl ?_
              refine v_aload_n (pc := 119) h dX6_owes_119 0 rfl rfl ?_
              refine v_geti (pc := 120) h dX6_owes_120 fX6_436 rfl hM.1 ?_
              refine v_iconst (pc := 123) h dX6_owes_123 (v := 1) rfl ?_
              refine v_iadd (pc := 124) h dX6_owes_124 ?_
              refine v_puti (pc := 125) h dX6_owes_125 fX6_436 rfl hM.1 ?_
              refine v_nmI (fun I7 => ?_)
              refine v_aload_n (pc := 128) h dX6_owes_128 0 rfl rfl ?_
              refine v_geti (pc := 129) h dX6_owes_129 fX6_436 rfl hM.1 ?_
              exact v_iret (pc := 132) h hr dX6_owes_132
            · refine v_iconst (pc := 88) h dX6_owes_88 (v := (-1)) rfl ?_
              exact v_iret (pc := 89) h hr dX6_owes_89
  · refine v_aload_n (pc := 10) h dX6_owes_10 0 rfl rfl ?_
    refine v_iconst (pc := 11) h dX6_owes_11 (v := 0) rfl ?_
    refine v_puti (pc := 12) h dX6_owes_12 fX6_436 rfl hM.1 ?_
    refine v_nmI (fun I8 => ?_)
    refine v_iconst (pc := 15) h dX6_owes_15 (v := 0) rfl ?_
    refine v_istore (pc := 16) h dX6_owes_16 (by decide) (lv' := [(4, .int (0 : Int32)), (0, .ref mo), (1, .int a1), (2, .int a2), (3, .int a3)]) rfl ?_
    refine v_sub [1, 0] rfl ?_
    refine L2.run (lv := fun i4_9 I10 => [(0, .ref mo), (4, .int i4_9)]) (st := fun i4_9 I10 => []) (Im := fun i4_9 I10 => I10) (r := fun i4_9 I10 => r) (fun X11 hX11 i4_9 I10 => ?_) (0 : Int32) I8
    refine v_iload (pc := 18) h dX6_owes_18 1 rfl ?_
    refine v_bipush (pc := 20) h dX6_owes_20 (v := 12) rfl ?_
    refine v_icmp_ge (pc := 22) (t := 39) h dX6_owes_22 rfl (fun _ => ?_) (fun _ => ?_)
    · refine v_iconst (pc := 39) h dX6_owes_39 (v := 0) rfl ?_
      exact v_iret (pc := 40) h hr dX6_owes_40
    · refine v_aload_n (pc := 25) h dX6_owes_25 0 rfl rfl ?_
      refine v_getp (pc := 26) h dX6_owes_26 fX6_92 rfl hM.1 (mA_50 hM).1 ?_
      refine v_iload (pc := 29) h dX6_owes_29 1 rfl ?_
      refine v_iconst (pc := 31) h dX6_owes_31 (v := 0) rfl ?_
      refine v_iast (pc := 32) h dX6_owes_32 (mA_50 hM).2.1 (mA_50 hM).2.2 ?_
      refine v_nmI (fun I12 => ?_)
      refine v_iinc (pc := 33) h dX6_owes_33 1 rfl (w := (i4_9 + (1 : Int32))) rfl (by decide) (lv' := [(4, .int (i4_9 + (1 : Int32))), (0, .ref mo)]) rfl ?_
      refine v_goto (pc := 36) (t := 18) h dX6_owes_36 rfl ?_
      refine v_sub [1, 0] rfl ?_
      exact hX11 (i4_9 + (1 : Int32)) I12
set_option maxHeartbeats 4000000 in
theorem tX6_netOf {g : Gl} {mo : Nat} {r : Rh} (hM : MStr mo r) (a1 : Int32) (I : MI) : CtP g yX6_netOf cX6_netOf 4 (some .int) 1 [.ref mo, .int a1] I r (pX6_netOf mo a1 I) := by
  refine CtP.mk (lv := [(0, .ref mo), (1, .int a1)]) (by decide) (Nat.le_of_ble_eq_true rfl) rfl (fun x Q h hr => ?_)
  unfold pX6_netOf
  refine v_iconst (pc := 0) h dX6_netOf_0 (v := 0) rfl ?_
  refine v_istore_n (pc := 1) h dX6_netOf_1 rfl (by decide) (lv' := [(2, .int (0 : Int32)), (0, .ref mo), (1, .int a1)]) rfl ?_
  refine v_iconst (pc := 2) h dX6_netOf_2 (v := 0) rfl ?_
  refine v_istore_n (pc := 3) h dX6_netOf_3 rfl (by decide) (lv' := [(3, .int (0 : Int32)), (2, .int (0 : Int32)), (0, .ref mo), (1, .int a1)]) rfl ?_
  refine v_sub [2, 3, 1, 0] rfl ?_
  refine L2.run (lv := fun i2_1 i3_2 => [(0, .ref mo), (1, .int a1), (2, .int i2_1), (3, .int i3_2)]) (st := fun i2_1 i3_2 => []) (Im := fun i2_1 i3_2 => I) (r := fun i2_1 i3_2 => r) (fun X3 hX3 i2_1 i3_2 => ?_) (0 : Int32) (0 : Int32)
  refine v_iload_n (pc := 4) h dX6_netOf_4 3 rfl rfl ?_
  refine v_bipush (pc := 5) h dX6_netOf_5 (v := 12) rfl ?_
  refine v_icmp_ge (pc := 7) (t := 34) h dX6_netOf_7 rfl (fun _ => ?_) (fun _ => ?_)
  · refine v_iload_n (pc := 34) h dX6_netOf_34 2 rfl rfl ?_
    exact v_iretP (pc := 35) h hr dX6_netOf_35
  · refine v_aload_n (pc := 10) h dX6_netOf_10 0 rfl rfl ?_
    refine v_iload_n (pc := 11) h dX6_netOf_11 1 rfl rfl ?_
    refine v_iload_n (pc := 12) h dX6_netOf_12 3 rfl rfl ?_
    refine v_callp (pc := 13) h dX6_netOf_13 kX6_377 rfl hM.1 (tX6_lies hM a1 i3_2 I) (by decide) rfl rfl (Nat.le_of_ble_eq_true rfl) rfl (fun r4 => ?_)
    refine v_jn1 (fun v2_5 => V g x 4 (0, 0) 28 [(0, .ref mo), (1, .int a1), (2, .int v2_5), (3, .int i3_2)] [] I r) (fun k6 hk6 => ?_) (fun v2_5 => ?_)
    · refine v_if_eq (pc := 16) (t := 28) h dX6_netOf_16 rfl (fun _ => ?_) (fun _ => ?_)
      · exact hk6 i2_1
      · refine v_iload_n (pc := 19) h dX6_netOf_19 2 rfl rfl ?_
        refine v_aload_n (pc := 20) h dX6_netOf_20 0 rfl rfl ?_
        refine v_getp (pc := 21) h dX6_netOf_21 fX6_92 rfl hM.1 (mA_50 hM).1 ?_
        refine v_iload_n (pc := 24) h dX6_netOf_24 3 rfl rfl ?_
        refine v_iald (pc := 25) h dX6_netOf_25 (mA_50 hM).2.1 (mA_50 hM).2.2 ?_
        refine v_iadd (pc := 26) h dX6_netOf_26 ?_
        refine v_nmi (fun v7 => ?_)
        refine v_istore_n (pc := 27) h dX6_netOf_27 rfl (by decide) (lv' := [(2, .int v7), (0, .ref mo), (1, .int a1), (3, .int i3_2)]) rfl ?_
        refine v_sub [1, 2, 0, 3] rfl ?_
        exact hk6 v7
    · refine v_iinc (pc := 28) h dX6_netOf_28 3 rfl (w := (i3_2 + (1 : Int32))) rfl (by decide) (lv' := [(3, .int (i3_2 + (1 : Int32))), (0, .ref mo), (1, .int a1), (2, .int v2_5)]) rfl ?_
      refine v_goto (pc := 31) (t := 4) h dX6_netOf_31 rfl ?_
      refine v_sub [1, 2, 3, 0] rfl ?_
      exact hX3 v2_5 (i3_2 + (1 : Int32))
set_option maxHeartbeats 4000000 in
theorem tX6_onesOf {g : Gl} {mo : Nat} {r : Rh} (hM : MStr mo r) (a1 : Int32) (I : MI) : CtP g yX6_onesOf cX6_onesOf 4 (some .int) 0 [.ref mo, .int a1] I r (pX6_onesOf mo a1 I) := by
  refine CtP.mk (lv := [(0, .ref mo), (1, .int a1)]) (by decide) (Nat.le_of_ble_eq_true rfl) rfl (fun x Q h hr => ?_)
  unfold pX6_onesOf
  refine v_iconst (pc := 0) h dX6_onesOf_0 (v := 0) rfl ?_
  refine v_istore_n (pc := 1) h dX6_onesOf_1 rfl (by decide) (lv' := [(2, .int (0 : Int32)), (0, .ref mo), (1, .int a1)]) rfl ?_
  refine v_iload_n (pc := 2) h dX6_onesOf_2 2 rfl rfl ?_
  refine v_istore_n (pc := 3) h dX6_onesOf_3 rfl (by decide) (lv' := [(3, .int a1), (2, .int (0 : Int32)), (0, .ref mo), (1, .int a1)]) rfl ?_
  refine v_sub [1, 0] rfl ?_
  refine L2.run (lv := fun i2_1 i3_2 => [(2, .int i2_1), (3, .int i3_2)]) (st := fun i2_1 i3_2 => []) (Im := fun i2_1 i3_2 => I) (r := fun i2_1 i3_2 => r) (fun X3 hX3 i2_1 i3_2 => ?_) (0 : Int32) a1
  refine v_iload_n (pc := 4) h dX6_onesOf_4 1 rfl rfl ?_
  refine v_if_eq (pc := 5) (t := 21) h dX6_onesOf_5 rfl (fun _ => ?_) (fun _ => ?_)
  · refine v_iload_n (pc := 21) h dX6_onesOf_21 0 rfl rfl ?_
    exact v_iretP (pc := 22) h hr dX6_onesOf_22
  · refine v_iload_n (pc := 8) h dX6_onesOf_8 0 rfl rfl ?_
    refine v_iconst (pc := 9) h dX6_onesOf_9 (v := 1) rfl ?_
    refine v_iadd (pc := 10) h dX6_onesOf_10 ?_
    refine v_nmi (fun v4 => ?_)
    refine v_istore_n (pc := 11) h dX6_onesOf_11 rfl (by decide) (lv' := [(2, .int v4), (3, .int i3_2)]) rfl ?_
    refine v_iload_n (pc := 12) h dX6_onesOf_12 1 rfl rfl ?_
    refine v_iload_n (pc := 13) h dX6_onesOf_13 1 rfl rfl ?_
    refine v_iconst (pc := 14) h dX6_onesOf_14 (v := 1) rfl ?_
    refine v_isub (pc := 15) h dX6_onesOf_15 ?_
    refine v_iand (pc := 16) h dX6_onesOf_16 ?_
    refine v_nmi (fun v5 => ?_)
    refine v_istore_n (pc := 17) h dX6_onesOf_17 rfl (by decide) (lv' := [(3, .int v5), (2, .int v4)]) rfl ?_
    refine v_goto (pc := 18) (t := 4) h dX6_onesOf_18 rfl ?_
    refine v_sub [1, 0] rfl ?_
    exact hX3 v4 v5
set_option maxHeartbeats 4000000 in
theorem tX6_fewestPayments {g : Gl} {mo : Nat} {r : Rh} (hM : MStr mo r)  (I : MI) : CtI g yX6_fewestPayments cX6_fewestPayments 5 (some .int) 2 [.ref mo] I r (pX6_fewestPayments mo  I) := by
  refine CtI.mk (lv := [(0, .ref mo)]) (by decide) (Nat.le_of_ble_eq_true rfl) rfl (fun x Q h hr => ?_)
  unfold pX6_fewestPayments
  refine v_iconst (pc := 0) h dX6_fewestPayments_0 (v := 0) rfl ?_
  refine v_istore_n (pc := 1) h dX6_fewestPayments_1 rfl (by decide) (lv' := [(1, .int (0 : Int32)), (0, .ref mo)]) rfl ?_
  refine v_iconst (pc := 2) h dX6_fewestPayments_2 (v := 0) rfl ?_
  refine v_istore_n (pc := 3) h dX6_fewestPayments_3 rfl (by decide) (lv' := [(2, .int (0 : Int32)), (1, .int (0 : Int32)), (0, .ref mo)]) rfl ?_
  refine v_sub [2, 1, 0] rfl ?_
  refine L2.run (lv := fun i1_1 i2_2 => [(0, .ref mo), (1, .int i1_1), (2, .int i2_2)]) (st := fun i1_1 i2_2 => []) (Im := fun i1_1 i2_2 => I) (r := fun i1_1 i2_2 => r) (fun X3 hX3 i1_1 i2_2 => ?_) (0 : Int32) (0 : Int32)
  refine v_iload_n (pc := 4) h dX6_fewestPayments_4 2 rfl rfl ?_
  refine v_bipush (pc := 5) h dX6_fewestPayments_5 (v := 12) rfl ?_
  refine v_icmp_ge (pc := 7) (t := 31) h dX6_fewestPayments_7 rfl (fun _ => ?_) (fun _ => ?_)
  · refine v_aload_n (pc := 31) h dX6_fewestPayments_31 0 rfl rfl ?_
    refine v_getp (pc := 32) h dX6_fewestPayments_32 fX6_95 rfl hM.1 (mA_51 hM).1 ?_
    refine v_iconst (pc := 35) h dX6_fewestPayments_35 (v := 0) rfl ?_
    refine v_iconst (pc := 36) h dX6_fewestPayments_36 (v := 0) rfl ?_
    refine v_iastL (pc := 37) h dX6_fewestPayments_37 (mA_51 hM).2.1 (mA_51 hM).2.2 (vpd rfl) (k := 0) rfl ?_
    refine v_nmI (fun I4 => ?_)
    refine v_iconst (pc := 38) h dX6_fewestPayments_38 (v := 1) rfl ?_
    refine v_istore_n (pc := 39) h dX6_fewestPayments_39 rfl (by decide) (lv' := [(2, .int (1 : Int32)), (0, .ref mo), (1, .int i1_1)]) rfl ?_
    refine v_sub [1, 2, 0] rfl ?_
    refine L2.run (lv := fun i2_5 I6 => [(0, .ref mo), (1, .int i1_1), (2, .int i2_5)]) (st := fun i2_5 I6 => []) (Im := fun i2_5 I6 => I6) (r := fun i2_5 I6 => r) (fun X7 hX7 i2_5 I6 => ?_) (1 : Int32) I4
    refine v_iload_n (pc := 40) h dX6_fewestPayments_40 2 rfl rfl ?_
    refine v_iload_n (pc := 41) h dX6_fewestPayments_41 1 rfl rfl ?_
    refine v_icmp_gt (pc := 42) (t := 130) h dX6_fewestPayments_42 rfl (fun _ => ?_) (fun _ => ?_)
    · refine v_aload_n (pc := 130) h dX6_fewestPayments_130 0 rfl rfl ?_
      refine v_iload_n (pc := 131) h dX6_fewestPayments_131 1 rfl rfl ?_
      refine v_callp (pc := 132) h dX6_fewestPayments_132 kX6_442 rfl hM.1 (tX6_onesOf hM i1_1 I6) (by decide) rfl rfl (Nat.le_of_ble_eq_true rfl) rfl (fun r8 => ?_)
      refine v_aload_n (pc := 135) h dX6_fewestPayments_135 0 rfl rfl ?_
      refine v_getp (pc := 136) h dX6_fewestPayments_136 fX6_95 rfl hM.1 (mA_51 hM).1 ?_
      refine v_iload_n (pc := 139) h dX6_fewestPayments_139 1 rfl rfl ?_
      refine v_iald (pc := 140) h dX6_fewestPayments_140 (mA_51 hM).2.1 (mA_51 hM).2.2 ?_
      refine v_isub (pc := 141) h dX6_fewestPayments_141 ?_
      exact v_iret (pc := 142) h hr dX6_fewestPayments_142
    · refine v_iload_n (pc := 45) h dX6_fewestPayments_45 2 rfl rfl ?_
      refine v_iload_n (pc := 46) h dX6_fewestPayments_46 1 rfl rfl ?_
      refine v_iconst (pc := 47) h dX6_fewestPayments_47 (v := (-1)) rfl ?_
      refine v_ixor (pc := 48) h dX6_fewestPayments_48 ?_
      refine v_iand (pc := 49) h dX6_fewestPayments_49 ?_
      refine v_jn1 (fun I9 => V g x 5 (0, 0) 124 [(0, .ref mo), (1, .int i1_1), (2, .int i2_5)] [] I9 r) (fun k10 hk10 => ?_) (fun I9 => ?_)
      · refine v_if_eq (pc := 50) (t := 56) h dX6_fewestPayments_50 rfl (fun _ => ?_) (fun _ => ?_)
        · refine v_iconst (pc := 56) h dX6_fewestPayments_56 (v := 0) rfl ?_
          refine v_istore_n (pc := 57) h dX6_fewestPayments_57 rfl (by decide) (lv' := [(3, .int (0 : Int32)), (0, .ref mo), (1, .int i1_1), (2, .int i2_5)]) rfl ?_
          refine v_iconst (pc := 58) h dX6_fewestPayments_58 (v := 0) rfl ?_
          refine v_istore (pc := 59) h dX6_fewestPayments_59 (by decide) (lv' := [(4, .int (0 : Int32)), (3, .int (0 : Int32)), (0, .ref mo), (1, .int i1_1), (2, .int i2_5)]) rfl ?_
          refine v_sub [2, 3, 4, 1, 0] rfl ?_
          refine L2.run (lv := fun i3_11 i4_12 => [(0, .ref mo), (1, .int i1_1), (2, .int i2_5), (3, .int i3_11), (4, .int i4_12)]) (st := fun i3_11 i4_12 => []) (Im := fun i3_11 i4_12 => I6) (r := fun i3_11 i4_12 => r) (fun X13 hX13 i3_11 i4_12 => ?_) (0 : Int32) (0 : Int32)
          refine v_iload (pc := 61) h dX6_fewestPayments_61 4 rfl ?_
          refine v_bipush (pc := 63) h dX6_fewestPayments_63 (v := 12) rfl ?_
          refine v_icmp_ge (pc := 65) (t := 103) h dX6_fewestPayments_65 rfl (fun _ => ?_) (fun _ => ?_)
          · refine v_aload_n (pc := 103) h dX6_fewestPayments_103 0 rfl rfl ?_
            refine v_getp (pc := 104) h dX6_fewestPayments_104 fX6_95 rfl hM.1 (mA_51 hM).1 ?_
            refine v_iload_n (pc := 107) h dX6_fewestPayments_107 2 rfl rfl ?_
            refine v_iload_n (pc := 108) h dX6_fewestPayments_108 3 rfl rfl ?_
            refine v_aload_n (pc := 109) h dX6_fewestPayments_109 0 rfl rfl ?_
            refine v_iload_n (pc := 110) h dX6_fewestPayments_110 2 rfl rfl ?_
            refine v_callp (pc := 111) h dX6_fewestPayments_111 kX6_439 rfl hM.1 (tX6_netOf hM i2_5 I6) (by decide) rfl rfl (Nat.le_of_ble_eq_true rfl) rfl (fun r14 => ?_)
            refine v_jn1 (fun t15 => V g x 5 (0, 0) 122 [(0, .ref mo), (1, .int i1_1), (2, .int i2_5)] [.int t15, .int i3_11, .int i2_5, .ref (mo + 28)] I6 r) (fun k16 hk16 => ?_) (fun t15 => ?_)
            · refine v_if_ne (pc := 114) (t := 121) h dX6_fewestPayments_114 rfl (fun _ => ?_) (fun _ => ?_)
              · refine v_iconst (pc := 121) h dX6_fewestPayments_121 (v := 0) rfl ?_
                refine v_sub [0, 1, 2] rfl ?_
                exact hk16 (0 : Int32)
              · refine v_iconst (pc := 117) h dX6_fewestPayments_117 (v := 1) rfl ?_
                refine v_goto (pc := 118) (t := 122) h dX6_fewestPayments_118 rfl ?_
                refine v_sub [0, 1, 2] rfl ?_
                exact hk16 (1 : Int32)
            · refine v_iadd (pc := 122) h dX6_fewestPayments_122 ?_
              refine v_iast (pc := 123) h dX6_fewestPayments_123 (mA_51 hM).2.1 (mA_51 hM).2.2 ?_
              refine v_nmI (fun I17 => ?_)
              exact hk10 I17
          · refine v_aload_n (pc := 68) h dX6_fewestPayments_68 0 rfl rfl ?_
            refine v_iload_n (pc := 69) h dX6_fewestPayments_69 2 rfl rfl ?_
            refine v_iload (pc := 70) h dX6_fewestPayments_70 4 rfl ?_
            refine v_callp (pc := 72) h dX6_fewestPayments_72 kX6_377 rfl hM.1 (tX6_lies hM i2_5 i4_12 I6) (by decide) rfl rfl (Nat.le_of_ble_eq_true rfl) rfl (fun r18 => ?_)
            refine v_jn1 (fun v3_19 => V g x 5 (0, 0) 97 [(0, .ref mo), (1, .int i1_1), (2, .int i2_5), (3, .int v3_19), (4, .int i4_12)] [] I6 r) (fun k20 hk20 => ?_) (fun v3_19 => ?_)
            · refine v_if_eq (pc := 75) (t := 97) h dX6_fewestPayments_75 rfl (fun _ => ?_) (fun _ => ?_)
              · exact hk20 i3_11
              · refine v_aload_n (pc := 78) h dX6_fewestPayments_78 0 rfl rfl ?_
                refine v_iload_n (pc := 79) h dX6_fewestPayments_79 3 rfl rfl ?_
                refine v_aload_n (pc := 80) h dX6_fewestPayments_80 0 rfl rfl ?_
                refine v_getp (pc := 81) h dX6_fewestPayments_81 fX6_95 rfl hM.1 (mA_51 hM).1 ?_
                refine v_iload_n (pc := 84) h dX6_fewestPayments_84 2 rfl rfl ?_
                refine v_iconst (pc := 85) h dX6_fewestPayments_85 (v := 1) rfl ?_
                refine v_iload (pc := 86) h dX6_fewestPayments_86 4 rfl ?_
                refine v_ishl (pc := 88) h dX6_fewestPayments_88 ?_
                refine v_iconst (pc := 89) h dX6_fewestPayments_89 (v := (-1)) rfl ?_
                refine v_ixor (pc := 90) h dX6_fewestPayments_90 ?_
                refine v_iand (pc := 91) h dX6_fewestPayments_91 ?_
                refine v_iald (pc := 92) h dX6_fewestPayments_92 (mA_51 hM).2.1 (mA_51 hM).2.2 ?_
                refine v_callp (pc := 93) h dX6_fewestPayments_93 kX6_332 rfl hM.1 (tX6_greater hM i3_11 (I6 (mo + 28) (i2_5 &&& ((sl (1 : Int32) i4_12) ^^^ (-1 : Int32))).toNatClampNeg) I6) (by decide) rfl rfl (Nat.le_of_ble_eq_true rfl) rfl (fun r21 => ?_)
                refine v_istore_n (pc := 96) h dX6_fewestPayments_96 rfl (by decide) (lv' := [(3, .int r21), (0, .ref mo), (1, .int i1_1), (2, .int i2_5), (4, .int i4_12)]) rfl ?_
                refine v_sub [1, 2, 3, 0, 4] rfl ?_
                exact hk20 r21
            · refine v_iinc (pc := 97) h dX6_fewestPayments_97 4 rfl (w := (i4_12 + (1 : Int32))) rfl (by decide) (lv' := [(4, .int (i4_12 + (1 : Int32))), (0, .ref mo), (1, .int i1_1), (2, .int i2_5), (3, .int v3_19)]) rfl ?_
              refine v_goto (pc := 100) (t := 61) h dX6_fewestPayments_100 rfl ?_
              refine v_sub [1, 2, 3, 4, 0] rfl ?_
              exact hX13 v3_19 (i4_12 + (1 : Int32))
        · refine v_goto (pc := 53) (t := 124) h dX6_fewestPayments_53 rfl ?_
          exact hk10 I6
      · refine v_iinc (pc := 124) h dX6_fewestPayments_124 2 rfl (w := (i2_5 + (1 : Int32))) rfl (by decide) (lv' := [(2, .int (i2_5 + (1 : Int32))), (0, .ref mo), (1, .int i1_1)]) rfl ?_
        refine v_goto (pc := 127) (t := 40) h dX6_fewestPayments_127 rfl ?_
        refine v_sub [1, 2, 0] rfl ?_
        exact hX7 (i2_5 + (1 : Int32)) I9
  · refine v_aload_n (pc := 10) h dX6_fewestPayments_10 0 rfl rfl ?_
    refine v_getp (pc := 11) h dX6_fewestPayments_11 fX6_92 rfl hM.1 (mA_50 hM).1 ?_
    refine v_iload_n (pc := 14) h dX6_fewestPayments_14 2 rfl rfl ?_
    refine v_iald (pc := 15) h dX6_fewestPayments_15 (mA_50 hM).2.1 (mA_50 hM).2.2 ?_
    refine v_jn1 (fun v1_22 => V g x 5 (0, 0) 25 [(0, .ref mo), (1, .int v1_22), (2, .int i2_2)] [] I r) (fun k23 hk23 => ?_) (fun v1_22 => ?_)
    · refine v_if_eq (pc := 16) (t := 25) h dX6_fewestPayments_16 rfl (fun _ => ?_) (fun _ => ?_)
      · exact hk23 i1_1
      · refine v_iload_n (pc := 19) h dX6_fewestPayments_19 1 rfl rfl ?_
        refine v_iconst (pc := 20) h dX6_fewestPayments_20 (v := 1) rfl ?_
        refine v_iload_n (pc := 21) h dX6_fewestPayments_21 2 rfl rfl ?_
        refine v_ishl (pc := 22) h dX6_fewestPayments_22 ?_
        refine v_ior (pc := 23) h dX6_fewestPayments_23 ?_
        refine v_nmi (fun v24 => ?_)
        refine v_istore_n (pc := 24) h dX6_fewestPayments_24 rfl (by decide) (lv' := [(1, .int v24), (0, .ref mo), (2, .int i2_2)]) rfl ?_
        refine v_sub [1, 0, 2] rfl ?_
        exact hk23 v24
    · refine v_iinc (pc := 25) h dX6_fewestPayments_25 2 rfl (w := (i2_2 + (1 : Int32))) rfl (by decide) (lv' := [(2, .int (i2_2 + (1 : Int32))), (0, .ref mo), (1, .int v1_22)]) rfl ?_
      refine v_goto (pc := 28) (t := 4) h dX6_fewestPayments_28 rfl ?_
      refine v_sub [1, 2, 0] rfl ?_
      exact hX3 v1_22 (i2_2 + (1 : Int32))
set_option maxHeartbeats 4000000 in
theorem tX6_net {g : Gl} {mo : Nat} {r : Rh} (hM : MStr mo r) (a1 : Int32) (I : MI) : CtI g yX6_net cX6_net 2 (some .int) 3 [.ref mo, .int a1] I r (pX6_net mo a1 I) := by
  refine CtI.mk (lv := [(0, .ref mo), (1, .int a1)]) (by decide) (Nat.le_of_ble_eq_true rfl) rfl (fun x Q h hr => ?_)
  unfold pX6_net
  refine v_aload_n (pc := 0) h dX6_net_0 0 rfl rfl ?_
  refine v_iconst (pc := 1) h dX6_net_1 (v := 0) rfl ?_
  refine v_puti (pc := 2) h dX6_net_2 fX6_116 rfl hM.1 ?_
  refine v_nmI (fun I1 => ?_)
  refine v_aload_n (pc := 5) h dX6_net_5 0 rfl rfl ?_
  refine v_iload_n (pc := 6) h dX6_net_6 1 rfl rfl ?_
  refine v_iconst (pc := 7) h dX6_net_7 (v := (-1)) rfl ?_
  refine v_bipush (pc := 8) h dX6_net_8 (v := 11) rfl ?_
  refine v_callp (pc := 10) h dX6_net_10 kX6_143 rfl hM.1 (tX6_isIn hM a1 (-1 : Int32) (11 : Int32) I1) (by decide) rfl rfl (Nat.le_of_ble_eq_true rfl) rfl (fun r2 => ?_)
  refine v_if_ne (pc := 13) (t := 20) h dX6_net_13 rfl (fun _ => ?_) (fun _ => ?_)
  · refine v_iload_n (pc := 20) h dX6_net_20 1 rfl rfl ?_
    refine v_iconst (pc := 21) h dX6_net_21 (v := (-1)) rfl ?_
    refine v_icmp_ne (pc := 22) (t := 32) h dX6_net_22 rfl (fun _ => ?_) (fun _ => ?_)
    · refine v_aload_n (pc := 32) h dX6_net_32 0 rfl rfl ?_
      refine v_getp (pc := 33) h dX6_net_33 fX6_92 rfl hM.1 (mA_50 hM).1 ?_
      refine v_iload_n (pc := 36) h dX6_net_36 1 rfl rfl ?_
      refine v_iald (pc := 37) h dX6_net_37 (mA_50 hM).2.1 (mA_50 hM).2.2 ?_
      exact v_iret (pc := 38) h hr dX6_net_38
    · refine v_aload_n (pc := 25) h dX6_net_25 0 rfl rfl ?_
      refine v_calli (pc := 26) h dX6_net_26 kX6_445 rfl hM.1 (tX6_fewestPayments hM I1) (by decide) rfl rfl (Nat.le_of_ble_eq_true rfl) rfl (fun r3 I4 => ?_)
      refine v_goto (pc := 29) (t := 38) h dX6_net_29 rfl ?_
      exact v_iret (pc := 38) h hr dX6_net_38
  · refine v_sipush (pc := 16) h dX6_net_16 (v := (-10000)) rfl ?_
    exact v_iret (pc := 19) h hr dX6_net_19
set_option maxHeartbeats 4000000 in
theorem tX6_chain {g : Gl} {mo : Nat} {r : Rh} (hM : MStr mo r) (a1 : Int32) (a2 : Int32) (a3 : Int32) (a4 : Int32) (I : MI) : CtI g yX6_chain cX6_chain 9 (some .int) 1 [.ref mo, .int a1, .int a2, .int a3, .int a4] I r (pX6_chain mo a1 a2 a3 a4 I) := by
  refine CtI.mk (lv := [(0, .ref mo), (1, .int a1), (2, .int a2), (3, .int a3), (4, .int a4)]) (by decide) (Nat.le_of_ble_eq_true rfl) rfl (fun x Q h hr => ?_)
  unfold pX6_chain
  refine v_aload_n (pc := 0) h dX6_chain_0 0 rfl rfl ?_
  refine v_iconst (pc := 1) h dX6_chain_1 (v := 0) rfl ?_
  refine v_puti (pc := 2) h dX6_chain_2 fX6_116 rfl hM.1 ?_
  refine v_nmI (fun I1 => ?_)
  refine v_aload_n (pc := 5) h dX6_chain_5 0 rfl rfl ?_
  refine v_iload_n (pc := 6) h dX6_chain_6 1 rfl rfl ?_
  refine v_iconst (pc := 7) h dX6_chain_7 (v := 1) rfl ?_
  refine v_bipush (pc := 8) h dX6_chain_8 (v := 9) rfl ?_
  refine v_callp (pc := 10) h dX6_chain_10 kX6_143 rfl hM.1 (tX6_isIn hM a1 (1 : Int32) (9 : Int32) I1) (by decide) rfl rfl (Nat.le_of_ble_eq_true rfl) rfl (fun r2 => ?_)
  refine v_if_eq (pc := 13) (t := 55) h dX6_chain_13 rfl (fun _ => ?_) (fun _ => ?_)
  · refine v_iconst (pc := 55) h dX6_chain_55 (v := (-1)) rfl ?_
    exact v_iret (pc := 56) h hr dX6_chain_56
  · refine v_aload_n (pc := 16) h dX6_chain_16 0 rfl rfl ?_
    refine v_iload_n (pc := 17) h dX6_chain_17 2 rfl rfl ?_
    refine v_iconst (pc := 18) h dX6_chain_18 (v := 1) rfl ?_
    refine v_sipush (pc := 19) h dX6_chain_19 (v := 9999) rfl ?_
    refine v_callp (pc := 22) h dX6_chain_22 kX6_143 rfl hM.1 (tX6_isIn hM a2 (1 : Int32) (9999 : Int32) I1) (by decide) rfl rfl (Nat.le_of_ble_eq_true rfl) rfl (fun r3 => ?_)
    refine v_if_eq (pc := 25) (t := 55) h dX6_chain_25 rfl (fun _ => ?_) (fun _ => ?_)
    · refine v_iconst (pc := 55) h dX6_chain_55 (v := (-1)) rfl ?_
      exact v_iret (pc := 56) h hr dX6_chain_56
    · refine v_aload_n (pc := 28) h dX6_chain_28 0 rfl rfl ?_
      refine v_iload (pc := 29) h dX6_chain_29 4 rfl ?_
      refine v_iconst (pc := 31) h dX6_chain_31 (v := 0) rfl ?_
      refine v_iconst (pc := 32) h dX6_chain_32 (v := 1) rfl ?_
      refine v_callp (pc := 33) h dX6_chain_33 kX6_143 rfl hM.1 (tX6_isIn hM a4 (0 : Int32) (1 : Int32) I1) (by decide) rfl rfl (Nat.le_of_ble_eq_true rfl) rfl (fun r4 => ?_)
      refine v_if_eq (pc := 36) (t := 55) h dX6_chain_36 rfl (fun _ => ?_) (fun _ => ?_)
      · refine v_iconst (pc := 55) h dX6_chain_55 (v := (-1)) rfl ?_
        exact v_iret (pc := 56) h hr dX6_chain_56
      · refine v_iload (pc := 39) h dX6_chain_39 4 rfl ?_
        refine v_jn0 (V g x 9 (0, 0) 57 [(0, .ref mo), (1, .int a1), (2, .int a2), (3, .int a3), (4, .int a4)] [] I1 r) (fun k5 hk5 => ?_) ?_
        · refine v_if_ne (pc := 41) (t := 57) h dX6_chain_41 rfl (fun _ => ?_) (fun _ => ?_)
          · exact hk5
          · refine v_aload_n (pc := 44) h dX6_chain_44 0 rfl rfl ?_
            refine v_iload_n (pc := 45) h dX6_chain_45 3 rfl rfl ?_
            refine v_iconst (pc := 46) h dX6_chain_46 (v := 0) rfl ?_
            refine v_bipush (pc := 47) h dX6_chain_47 (v := 99) rfl ?_
            refine v_callp (pc := 49) h dX6_chain_49 kX6_143 rfl hM.1 (tX6_isIn hM a3 (0 : Int32) (99 : Int32) I1) (by decide) rfl rfl (Nat.le_of_ble_eq_true rfl) rfl (fun r6 => ?_)
            refine v_if_ne (pc := 52) (t := 57) h dX6_chain_52 rfl (fun _ => ?_) (fun _ => ?_)
            · exact hk5
            · refine v_iconst (pc := 55) h dX6_chain_55 (v := (-1)) rfl ?_
              exact v_iret (pc := 56) h hr dX6_chain_56
        · refine v_iconst (pc := 57) h dX6_chain_57 (v := 1) rfl ?_
          refine v_istore (pc := 58) h dX6_chain_58 (by decide) (lv' := [(5, .int (1 : Int32)), (0, .ref mo), (1, .int a1), (2, .int a2), (3, .int a3), (4, .int a4)]) rfl ?_
          refine v_iconst (pc := 60) h dX6_chain_60 (v := 1) rfl ?_
          refine v_istore (pc := 61) h dX6_chain_61 (by decide) (lv' := [(6, .int (1 : Int32)), (5, .int (1 : Int32)), (0, .ref mo), (1, .int a1), (2, .int a2), (3, .int a3), (4, .int a4)]) rfl ?_
          refine v_iload (pc := 63) h dX6_chain_63 6 rfl ?_
          refine v_jn1 (fun t7 => V g x 9 (0, 0) 74 [(0, .ref mo), (1, .int a1), (2, .int a2), (4, .int a4), (5, .int (1 : Int32)), (6, .int (1 : Int32))] [.int t7] I1 r) (fun k8 hk8 => ?_) (fun t7 => ?_)
          · refine v_if_ne (pc := 65) (t := 72) h dX6_chain_65 rfl (fun _ => ?_) (fun _ => ?_)
            · refine v_bipush (pc := 72) h dX6_chain_72 (v := 99) rfl ?_
              refine v_sub [2, 3, 4, 6, 1, 0] rfl ?_
              exact hk8 (99 : Int32)
            · refine v_iload_n (pc := 68) h dX6_chain_68 5 rfl rfl ?_
              refine v_goto (pc := 69) (t := 74) h dX6_chain_69 rfl ?_
              refine v_sub [2, 3, 4, 6, 1, 0] rfl ?_
              exact hk8 a3
          · refine v_istore (pc := 74) h dX6_chain_74 (by decide) (lv' := [(7, .int t7), (0, .ref mo), (1, .int a1), (2, .int a2), (4, .int a4), (5, .int (1 : Int32)), (6, .int (1 : Int32))]) rfl ?_
            refine v_iconst (pc := 76) h dX6_chain_76 (v := 0) rfl ?_
            refine v_istore (pc := 77) h dX6_chain_77 (by decide) (lv' := [(8, .int (0 : Int32)), (7, .int t7), (0, .ref mo), (1, .int a1), (2, .int a2), (4, .int a4), (5, .int (1 : Int32)), (6, .int (1 : Int32))]) rfl ?_
            refine v_sub [2, 3, 4, 5, 6, 7, 1, 0] rfl ?_
            refine L3.run (lv := fun i5_9 i6_10 i8_11 => [(0, .ref mo), (1, .int a1), (2, .int a2), (4, .int a4), (5, .int i5_9), (6, .int i6_10), (7, .int t7), (8, .int i8_11)]) (st := fun i5_9 i6_10 i8_11 => []) (Im := fun i5_9 i6_10 i8_11 => I1) (r := fun i5_9 i6_10 i8_11 => r) (fun X12 hX12 i5_9 i6_10 i8_11 => ?_) (1 : Int32) (1 : Int32) (0 : Int32)
            refine v_iload (pc := 79) h dX6_chain_79 7 rfl ?_
            refine v_iload (pc := 81) h dX6_chain_81 6 rfl ?_
            refine v_icmp_gt (pc := 83) (t := 147) h dX6_chain_83 rfl (fun _ => ?_) (fun _ => ?_)
            · refine v_iconst (pc := 147) h dX6_chain_147 (v := (-1)) rfl ?_
              exact v_iret (pc := 148) h hr dX6_chain_148
            · refine v_iload (pc := 86) h dX6_chain_86 3 rfl ?_
              refine v_iconst (pc := 88) h dX6_chain_88 (v := 1) rfl ?_
              refine v_jn0 (V g x 9 (0, 0) 101 [(0, .ref mo), (1, .int a1), (2, .int a2), (4, .int a4), (5, .int i5_9), (6, .int i6_10), (7, .int t7), (8, .int i8_11)] [] I1 r) (fun k13 hk13 => ?_) ?_
              · refine v_icmp_ne (pc := 89) (t := 101) h dX6_chain_89 rfl (fun _ => ?_) (fun _ => ?_)
                · exact hk13
                · refine v_iload (pc := 92) h dX6_chain_92 4 rfl ?_
                  refine v_iload_n (pc := 94) h dX6_chain_94 2 rfl rfl ?_
                  refine v_icmp_ne (pc := 95) (t := 101) h dX6_chain_95 rfl (fun _ => ?_) (fun _ => ?_)
                  · exact hk13
                  · refine v_iload (pc := 98) h dX6_chain_98 7 rfl ?_
                    exact v_iret (pc := 100) h hr dX6_chain_100
              · refine v_iload (pc := 101) h dX6_chain_101 7 rfl ?_
                refine v_iload (pc := 103) h dX6_chain_103 6 rfl ?_
                refine v_icmp_ne (pc := 105) (t := 120) h dX6_chain_105 rfl (fun _ => ?_) (fun _ => ?_)
                · refine v_aload_n (pc := 120) h dX6_chain_120 0 rfl rfl ?_
                  refine v_iload_n (pc := 121) h dX6_chain_121 1 rfl rfl ?_
                  refine v_iload (pc := 122) h dX6_chain_122 5 rfl ?_
                  refine v_imul (pc := 124) h dX6_chain_124 ?_
                  refine v_iload_n (pc := 125) h dX6_chain_125 2 rfl rfl ?_
                  refine v_iload (pc := 126) h dX6_chain_126 4 rfl ?_
                  refine v_isub (pc := 128) h dX6_chain_128 ?_
                  refine v_callp (pc := 129) h dX6_chain_129 kX6_353 rfl hM.1 (tX6_lesser hM (a1 * i6_10) (a2 - i5_9) I1) (by decide) rfl rfl (Nat.le_of_ble_eq_true rfl) rfl (fun r14 => ?_)
                  refine v_istore (pc := 132) h dX6_chain_132 (by decide) (lv' := [(6, .int r14), (0, .ref mo), (1, .int a1), (2, .int a2), (4, .int a4), (5, .int i5_9), (7, .int t7), (8, .int i8_11)]) rfl ?_
                  refine v_iload (pc := 134) h dX6_chain_134 5 rfl ?_
                  refine v_iload (pc := 136) h dX6_chain_136 0 rfl ?_
                  refine v_iadd (pc := 138) h dX6_chain_138 ?_
                  refine v_nmi (fun v15 => ?_)
                  refine v_istore (pc := 139) h dX6_chain_139 (by decide) (lv' := [(5, .int v15), (6, .int r14), (0, .ref mo), (1, .int a1), (2, .int a2), (4, .int a4), (7, .int t7), (8, .int i8_11)]) rfl ?_
                  refine v_iinc (pc := 141) h dX6_chain_141 7 rfl (w := (i8_11 + (1 : Int32))) rfl (by decide) (lv' := [(8, .int (i8_11 + (1 : Int32))), (5, .int v15), (6, .int r14), (0, .ref mo), (1, .int a1), (2, .int a2), (4, .int a4), (7, .int t7)]) rfl ?_
                  refine v_goto (pc := 144) (t := 79) h dX6_chain_144 rfl ?_
                  refine v_sub [3, 4, 5, 6, 1, 2, 7, 0] rfl ?_
                  exact hX12 v15 r14 (i8_11 + (1 : Int32))
                · refine v_iload (pc := 108) h dX6_chain_108 3 rfl ?_
                  refine v_if_ne (pc := 110) (t := 118) h dX6_chain_110 rfl (fun _ => ?_) (fun _ => ?_)
                  · refine v_iconst (pc := 118) h dX6_chain_118 (v := (-1)) rfl ?_
                    exact v_iret (pc := 119) h hr dX6_chain_119
                  · refine v_iload (pc := 113) h dX6_chain_113 4 rfl ?_
                    refine v_goto (pc := 115) (t := 119) h dX6_chain_115 rfl ?_
                    exact v_iret (pc := 119) h hr dX6_chain_119
set_option maxHeartbeats 4000000 in
theorem tX6_has {g : Gl} {mo : Nat} {r : Rh} (hM : MStr mo r) (a1 : Int32) (a2 : Int32) (I : MI) : CtI g yX6_has cX6_has 3 (some .boolean) 1 [.ref mo, .int a1, .int a2] I r (pX6_has mo a1 a2 I) := by
  refine CtI.mk (lv := [(0, .ref mo), (1, .int a1), (2, .int a2)]) (by decide) (Nat.le_of_ble_eq_true rfl) rfl (fun x Q h hr => ?_)
  unfold pX6_has
  refine v_aload_n (pc := 0) h dX6_has_0 0 rfl rfl ?_
  refine v_iconst (pc := 1) h dX6_has_1 (v := 0) rfl ?_
  refine v_puti (pc := 2) h dX6_has_2 fX6_116 rfl hM.1 ?_
  refine v_nmI (fun I1 => ?_)
  refine v_aload_n (pc := 5) h dX6_has_5 0 rfl rfl ?_
  refine v_iload_n (pc := 6) h dX6_has_6 1 rfl rfl ?_
  refine v_iconst (pc := 7) h dX6_has_7 (v := 0) rfl ?_
  refine v_bipush (pc := 8) h dX6_has_8 (v := 25) rfl ?_
  refine v_callp (pc := 10) h dX6_has_10 kX6_143 rfl hM.1 (tX6_isIn hM a1 (0 : Int32) (25 : Int32) I1) (by decide) rfl rfl (Nat.le_of_ble_eq_true rfl) rfl (fun r2 => ?_)
  refine v_if_eq (pc := 13) (t := 27) h dX6_has_13 rfl (fun _ => ?_) (fun _ => ?_)
  · refine v_iconst (pc := 27) h dX6_has_27 (v := 0) rfl ?_
    exact v_zret (pc := 28) h hr (Or.inl rfl) dX6_has_28
  · refine v_aload_n (pc := 16) h dX6_has_16 0 rfl rfl ?_
    refine v_iload_n (pc := 17) h dX6_has_17 2 rfl rfl ?_
    refine v_iconst (pc := 18) h dX6_has_18 (v := 0) rfl ?_
    refine v_bipush (pc := 19) h dX6_has_19 (v := 9) rfl ?_
    refine v_callp (pc := 21) h dX6_has_21 kX6_143 rfl hM.1 (tX6_isIn hM a2 (0 : Int32) (9 : Int32) I1) (by decide) rfl rfl (Nat.le_of_ble_eq_true rfl) rfl (fun r3 => ?_)
    refine v_if_ne (pc := 24) (t := 29) h dX6_has_24 rfl (fun _ => ?_) (fun _ => ?_)
    · refine v_aload_n (pc := 29) h dX6_has_29 0 rfl rfl ?_
      refine v_getp (pc := 30) h dX6_has_30 fX6_98 rfl hM.1 (mA_52 hM).1 ?_
      refine v_iload_n (pc := 33) h dX6_has_33 1 rfl rfl ?_
      refine v_iload_n (pc := 34) h dX6_has_34 2 rfl rfl ?_
      refine v_iast (pc := 35) h dX6_has_35 (mA_52 hM).2.1 (mA_52 hM).2.2 ?_
      refine v_nmI (fun I4 => ?_)
      refine v_iconst (pc := 36) h dX6_has_36 (v := 1) rfl ?_
      exact v_zret (pc := 37) h hr (Or.inr rfl) dX6_has_37
    · refine v_iconst (pc := 27) h dX6_has_27 (v := 0) rfl ?_
      exact v_zret (pc := 28) h hr (Or.inl rfl) dX6_has_28
set_option maxHeartbeats 4000000 in
theorem tX6_spell {g : Gl} {mo : Nat} {r : Rh} (hM : MStr mo r) (a1 : Int32) (I : MI) : CtI g yX6_spell cX6_spell 2 (some .int) 1 [.ref mo, .int a1] I r (pX6_spell mo a1 I) := by
  refine CtI.mk (lv := [(0, .ref mo), (1, .int a1)]) (by decide) (Nat.le_of_ble_eq_true rfl) rfl (fun x Q h hr => ?_)
  unfold pX6_spell
  refine v_aload_n (pc := 0) h dX6_spell_0 0 rfl rfl ?_
  refine v_iconst (pc := 1) h dX6_spell_1 (v := 0) rfl ?_
  refine v_puti (pc := 2) h dX6_spell_2 fX6_116 rfl hM.1 ?_
  refine v_nmI (fun I1 => ?_)
  refine v_iload_n (pc := 5) h dX6_spell_5 1 rfl rfl ?_
  refine v_iconst (pc := 6) h dX6_spell_6 (v := (-1)) rfl ?_
  refine v_icmp_ne (pc := 7) (t := 17) h dX6_spell_7 rfl (fun _ => ?_) (fun _ => ?_)
  · refine v_aload_n (pc := 17) h dX6_spell_17 0 rfl rfl ?_
    refine v_iload_n (pc := 18) h dX6_spell_18 1 rfl rfl ?_
    refine v_iconst (pc := 19) h dX6_spell_19 (v := 0) rfl ?_
    refine v_bipush (pc := 20) h dX6_spell_20 (v := 25) rfl ?_
    refine v_callp (pc := 22) h dX6_spell_22 kX6_143 rfl hM.1 (tX6_isIn hM a1 (0 : Int32) (25 : Int32) I1) (by decide) rfl rfl (Nat.le_of_ble_eq_true rfl) rfl (fun r2 => ?_)
    refine v_if_eq (pc := 25) (t := 37) h dX6_spell_25 rfl (fun _ => ?_) (fun _ => ?_)
    · refine v_iconst (pc := 37) h dX6_spell_37 (v := (-1)) rfl ?_
      exact v_iret (pc := 38) h hr dX6_spell_38
    · refine v_aload_n (pc := 28) h dX6_spell_28 0 rfl rfl ?_
      refine v_geti (pc := 29) h dX6_spell_29 fX6_448 rfl hM.1 ?_
      refine v_bipush (pc := 32) h dX6_spell_32 (v := 8) rfl ?_
      refine v_icmp_ne (pc := 34) (t := 39) h dX6_spell_34 rfl (fun _ => ?_) (fun _ => ?_)
      · refine v_aload_n (pc := 39) h dX6_spell_39 0 rfl rfl ?_
        refine v_getp (pc := 40) h dX6_spell_40 fX6_101 rfl hM.1 (mA_54 hM).1 ?_
        refine v_aload_n (pc := 43) h dX6_spell_43 0 rfl rfl ?_
        refine v_geti (pc := 44) h dX6_spell_44 fX6_448 rfl hM.1 ?_
        refine v_iload_n (pc := 47) h dX6_spell_47 1 rfl rfl ?_
        refine v_iast (pc := 48) h dX6_spell_48 (mA_54 hM).2.1 (mA_54 hM).2.2 ?_
        refine v_nmI (fun I3 => ?_)
        refine v_aload_n (pc := 49) h dX6_spell_49 0 rfl rfl ?_
        refine v_aload_n (pc := 50) h dX6_spell_50 0 rfl rfl ?_
        refine v_geti (pc := 51) h dX6_spell_51 fX6_448 rfl hM.1 ?_
        refine v_iconst (pc := 54) h dX6_spell_54 (v := 1) rfl ?_
        refine v_iadd (pc := 55) h dX6_spell_55 ?_
        refine v_puti (pc := 56) h dX6_spell_56 fX6_448 rfl hM.1 ?_
        refine v_nmI (fun I4 => ?_)
        refine v_aload_n (pc := 59) h dX6_spell_59 0 rfl rfl ?_
        refine v_geti (pc := 60) h dX6_spell_60 fX6_448 rfl hM.1 ?_
        exact v_iret (pc := 63) h hr dX6_spell_63
      · refine v_iconst (pc := 37) h dX6_spell_37 (v := (-1)) rfl ?_
        exact v_iret (pc := 38) h hr dX6_spell_38
  · refine v_aload_n (pc := 10) h dX6_spell_10 0 rfl rfl ?_
    refine v_iconst (pc := 11) h dX6_spell_11 (v := 0) rfl ?_
    refine v_puti (pc := 12) h dX6_spell_12 fX6_448 rfl hM.1 ?_
    refine v_nmI (fun I5 => ?_)
    refine v_iconst (pc := 15) h dX6_spell_15 (v := 0) rfl ?_
    exact v_iret (pc := 16) h hr dX6_spell_16
set_option maxHeartbeats 4000000 in
theorem tX6_needOf {g : Gl} {mo : Nat} {r : Rh} (hM : MStr mo r) (a1 : Int32) (a2 : Int32) (I : MI) : CtP g yX6_needOf cX6_needOf 5 (some .int) 0 [.ref mo, .int a1, .int a2] I r (pX6_needOf mo a1 a2 I) := by
  refine CtP.mk (lv := [(0, .ref mo), (1, .int a1), (2, .int a2)]) (by decide) (Nat.le_of_ble_eq_true rfl) rfl (fun x Q h hr => ?_)
  unfold pX6_needOf
  refine v_iconst (pc := 0) h dX6_needOf_0 (v := 0) rfl ?_
  refine v_istore_n (pc := 1) h dX6_needOf_1 rfl (by decide) (lv' := [(3, .int (0 : Int32)), (0, .ref mo), (1, .int a1), (2, .int a2)]) rfl ?_
  refine v_iconst (pc := 2) h dX6_needOf_2 (v := 0) rfl ?_
  refine v_istore (pc := 3) h dX6_needOf_3 (by decide) (lv' := [(4, .int (0 : Int32)), (3, .int (0 : Int32)), (0, .ref mo), (1, .int a1), (2, .int a2)]) rfl ?_
  refine v_sub [2, 3, 4, 1, 0] rfl ?_
  refine L2.run (lv := fun i3_1 i4_2 => [(0, .ref mo), (1, .int a1), (2, .int a2), (3, .int i3_1), (4, .int i4_2)]) (st := fun i3_1 i4_2 => []) (Im := fun i3_1 i4_2 => I) (r := fun i3_1 i4_2 => r) (fun X3 hX3 i3_1 i4_2 => ?_) (0 : Int32) (0 : Int32)
  refine v_iload (pc := 5) h dX6_needOf_5 4 rfl ?_
  refine v_iload_n (pc := 7) h dX6_needOf_7 2 rfl rfl ?_
  refine v_icmp_ge (pc := 8) (t := 32) h dX6_needOf_8 rfl (fun _ => ?_) (fun _ => ?_)
  · refine v_iload_n (pc := 32) h dX6_needOf_32 3 rfl rfl ?_
    exact v_iretP (pc := 33) h hr dX6_needOf_33
  · refine v_aload_n (pc := 11) h dX6_needOf_11 0 rfl rfl ?_
    refine v_getp (pc := 12) h dX6_needOf_12 fX6_101 rfl hM.1 (mA_54 hM).1 ?_
    refine v_iload (pc := 15) h dX6_needOf_15 4 rfl ?_
    refine v_iald (pc := 17) h dX6_needOf_17 (mA_54 hM).2.1 (mA_54 hM).2.2 ?_
    refine v_iload_n (pc := 18) h dX6_needOf_18 1 rfl rfl ?_
    refine v_jn1 (fun v3_4 => V g x 5 (0, 0) 26 [(0, .ref mo), (1, .int a1), (2, .int a2), (3, .int v3_4), (4, .int i4_2)] [] I r) (fun k5 hk5 => ?_) (fun v3_4 => ?_)
    · refine v_icmp_ne (pc := 19) (t := 26) h dX6_needOf_19 rfl (fun _ => ?_) (fun _ => ?_)
      · exact hk5 i3_1
      · refine v_iload_n (pc := 22) h dX6_needOf_22 3 rfl rfl ?_
        refine v_iconst (pc := 23) h dX6_needOf_23 (v := 1) rfl ?_
        refine v_iadd (pc := 24) h dX6_needOf_24 ?_
        refine v_nmi (fun v6 => ?_)
        refine v_istore_n (pc := 25) h dX6_needOf_25 rfl (by decide) (lv' := [(3, .int v6), (0, .ref mo), (1, .int a1), (2, .int a2), (4, .int i4_2)]) rfl ?_
        refine v_sub [1, 2, 3, 0, 4] rfl ?_
        exact hk5 v6
    · refine v_iinc (pc := 26) h dX6_needOf_26 4 rfl (w := (i4_2 + (1 : Int32))) rfl (by decide) (lv' := [(4, .int (i4_2 + (1 : Int32))), (0, .ref mo), (1, .int a1), (2, .int a2), (3, .int v3_4)]) rfl ?_
      refine v_goto (pc := 29) (t := 5) h dX6_needOf_29 rfl ?_
      refine v_sub [1, 2, 3, 4, 0] rfl ?_
      exact hX3 v3_4 (i4_2 + (1 : Int32))
set_option maxHeartbeats 4000000 in
theorem tX6_lays {g : Gl} {mo : Nat} {r : Rh} (hM : MStr mo r) (a1 : Int32) (I : MI) : CtI g yX6_lays cX6_lays 5 (some .int) 1 [.ref mo, .int a1] I r (pX6_lays mo a1 I) := by
  refine CtI.mk (lv := [(0, .ref mo), (1, .int a1)]) (by decide) (Nat.le_of_ble_eq_true rfl) rfl (fun x Q h hr => ?_)
  unfold pX6_lays
  refine v_aload_n (pc := 0) h dX6_lays_0 0 rfl rfl ?_
  refine v_iconst (pc := 1) h dX6_lays_1 (v := 0) rfl ?_
  refine v_puti (pc := 2) h dX6_lays_2 fX6_116 rfl hM.1 ?_
  refine v_nmI (fun I1 => ?_)
  refine v_aload_n (pc := 5) h dX6_lays_5 0 rfl rfl ?_
  refine v_iload_n (pc := 6) h dX6_lays_6 1 rfl rfl ?_
  refine v_iconst (pc := 7) h dX6_lays_7 (v := 0) rfl ?_
  refine v_iconst (pc := 8) h dX6_lays_8 (v := 1) rfl ?_
  refine v_callp (pc := 9) h dX6_lays_9 kX6_143 rfl hM.1 (tX6_isIn hM a1 (0 : Int32) (1 : Int32) I1) (by decide) rfl rfl (Nat.le_of_ble_eq_true rfl) rfl (fun r2 => ?_)
  refine v_if_ne (pc := 12) (t := 17) h dX6_lays_12 rfl (fun _ => ?_) (fun _ => ?_)
  · refine v_aload_n (pc := 17) h dX6_lays_17 0 rfl rfl ?_
    refine v_geti (pc := 18) h dX6_lays_18 fX6_448 rfl hM.1 ?_
    refine v_jn1 (fun t3 => V g x 5 (0, 0) 31 [(0, .ref mo), (1, .int a1)] [.int t3] I1 r) (fun k4 hk4 => ?_) (fun t3 => ?_)
    · refine v_if_ne (pc := 21) (t := 28) h dX6_lays_21 rfl (fun _ => ?_) (fun _ => ?_)
      · refine v_ldcw (pc := 28) h dX6_lays_28 (v := (100000000)) q1921 ?_
        exact hk4 (100000000 : Int32)
      · refine v_iconst (pc := 24) h dX6_lays_24 (v := 0) rfl ?_
        refine v_goto (pc := 25) (t := 31) h dX6_lays_25 rfl ?_
        exact hk4 (0 : Int32)
    · refine v_istore_n (pc := 31) h dX6_lays_31 rfl (by decide) (lv' := [(2, .int t3), (0, .ref mo), (1, .int a1)]) rfl ?_
      refine v_iconst (pc := 32) h dX6_lays_32 (v := 1) rfl ?_
      refine v_istore_n (pc := 33) h dX6_lays_33 rfl (by decide) (lv' := [(3, .int (1 : Int32)), (2, .int t3), (0, .ref mo), (1, .int a1)]) rfl ?_
      refine v_iconst (pc := 34) h dX6_lays_34 (v := 0) rfl ?_
      refine v_istore (pc := 35) h dX6_lays_35 (by decide) (lv' := [(4, .int (0 : Int32)), (3, .int (1 : Int32)), (2, .int t3), (0, .ref mo), (1, .int a1)]) rfl ?_
      refine v_sub [3, 4, 2, 1, 0] rfl ?_
      refine L3.run (lv := fun i2_5 i3_6 i4_7 => [(0, .ref mo), (1, .int a1), (2, .int i2_5), (3, .int i3_6), (4, .int i4_7)]) (st := fun i2_5 i3_6 i4_7 => []) (Im := fun i2_5 i3_6 i4_7 => I1) (r := fun i2_5 i3_6 i4_7 => r) (fun X8 hX8 i2_5 i3_6 i4_7 => ?_) t3 (1 : Int32) (0 : Int32)
      refine v_iload (pc := 37) h dX6_lays_37 4 rfl ?_
      refine v_aload_n (pc := 39) h dX6_lays_39 0 rfl rfl ?_
      refine v_geti (pc := 40) h dX6_lays_40 fX6_448 rfl hM.1 ?_
      refine v_icmp_ge (pc := 43) (t := 109) h dX6_lays_43 rfl (fun _ => ?_) (fun _ => ?_)
      · refine v_iload_n (pc := 109) h dX6_lays_109 1 rfl rfl ?_
        refine v_if_ne (pc := 110) (t := 117) h dX6_lays_110 rfl (fun _ => ?_) (fun _ => ?_)
        · refine v_iload_n (pc := 117) h dX6_lays_117 3 rfl rfl ?_
          exact v_iret (pc := 118) h hr dX6_lays_118
        · refine v_iload_n (pc := 113) h dX6_lays_113 2 rfl rfl ?_
          refine v_goto (pc := 114) (t := 118) h dX6_lays_114 rfl ?_
          exact v_iret (pc := 118) h hr dX6_lays_118
      · refine v_aload_n (pc := 46) h dX6_lays_46 0 rfl rfl ?_
        refine v_iload_n (pc := 47) h dX6_lays_47 2 rfl rfl ?_
        refine v_aload_n (pc := 48) h dX6_lays_48 0 rfl rfl ?_
        refine v_getp (pc := 49) h dX6_lays_49 fX6_98 rfl hM.1 (mA_52 hM).1 ?_
        refine v_aload_n (pc := 52) h dX6_lays_52 0 rfl rfl ?_
        refine v_getp (pc := 53) h dX6_lays_53 fX6_101 rfl hM.1 (mA_54 hM).1 ?_
        refine v_iload (pc := 56) h dX6_lays_56 4 rfl ?_
        refine v_iald (pc := 58) h dX6_lays_58 (mA_54 hM).2.1 (mA_54 hM).2.2 ?_
        refine v_iald (pc := 59) h dX6_lays_59 (mA_52 hM).2.1 (mA_52 hM).2.2 ?_
        refine v_aload_n (pc := 60) h dX6_lays_60 0 rfl rfl ?_
        refine v_aload_n (pc := 61) h dX6_lays_61 0 rfl rfl ?_
        refine v_getp (pc := 62) h dX6_lays_62 fX6_101 rfl hM.1 (mA_54 hM).1 ?_
        refine v_iload (pc := 65) h dX6_lays_65 4 rfl ?_
        refine v_iald (pc := 67) h dX6_lays_67 (mA_54 hM).2.1 (mA_54 hM).2.2 ?_
        refine v_aload_n (pc := 68) h dX6_lays_68 0 rfl rfl ?_
        refine v_geti (pc := 69) h dX6_lays_69 fX6_448 rfl hM.1 ?_
        refine v_callp (pc := 72) h dX6_lays_72 kX6_451 rfl hM.1 (tX6_needOf hM (I1 (mo + 30) i4_7.toNatClampNeg) (I1 mo 53) I1) (by decide) rfl rfl (Nat.le_of_ble_eq_true rfl) rfl (fun r9 => ?_)
        refine v_idiv (pc := 75) h dX6_lays_75 ?_
        refine v_callp (pc := 76) h dX6_lays_76 kX6_353 rfl hM.1 (tX6_lesser hM i2_5 ((I1 (mo + 29) (I1 (mo + 30) i4_7.toNatClampNeg).toNatClampNeg) / r9) I1) (by decide) rfl rfl (Nat.le_of_ble_eq_true rfl) rfl (fun r10 => ?_)
        refine v_istore_n (pc := 79) h dX6_lays_79 rfl (by decide) (lv' := [(2, .int r10), (0, .ref mo), (1, .int a1), (3, .int i3_6), (4, .int i4_7)]) rfl ?_
        refine v_iload_n (pc := 80) h dX6_lays_80 3 rfl rfl ?_
        refine v_iload (pc := 81) h dX6_lays_81 4 rfl ?_
        refine v_iconst (pc := 83) h dX6_lays_83 (v := 1) rfl ?_
        refine v_iadd (pc := 84) h dX6_lays_84 ?_
        refine v_imul (pc := 85) h dX6_lays_85 ?_
        refine v_aload_n (pc := 86) h dX6_lays_86 1 rfl rfl ?_
        refine v_aload_n (pc := 87) h dX6_lays_87 1 rfl rfl ?_
        refine v_getp (pc := 88) h dX6_lays_88 fX6_101 rfl hM.1 (mA_54 hM).1 ?_
        refine v_iload (pc := 91) h dX6_lays_91 4 rfl ?_
        refine v_iald (pc := 93) h dX6_lays_93 (mA_54 hM).2.1 (mA_54 hM).2.2 ?_
        refine v_iload (pc := 94) h dX6_lays_94 4 rfl ?_
        refine v_iconst (pc := 96) h dX6_lays_96 (v := 1) rfl ?_
        refine v_iadd (pc := 97) h dX6_lays_97 ?_
        refine v_callp (pc := 98) h dX6_lays_98 kX6_451 rfl hM.1 (tX6_needOf hM (I1 (mo + 30) i4_7.toNatClampNeg) (i4_7 + (1 : Int32)) I1) (by decide) rfl rfl (Nat.le_of_ble_eq_true rfl) rfl (fun r11 => ?_)
        refine v_idiv (pc := 101) h dX6_lays_101 ?_
        refine v_nmi (fun v12 => ?_)
        refine v_istore_n (pc := 102) h dX6_lays_102 rfl (by decide) (lv' := [(3, .int v12), (2, .int r10), (0, .ref mo), (1, .int a1), (4, .int i4_7)]) rfl ?_
        refine v_iinc (pc := 103) h dX6_lays_103 4 rfl (w := (i4_7 + (1 : Int32))) rfl (by decide) (lv' := [(4, .int (i4_7 + (1 : Int32))), (3, .int v12), (2, .int r10), (0, .ref mo), (1, .int a1)]) rfl ?_
        refine v_goto (pc := 106) (t := 37) h dX6_lays_106 rfl ?_
        refine v_sub [3, 4, 2, 1, 0] rfl ?_
        exact hX8 r10 v12 (i4_7 + (1 : Int32))
  · refine v_iconst (pc := 15) h dX6_lays_15 (v := (-1)) rfl ?_
    exact v_iret (pc := 16) h hr dX6_lays_16
set_option maxHeartbeats 4000000 in
theorem tX6_answer {g : Gl} {mo : Nat} {r : Rh} (hM : MStr mo r) (a1 : Int32) (a2 : Int32) (I : MI) : CtI g yX6_answer cX6_answer 4 (some .int) 1 [.ref mo, .int a1, .int a2] I r (pX6_answer mo a1 a2 I) := by
  refine CtI.mk (lv := [(0, .ref mo), (1, .int a1), (2, .int a2)]) (by decide) (Nat.le_of_ble_eq_true rfl) rfl (fun x Q h hr => ?_)
  unfold pX6_answer
  refine v_aload_n (pc := 0) h dX6_answer_0 0 rfl rfl ?_
  refine v_iconst (pc := 1) h dX6_answer_1 (v := 0) rfl ?_
  refine v_puti (pc := 2) h dX6_answer_2 fX6_116 rfl hM.1 ?_
  refine v_nmI (fun I1 => ?_)
  refine v_iload_n (pc := 5) h dX6_answer_5 1 rfl rfl ?_
  refine v_iconst (pc := 6) h dX6_answer_6 (v := (-1)) rfl ?_
  refine v_icmp_ne (pc := 7) (t := 38) h dX6_answer_7 rfl (fun _ => ?_) (fun _ => ?_)
  · refine v_aload_n (pc := 38) h dX6_answer_38 0 rfl rfl ?_
    refine v_iload_n (pc := 39) h dX6_answer_39 1 rfl rfl ?_
    refine v_iconst (pc := 40) h dX6_answer_40 (v := 0) rfl ?_
    refine v_bipush (pc := 41) h dX6_answer_41 (v := 6) rfl ?_
    refine v_callp (pc := 43) h dX6_answer_43 kX6_143 rfl hM.1 (tX6_isIn hM a1 (0 : Int32) (6 : Int32) I1) (by decide) rfl rfl (Nat.le_of_ble_eq_true rfl) rfl (fun r2 => ?_)
    refine v_if_eq (pc := 46) (t := 69) h dX6_answer_46 rfl (fun _ => ?_) (fun _ => ?_)
    · refine v_iconst (pc := 69) h dX6_answer_69 (v := (-1)) rfl ?_
      exact v_iret (pc := 70) h hr dX6_answer_70
    · refine v_aload_n (pc := 49) h dX6_answer_49 0 rfl rfl ?_
      refine v_iload_n (pc := 50) h dX6_answer_50 2 rfl rfl ?_
      refine v_iconst (pc := 51) h dX6_answer_51 (v := 0) rfl ?_
      refine v_bipush (pc := 52) h dX6_answer_52 (v := 6) rfl ?_
      refine v_callp (pc := 54) h dX6_answer_54 kX6_143 rfl hM.1 (tX6_isIn hM a2 (0 : Int32) (6 : Int32) I1) (by decide) rfl rfl (Nat.le_of_ble_eq_true rfl) rfl (fun r3 => ?_)
      refine v_if_eq (pc := 57) (t := 69) h dX6_answer_57 rfl (fun _ => ?_) (fun _ => ?_)
      · refine v_iconst (pc := 69) h dX6_answer_69 (v := (-1)) rfl ?_
        exact v_iret (pc := 70) h hr dX6_answer_70
      · refine v_aload_n (pc := 60) h dX6_answer_60 0 rfl rfl ?_
        refine v_geti (pc := 61) h dX6_answer_61 fX6_454 rfl hM.1 ?_
        refine v_bipush (pc := 64) h dX6_answer_64 (v := 12) rfl ?_
        refine v_icmp_ne (pc := 66) (t := 71) h dX6_answer_66 rfl (fun _ => ?_) (fun _ => ?_)
        · refine v_aload_n (pc := 71) h dX6_answer_71 0 rfl rfl ?_
          refine v_getp (pc := 72) h dX6_answer_72 fX6_104 rfl hM.1 (mA_56 hM).1 ?_
          refine v_bipush (pc := 75) h dX6_answer_75 (v := 7) rfl ?_
          refine v_iload_n (pc := 77) h dX6_answer_77 1 rfl rfl ?_
          refine v_imul (pc := 78) h dX6_answer_78 ?_
          refine v_iload_n (pc := 79) h dX6_answer_79 2 rfl rfl ?_
          refine v_iadd (pc := 80) h dX6_answer_80 ?_
          refine v_aload_n (pc := 81) h dX6_answer_81 0 rfl rfl ?_
          refine v_getp (pc := 82) h dX6_answer_82 fX6_104 rfl hM.1 (mA_56 hM).1 ?_
          refine v_bipush (pc := 85) h dX6_answer_85 (v := 7) rfl ?_
          refine v_iload_n (pc := 87) h dX6_answer_87 1 rfl rfl ?_
          refine v_imul (pc := 88) h dX6_answer_88 ?_
          refine v_iload_n (pc := 89) h dX6_answer_89 2 rfl rfl ?_
          refine v_iadd (pc := 90) h dX6_answer_90 ?_
          refine v_iald (pc := 91) h dX6_answer_91 (mA_56 hM).2.1 (mA_56 hM).2.2 ?_
          refine v_iconst (pc := 92) h dX6_answer_92 (v := 1) rfl ?_
          refine v_iadd (pc := 93) h dX6_answer_93 ?_
          refine v_iast (pc := 94) h dX6_answer_94 (mA_56 hM).2.1 (mA_56 hM).2.2 ?_
          refine v_nmI (fun I4 => ?_)
          refine v_aload_n (pc := 95) h dX6_answer_95 0 rfl rfl ?_
          refine v_aload_n (pc := 96) h dX6_answer_96 0 rfl rfl ?_
          refine v_geti (pc := 97) h dX6_answer_97 fX6_454 rfl hM.1 ?_
          refine v_iconst (pc := 100) h dX6_answer_100 (v := 1) rfl ?_
          refine v_iadd (pc := 101) h dX6_answer_101 ?_
          refine v_puti (pc := 102) h dX6_answer_102 fX6_454 rfl hM.1 ?_
          refine v_nmI (fun I5 => ?_)
          refine v_aload_n (pc := 105) h dX6_answer_105 0 rfl rfl ?_
          refine v_geti (pc := 106) h dX6_answer_106 fX6_454 rfl hM.1 ?_
          exact v_iret (pc := 109) h hr dX6_answer_109
        · refine v_iconst (pc := 69) h dX6_answer_69 (v := (-1)) rfl ?_
          exact v_iret (pc := 70) h hr dX6_answer_70
  · refine v_aload_n (pc := 10) h dX6_answer_10 0 rfl rfl ?_
    refine v_iconst (pc := 11) h dX6_answer_11 (v := 0) rfl ?_
    refine v_puti (pc := 12) h dX6_answer_12 fX6_454 rfl hM.1 ?_
    refine v_nmI (fun I6 => ?_)
    refine v_iconst (pc := 15) h dX6_answer_15 (v := 0) rfl ?_
    refine v_istore_n (pc := 16) h dX6_answer_16 rfl (by decide) (lv' := [(3, .int (0 : Int32)), (0, .ref mo), (1, .int a1), (2, .int a2)]) rfl ?_
    refine v_sub [1, 0] rfl ?_
    refine L2.run (lv := fun i3_7 I8 => [(0, .ref mo), (3, .int i3_7)]) (st := fun i3_7 I8 => []) (Im := fun i3_7 I8 => I8) (r := fun i3_7 I8 => r) (fun X9 hX9 i3_7 I8 => ?_) (0 : Int32) I6
    refine v_iload_n (pc := 17) h dX6_answer_17 1 rfl rfl ?_
    refine v_bipush (pc := 18) h dX6_answer_18 (v := 49) rfl ?_
    refine v_icmp_ge (pc := 20) (t := 36) h dX6_answer_20 rfl (fun _ => ?_) (fun _ => ?_)
    · refine v_iconst (pc := 36) h dX6_answer_36 (v := 0) rfl ?_
      exact v_iret (pc := 37) h hr dX6_answer_37
    · refine v_aload_n (pc := 23) h dX6_answer_23 0 rfl rfl ?_
      refine v_getp (pc := 24) h dX6_answer_24 fX6_104 rfl hM.1 (mA_56 hM).1 ?_
      refine v_iload_n (pc := 27) h dX6_answer_27 1 rfl rfl ?_
      refine v_iconst (pc := 28) h dX6_answer_28 (v := 0) rfl ?_
      refine v_iast (pc := 29) h dX6_answer_29 (mA_56 hM).2.1 (mA_56 hM).2.2 ?_
      refine v_nmI (fun I10 => ?_)
      refine v_iinc (pc := 30) h dX6_answer_30 1 rfl (w := (i3_7 + (1 : Int32))) rfl (by decide) (lv' := [(3, .int (i3_7 + (1 : Int32))), (0, .ref mo)]) rfl ?_
      refine v_goto (pc := 33) (t := 17) h dX6_answer_33 rfl ?_
      refine v_sub [1, 0] rfl ?_
      exact hX9 (i3_7 + (1 : Int32)) I10
set_option maxHeartbeats 4000000 in
theorem tX6_likelyOf {g : Gl} {mo : Nat} {r : Rh} (hM : MStr mo r) (a1 : Int32) (I : MI) : CtP g yX6_likelyOf cX6_likelyOf 4 (some .int) 0 [.ref mo, .int a1] I r (pX6_likelyOf mo a1 I) := by
  refine CtP.mk (lv := [(0, .ref mo), (1, .int a1)]) (by decide) (Nat.le_of_ble_eq_true rfl) rfl (fun x Q h hr => ?_)
  unfold pX6_likelyOf
  refine v_iconst (pc := 0) h dX6_likelyOf_0 (v := (-1)) rfl ?_
  refine v_istore_n (pc := 1) h dX6_likelyOf_1 rfl (by decide) (lv' := [(2, .int (-1 : Int32)), (0, .ref mo), (1, .int a1)]) rfl ?_
  refine v_iconst (pc := 2) h dX6_likelyOf_2 (v := 0) rfl ?_
  refine v_istore_n (pc := 3) h dX6_likelyOf_3 rfl (by decide) (lv' := [(3, .int (0 : Int32)), (2, .int (-1 : Int32)), (0, .ref mo), (1, .int a1)]) rfl ?_
  refine v_sub [2, 3, 1, 0] rfl ?_
  refine L2.run (lv := fun i2_1 i3_2 => [(0, .ref mo), (1, .int a1), (2, .int i2_1), (3, .int i3_2)]) (st := fun i2_1 i3_2 => []) (Im := fun i2_1 i3_2 => I) (r := fun i2_1 i3_2 => r) (fun X3 hX3 i2_1 i3_2 => ?_) (-1 : Int32) (0 : Int32)
  refine v_iload_n (pc := 4) h dX6_likelyOf_4 3 rfl rfl ?_
  refine v_bipush (pc := 5) h dX6_likelyOf_5 (v := 7) rfl ?_
  refine v_icmp_ge (pc := 7) (t := 52) h dX6_likelyOf_7 rfl (fun _ => ?_) (fun _ => ?_)
  · refine v_iload_n (pc := 52) h dX6_likelyOf_52 2 rfl rfl ?_
    exact v_iretP (pc := 53) h hr dX6_likelyOf_53
  · refine v_aload_n (pc := 10) h dX6_likelyOf_10 0 rfl rfl ?_
    refine v_getp (pc := 11) h dX6_likelyOf_11 fX6_104 rfl hM.1 (mA_56 hM).1 ?_
    refine v_bipush (pc := 14) h dX6_likelyOf_14 (v := 7) rfl ?_
    refine v_iload_n (pc := 16) h dX6_likelyOf_16 1 rfl rfl ?_
    refine v_imul (pc := 17) h dX6_likelyOf_17 ?_
    refine v_iload_n (pc := 18) h dX6_likelyOf_18 3 rfl rfl ?_
    refine v_iadd (pc := 19) h dX6_likelyOf_19 ?_
    refine v_iald (pc := 20) h dX6_likelyOf_20 (mA_56 hM).2.1 (mA_56 hM).2.2 ?_
    refine v_iload_n (pc := 21) h dX6_likelyOf_21 2 rfl rfl ?_
    refine v_iconst (pc := 22) h dX6_likelyOf_22 (v := (-1)) rfl ?_
    refine v_jn1 (fun t4 => V g x 4 (0, 0) 41 [(0, .ref mo), (1, .int a1), (2, .int i2_1), (3, .int i3_2)] [.int t4, .int (I (mo + 31) (((7 : Int32) * a1) + i3_2).toNatClampNeg)] I r) (fun k5 hk5 => ?_) (fun t4 => ?_)
    · refine v_icmp_ne (pc := 23) (t := 30) h dX6_likelyOf_23 rfl (fun _ => ?_) (fun _ => ?_)
      · refine v_aload_n (pc := 30) h dX6_likelyOf_30 0 rfl rfl ?_
        refine v_getp (pc := 31) h dX6_likelyOf_31 fX6_104 rfl hM.1 (mA_56 hM).1 ?_
        refine v_bipush (pc := 34) h dX6_likelyOf_34 (v := 7) rfl ?_
        refine v_iload_n (pc := 36) h dX6_likelyOf_36 1 rfl rfl ?_
        refine v_imul (pc := 37) h dX6_likelyOf_37 ?_
        refine v_iload_n (pc := 38) h dX6_likelyOf_38 2 rfl rfl ?_
        refine v_iadd (pc := 39) h dX6_likelyOf_39 ?_
        refine v_iald (pc := 40) h dX6_likelyOf_40 (mA_56 hM).2.1 (mA_56 hM).2.2 ?_
        exact hk5 (I (mo + 31) (((7 : Int32) * a1) + i2_1).toNatClampNeg)
      · refine v_iconst (pc := 26) h dX6_likelyOf_26 (v := 0) rfl ?_
        refine v_goto (pc := 27) (t := 41) h dX6_likelyOf_27 rfl ?_
        exact hk5 (0 : Int32)
    · refine v_jn1 (fun v2_6 => V g x 4 (0, 0) 46 [(0, .ref mo), (1, .int a1), (2, .int v2_6), (3, .int i3_2)] [] I r) (fun k7 hk7 => ?_) (fun v2_6 => ?_)
      · refine v_icmp_le (pc := 41) (t := 46) h dX6_likelyOf_41 rfl (fun _ => ?_) (fun _ => ?_)
        · exact hk7 i2_1
        · refine v_iload_n (pc := 44) h dX6_likelyOf_44 3 rfl rfl ?_
          refine v_istore_n (pc := 45) h dX6_likelyOf_45 rfl (by decide) (lv' := [(2, .int i3_2), (0, .ref mo), (1, .int a1), (3, .int i3_2)]) rfl ?_
          refine v_sub [1, 2, 0, 3] rfl ?_
          exact hk7 i3_2
      · refine v_iinc (pc := 46) h dX6_likelyOf_46 3 rfl (w := (i3_2 + (1 : Int32))) rfl (by decide) (lv' := [(3, .int (i3_2 + (1 : Int32))), (0, .ref mo), (1, .int a1), (2, .int v2_6)]) rfl ?_
        refine v_goto (pc := 49) (t := 4) h dX6_likelyOf_49 rfl ?_
        refine v_sub [1, 2, 3, 0] rfl ?_
        exact hX3 v2_6 (i3_2 + (1 : Int32))
set_option maxHeartbeats 4000000 in
theorem tX6_followsOf {g : Gl} {mo : Nat} {r : Rh} (hM : MStr mo r) (a1 : Int32) (I : MI) : CtP g yX6_followsOf cX6_followsOf 5 (some .int) 1 [.ref mo, .int a1] I r (pX6_followsOf mo a1 I) := by
  refine CtP.mk (lv := [(0, .ref mo), (1, .int a1)]) (by decide) (Nat.le_of_ble_eq_true rfl) rfl (fun x Q h hr => ?_)
  unfold pX6_followsOf
  refine v_aload_n (pc := 0) h dX6_followsOf_0 0 rfl rfl ?_
  refine v_iload_n (pc := 1) h dX6_followsOf_1 1 rfl rfl ?_
  refine v_callp (pc := 2) h dX6_followsOf_2 kX6_457 rfl hM.1 (tX6_likelyOf hM a1 I) (by decide) rfl rfl (Nat.le_of_ble_eq_true rfl) rfl (fun r1 => ?_)
  refine v_iconst (pc := 5) h dX6_followsOf_5 (v := (-1)) rfl ?_
  refine v_icmp_ne (pc := 6) (t := 11) h dX6_followsOf_6 rfl (fun _ => ?_) (fun _ => ?_)
  · refine v_iconst (pc := 11) h dX6_followsOf_11 (v := 0) rfl ?_
    refine v_istore_n (pc := 12) h dX6_followsOf_12 rfl (by decide) (lv' := [(2, .int (0 : Int32)), (0, .ref mo), (1, .int a1)]) rfl ?_
    refine v_iload_n (pc := 13) h dX6_followsOf_13 2 rfl rfl ?_
    refine v_istore_n (pc := 14) h dX6_followsOf_14 rfl (by decide) (lv' := [(3, .int a1), (2, .int (0 : Int32)), (0, .ref mo), (1, .int a1)]) rfl ?_
    refine v_iconst (pc := 15) h dX6_followsOf_15 (v := 0) rfl ?_
    refine v_istore (pc := 16) h dX6_followsOf_16 (by decide) (lv' := [(4, .int (0 : Int32)), (3, .int a1), (2, .int (0 : Int32)), (0, .ref mo), (1, .int a1)]) rfl ?_
    refine v_sub [3, 2, 1, 0] rfl ?_
    refine L3.run (lv := fun i2_2 i3_3 i4_4 => [(0, .ref mo), (2, .int i2_2), (3, .int i3_3), (4, .int i4_4)]) (st := fun i2_2 i3_3 i4_4 => []) (Im := fun i2_2 i3_3 i4_4 => I) (r := fun i2_2 i3_3 i4_4 => r) (fun X5 hX5 i2_2 i3_3 i4_4 => ?_) (0 : Int32) a1 (0 : Int32)
    refine v_aload_n (pc := 18) h dX6_followsOf_18 0 rfl rfl ?_
    refine v_iload_n (pc := 19) h dX6_followsOf_19 1 rfl rfl ?_
    refine v_iload_n (pc := 20) h dX6_followsOf_20 2 rfl rfl ?_
    refine v_callp (pc := 21) h dX6_followsOf_21 kX6_377 rfl hM.1 (tX6_lies hM i2_2 i3_3 I) (by decide) rfl rfl (Nat.le_of_ble_eq_true rfl) rfl (fun r6 => ?_)
    refine v_if_ne (pc := 24) (t := 52) h dX6_followsOf_24 rfl (fun _ => ?_) (fun _ => ?_)
    · refine v_iload (pc := 52) h dX6_followsOf_52 3 rfl ?_
      exact v_iretP (pc := 54) h hr dX6_followsOf_54
    · refine v_iload_n (pc := 27) h dX6_followsOf_27 1 rfl rfl ?_
      refine v_iconst (pc := 28) h dX6_followsOf_28 (v := 1) rfl ?_
      refine v_iload_n (pc := 29) h dX6_followsOf_29 2 rfl rfl ?_
      refine v_ishl (pc := 30) h dX6_followsOf_30 ?_
      refine v_ior (pc := 31) h dX6_followsOf_31 ?_
      refine v_nmi (fun v7 => ?_)
      refine v_istore_n (pc := 32) h dX6_followsOf_32 rfl (by decide) (lv' := [(2, .int v7), (0, .ref mo), (3, .int i3_3), (4, .int i4_4)]) rfl ?_
      refine v_aload_n (pc := 33) h dX6_followsOf_33 1 rfl rfl ?_
      refine v_iload_n (pc := 34) h dX6_followsOf_34 2 rfl rfl ?_
      refine v_callp (pc := 35) h dX6_followsOf_35 kX6_457 rfl hM.1 (tX6_likelyOf hM i3_3 I) (by decide) rfl rfl (Nat.le_of_ble_eq_true rfl) rfl (fun r8 => ?_)
      refine v_istore_n (pc := 38) h dX6_followsOf_38 rfl (by decide) (lv' := [(3, .int r8), (2, .int v7), (0, .ref mo), (4, .int i4_4)]) rfl ?_
      refine v_iload (pc := 39) h dX6_followsOf_39 3 rfl ?_
      refine v_iconst (pc := 41) h dX6_followsOf_41 (v := 1) rfl ?_
      refine v_iadd (pc := 42) h dX6_followsOf_42 ?_
      refine v_nmi (fun v9 => ?_)
      refine v_istore (pc := 43) h dX6_followsOf_43 (by decide) (lv' := [(4, .int v9), (3, .int r8), (2, .int v7), (0, .ref mo)]) rfl ?_
      refine v_iload_n (pc := 45) h dX6_followsOf_45 1 rfl rfl ?_
      refine v_iconst (pc := 46) h dX6_followsOf_46 (v := (-1)) rfl ?_
      refine v_icmp_ne (pc := 47) (t := 18) h dX6_followsOf_47 rfl (fun _ => ?_) (fun _ => ?_)
      · refine v_sub [3, 2, 1, 0] rfl ?_
        exact hX5 v7 r8 v9
      · refine v_iconst (pc := 50) h dX6_followsOf_50 (v := (-1)) rfl ?_
        exact v_iretP (pc := 51) h hr dX6_followsOf_51
  · refine v_iconst (pc := 9) h dX6_followsOf_9 (v := 0) rfl ?_
    exact v_iretP (pc := 10) h hr dX6_followsOf_10
set_option maxHeartbeats 4000000 in
theorem tX6_likely {g : Gl} {mo : Nat} {r : Rh} (hM : MStr mo r) (a1 : Int32) (a2 : Int32) (I : MI) : CtI g yX6_likely cX6_likely 3 (some .int) 2 [.ref mo, .int a1, .int a2] I r (pX6_likely mo a1 a2 I) := by
  refine CtI.mk (lv := [(0, .ref mo), (1, .int a1), (2, .int a2)]) (by decide) (Nat.le_of_ble_eq_true rfl) rfl (fun x Q h hr => ?_)
  unfold pX6_likely
  refine v_aload_n (pc := 0) h dX6_likely_0 0 rfl rfl ?_
  refine v_iconst (pc := 1) h dX6_likely_1 (v := 0) rfl ?_
  refine v_puti (pc := 2) h dX6_likely_2 fX6_116 rfl hM.1 ?_
  refine v_nmI (fun I1 => ?_)
  refine v_aload_n (pc := 5) h dX6_likely_5 0 rfl rfl ?_
  refine v_iload_n (pc := 6) h dX6_likely_6 1 rfl rfl ?_
  refine v_iconst (pc := 7) h dX6_likely_7 (v := 0) rfl ?_
  refine v_bipush (pc := 8) h dX6_likely_8 (v := 6) rfl ?_
  refine v_callp (pc := 10) h dX6_likely_10 kX6_143 rfl hM.1 (tX6_isIn hM a1 (0 : Int32) (6 : Int32) I1) (by decide) rfl rfl (Nat.le_of_ble_eq_true rfl) rfl (fun r2 => ?_)
  refine v_if_eq (pc := 13) (t := 26) h dX6_likely_13 rfl (fun _ => ?_) (fun _ => ?_)
  · refine v_iconst (pc := 26) h dX6_likely_26 (v := (-1)) rfl ?_
    exact v_iret (pc := 27) h hr dX6_likely_27
  · refine v_aload_n (pc := 16) h dX6_likely_16 0 rfl rfl ?_
    refine v_iload_n (pc := 17) h dX6_likely_17 2 rfl rfl ?_
    refine v_iconst (pc := 18) h dX6_likely_18 (v := 0) rfl ?_
    refine v_iconst (pc := 19) h dX6_likely_19 (v := 1) rfl ?_
    refine v_callp (pc := 20) h dX6_likely_20 kX6_143 rfl hM.1 (tX6_isIn hM a2 (0 : Int32) (1 : Int32) I1) (by decide) rfl rfl (Nat.le_of_ble_eq_true rfl) rfl (fun r3 => ?_)
    refine v_if_ne (pc := 23) (t := 28) h dX6_likely_23 rfl (fun _ => ?_) (fun _ => ?_)
    · refine v_iload_n (pc := 28) h dX6_likely_28 2 rfl rfl ?_
      refine v_if_ne (pc := 29) (t := 40) h dX6_likely_29 rfl (fun _ => ?_) (fun _ => ?_)
      · refine v_aload_n (pc := 40) h dX6_likely_40 0 rfl rfl ?_
        refine v_iload_n (pc := 41) h dX6_likely_41 1 rfl rfl ?_
        refine v_callp (pc := 42) h dX6_likely_42 kX6_460 rfl hM.1 (tX6_followsOf hM a1 I1) (by decide) rfl rfl (Nat.le_of_ble_eq_true rfl) rfl (fun r4 => ?_)
        exact v_iret (pc := 45) h hr dX6_likely_45
      · refine v_aload_n (pc := 32) h dX6_likely_32 0 rfl rfl ?_
        refine v_iload_n (pc := 33) h dX6_likely_33 1 rfl rfl ?_
        refine v_callp (pc := 34) h dX6_likely_34 kX6_457 rfl hM.1 (tX6_likelyOf hM a1 I1) (by decide) rfl rfl (Nat.le_of_ble_eq_true rfl) rfl (fun r5 => ?_)
        refine v_goto (pc := 37) (t := 45) h dX6_likely_37 rfl ?_
        exact v_iret (pc := 45) h hr dX6_likely_45
    · refine v_iconst (pc := 26) h dX6_likely_26 (v := (-1)) rfl ?_
      exact v_iret (pc := 27) h hr dX6_likely_27
set_option maxHeartbeats 4000000 in
theorem tX6_face {g : Gl} {mo : Nat} {r : Rh} (hM : MStr mo r) (a1 : Int32) (a2 : Int32) (I : MI) : CtI g yX6_face cX6_face 3 (some .int) 1 [.ref mo, .int a1, .int a2] I r (pX6_face mo a1 a2 I) := by
  refine CtI.mk (lv := [(0, .ref mo), (1, .int a1), (2, .int a2)]) (by decide) (Nat.le_of_ble_eq_true rfl) rfl (fun x Q h hr => ?_)
  unfold pX6_face
  refine v_aload_n (pc := 0) h dX6_face_0 0 rfl rfl ?_
  refine v_iconst (pc := 1) h dX6_face_1 (v := 0) rfl ?_
  refine v_puti (pc := 2) h dX6_face_2 fX6_116 rfl hM.1 ?_
  refine v_nmI (fun I1 => ?_)
  refine v_iload_n (pc := 5) h dX6_face_5 1 rfl rfl ?_
  refine v_iconst (pc := 6) h dX6_face_6 (v := (-1)) rfl ?_
  refine v_icmp_ne (pc := 7) (t := 17) h dX6_face_7 rfl (fun _ => ?_) (fun _ => ?_)
  · refine v_aload_n (pc := 17) h dX6_face_17 0 rfl rfl ?_
    refine v_iload_n (pc := 18) h dX6_face_18 1 rfl rfl ?_
    refine v_iconst (pc := 19) h dX6_face_19 (v := 0) rfl ?_
    refine v_bipush (pc := 20) h dX6_face_20 (v := 63) rfl ?_
    refine v_callp (pc := 22) h dX6_face_22 kX6_143 rfl hM.1 (tX6_isIn hM a1 (0 : Int32) (63 : Int32) I1) (by decide) rfl rfl (Nat.le_of_ble_eq_true rfl) rfl (fun r2 => ?_)
    refine v_if_eq (pc := 25) (t := 48) h dX6_face_25 rfl (fun _ => ?_) (fun _ => ?_)
    · refine v_iconst (pc := 48) h dX6_face_48 (v := (-1)) rfl ?_
      exact v_iret (pc := 49) h hr dX6_face_49
    · refine v_aload_n (pc := 28) h dX6_face_28 0 rfl rfl ?_
      refine v_iload_n (pc := 29) h dX6_face_29 2 rfl rfl ?_
      refine v_bipush (pc := 30) h dX6_face_30 (v := (-2)) rfl ?_
      refine v_iconst (pc := 32) h dX6_face_32 (v := 2) rfl ?_
      refine v_callp (pc := 33) h dX6_face_33 kX6_143 rfl hM.1 (tX6_isIn hM a2 (-2 : Int32) (2 : Int32) I1) (by decide) rfl rfl (Nat.le_of_ble_eq_true rfl) rfl (fun r3 => ?_)
      refine v_if_eq (pc := 36) (t := 48) h dX6_face_36 rfl (fun _ => ?_) (fun _ => ?_)
      · refine v_iconst (pc := 48) h dX6_face_48 (v := (-1)) rfl ?_
        exact v_iret (pc := 49) h hr dX6_face_49
      · refine v_aload_n (pc := 39) h dX6_face_39 0 rfl rfl ?_
        refine v_geti (pc := 40) h dX6_face_40 fX6_463 rfl hM.1 ?_
        refine v_bipush (pc := 43) h dX6_face_43 (v := 8) rfl ?_
        refine v_icmp_ne (pc := 45) (t := 50) h dX6_face_45 rfl (fun _ => ?_) (fun _ => ?_)
        · refine v_aload_n (pc := 50) h dX6_face_50 0 rfl rfl ?_
          refine v_getp (pc := 51) h dX6_face_51 fX6_107 rfl hM.1 (mA_58 hM).1 ?_
          refine v_aload_n (pc := 54) h dX6_face_54 0 rfl rfl ?_
          refine v_geti (pc := 55) h dX6_face_55 fX6_463 rfl hM.1 ?_
          refine v_iload_n (pc := 58) h dX6_face_58 1 rfl rfl ?_
          refine v_iast (pc := 59) h dX6_face_59 (mA_58 hM).2.1 (mA_58 hM).2.2 ?_
          refine v_nmI (fun I4 => ?_)
          refine v_aload_n (pc := 60) h dX6_face_60 0 rfl rfl ?_
          refine v_getp (pc := 61) h dX6_face_61 fX6_110 rfl hM.1 (mA_59 hM).1 ?_
          refine v_aload_n (pc := 64) h dX6_face_64 0 rfl rfl ?_
          refine v_geti (pc := 65) h dX6_face_65 fX6_463 rfl hM.1 ?_
          refine v_iload_n (pc := 68) h dX6_face_68 2 rfl rfl ?_
          refine v_iast (pc := 69) h dX6_face_69 (mA_59 hM).2.1 (mA_59 hM).2.2 ?_
          refine v_nmI (fun I5 => ?_)
          refine v_aload_n (pc := 70) h dX6_face_70 0 rfl rfl ?_
          refine v_aload_n (pc := 71) h dX6_face_71 0 rfl rfl ?_
          refine v_geti (pc := 72) h dX6_face_72 fX6_463 rfl hM.1 ?_
          refine v_iconst (pc := 75) h dX6_face_75 (v := 1) rfl ?_
          refine v_iadd (pc := 76) h dX6_face_76 ?_
          refine v_puti (pc := 77) h dX6_face_77 fX6_463 rfl hM.1 ?_
          refine v_nmI (fun I6 => ?_)
          refine v_aload_n (pc := 80) h dX6_face_80 0 rfl rfl ?_
          refine v_geti (pc := 81) h dX6_face_81 fX6_463 rfl hM.1 ?_
          exact v_iret (pc := 84) h hr dX6_face_84
        · refine v_iconst (pc := 48) h dX6_face_48 (v := (-1)) rfl ?_
          exact v_iret (pc := 49) h hr dX6_face_49
  · refine v_aload_n (pc := 10) h dX6_face_10 0 rfl rfl ?_
    refine v_iconst (pc := 11) h dX6_face_11 (v := 0) rfl ?_
    refine v_puti (pc := 12) h dX6_face_12 fX6_463 rfl hM.1 ?_
    refine v_nmI (fun I7 => ?_)
    refine v_iconst (pc := 15) h dX6_face_15 (v := 0) rfl ?_
    exact v_iret (pc := 16) h hr dX6_face_16
set_option maxHeartbeats 4000000 in
theorem tX6_changeUp {g : Gl} {mo : Nat} {r : Rh} (hM : MStr mo r) (a1 : Int32) (a2 : Int32) (I : MI) : CtP g yX6_changeUp cX6_changeUp 3 (some .int) 0 [.ref mo, .int a1, .int a2] I r (pX6_changeUp mo a1 a2 I) := by
  refine CtP.mk (lv := [(0, .ref mo), (1, .int a1), (2, .int a2)]) (by decide) (Nat.le_of_ble_eq_true rfl) rfl (fun x Q h hr => ?_)
  unfold pX6_changeUp
  refine v_iload_n (pc := 0) h dX6_changeUp_0 1 rfl rfl ?_
  refine v_iconst (pc := 1) h dX6_changeUp_1 (v := 2) rfl ?_
  refine v_iload_n (pc := 2) h dX6_changeUp_2 2 rfl rfl ?_
  refine v_imul (pc := 3) h dX6_changeUp_3 ?_
  refine v_ishr (pc := 4) h dX6_changeUp_4 ?_
  refine v_iconst (pc := 5) h dX6_changeUp_5 (v := 3) rfl ?_
  refine v_iand (pc := 6) h dX6_changeUp_6 ?_
  exact v_iretP (pc := 7) h hr dX6_changeUp_7
set_option maxHeartbeats 4000000 in
theorem tX6_canBe {g : Gl} {mo : Nat} {r : Rh} (hM : MStr mo r) (a1 : Int32) (I : MI) : CtP g yX6_canBe cX6_canBe 5 (some .boolean) 1 [.ref mo, .int a1] I r (pX6_canBe mo a1 I) := by
  refine CtP.mk (lv := [(0, .ref mo), (1, .int a1)]) (by decide) (Nat.le_of_ble_eq_true rfl) rfl (fun x Q h hr => ?_)
  unfold pX6_canBe
  refine v_iconst (pc := 0) h dX6_canBe_0 (v := 0) rfl ?_
  refine v_istore_n (pc := 1) h dX6_canBe_1 rfl (by decide) (lv' := [(2, .int (0 : Int32)), (0, .ref mo), (1, .int a1)]) rfl ?_
  refine v_sub [1, 2, 0] rfl ?_
  refine L1.run (lv := fun i2_1 => [(0, .ref mo), (1, .int a1), (2, .int i2_1)]) (st := fun i2_1 => []) (Im := fun i2_1 => I) (r := fun i2_1 => r) (fun X2 hX2 i2_1 => ?_) (0 : Int32)
  refine v_iload_n (pc := 2) h dX6_canBe_2 2 rfl rfl ?_
  refine v_aload_n (pc := 3) h dX6_canBe_3 0 rfl rfl ?_
  refine v_geti (pc := 4) h dX6_canBe_4 fX6_463 rfl hM.1 ?_
  refine v_icmp_ge (pc := 7) (t := 73) h dX6_canBe_7 rfl (fun _ => ?_) (fun _ => ?_)
  · refine v_iconst (pc := 73) h dX6_canBe_73 (v := 1) rfl ?_
    exact v_zretP (pc := 74) h hr (Or.inr rfl) dX6_canBe_74
  · refine v_iconst (pc := 10) h dX6_canBe_10 (v := 0) rfl ?_
    refine v_istore_n (pc := 11) h dX6_canBe_11 rfl (by decide) (lv' := [(3, .int (0 : Int32)), (0, .ref mo), (1, .int a1), (2, .int i2_1)]) rfl ?_
    refine v_iconst (pc := 12) h dX6_canBe_12 (v := 0) rfl ?_
    refine v_istore (pc := 13) h dX6_canBe_13 (by decide) (lv' := [(4, .int (0 : Int32)), (3, .int (0 : Int32)), (0, .ref mo), (1, .int a1), (2, .int i2_1)]) rfl ?_
    refine v_sub [2, 3, 4, 1, 0] rfl ?_
    refine L2.run (lv := fun i3_3 i4_4 => [(0, .ref mo), (1, .int a1), (2, .int i2_1), (3, .int i3_3), (4, .int i4_4)]) (st := fun i3_3 i4_4 => []) (Im := fun i3_3 i4_4 => I) (r := fun i3_3 i4_4 => r) (fun X5 hX5 i3_3 i4_4 => ?_) (0 : Int32) (0 : Int32)
    refine v_iload (pc := 15) h dX6_canBe_15 4 rfl ?_
    refine v_bipush (pc := 17) h dX6_canBe_17 (v := 6) rfl ?_
    refine v_icmp_ge (pc := 19) (t := 55) h dX6_canBe_19 rfl (fun _ => ?_) (fun _ => ?_)
    · refine v_iload_n (pc := 55) h dX6_canBe_55 3 rfl rfl ?_
      refine v_aload_n (pc := 56) h dX6_canBe_56 0 rfl rfl ?_
      refine v_getp (pc := 57) h dX6_canBe_57 fX6_110 rfl hM.1 (mA_59 hM).1 ?_
      refine v_iload_n (pc := 60) h dX6_canBe_60 2 rfl rfl ?_
      refine v_iald (pc := 61) h dX6_canBe_61 (mA_59 hM).2.1 (mA_59 hM).2.2 ?_
      refine v_icmp_eq (pc := 62) (t := 67) h dX6_canBe_62 rfl (fun _ => ?_) (fun _ => ?_)
      · refine v_iinc (pc := 67) h dX6_canBe_67 2 rfl (w := (i2_1 + (1 : Int32))) rfl (by decide) (lv' := [(2, .int (i2_1 + (1 : Int32))), (0, .ref mo), (1, .int a1), (3, .int i3_3), (4, .int i4_4)]) rfl ?_
        refine v_goto (pc := 70) (t := 2) h dX6_canBe_70 rfl ?_
        refine v_sub [1, 2, 0] rfl ?_
        exact hX2 (i2_1 + (1 : Int32))
      · refine v_iconst (pc := 65) h dX6_canBe_65 (v := 0) rfl ?_
        exact v_zretP (pc := 66) h hr (Or.inl rfl) dX6_canBe_66
    · refine v_aload_n (pc := 22) h dX6_canBe_22 0 rfl rfl ?_
      refine v_aload_n (pc := 23) h dX6_canBe_23 0 rfl rfl ?_
      refine v_getp (pc := 24) h dX6_canBe_24 fX6_107 rfl hM.1 (mA_58 hM).1 ?_
      refine v_iload_n (pc := 27) h dX6_canBe_27 2 rfl rfl ?_
      refine v_iald (pc := 28) h dX6_canBe_28 (mA_58 hM).2.1 (mA_58 hM).2.2 ?_
      refine v_iload (pc := 29) h dX6_canBe_29 4 rfl ?_
      refine v_callp (pc := 31) h dX6_canBe_31 kX6_377 rfl hM.1 (tX6_lies hM (I (mo + 32) i2_1.toNatClampNeg) i4_4 I) (by decide) rfl rfl (Nat.le_of_ble_eq_true rfl) rfl (fun r6 => ?_)
      refine v_jn1 (fun v3_7 => V g x 5 (0, 0) 49 [(0, .ref mo), (1, .int a1), (2, .int i2_1), (3, .int v3_7), (4, .int i4_4)] [] I r) (fun k8 hk8 => ?_) (fun v3_7 => ?_)
      · refine v_if_eq (pc := 34) (t := 49) h dX6_canBe_34 rfl (fun _ => ?_) (fun _ => ?_)
        · exact hk8 i3_3
        · refine v_iload_n (pc := 37) h dX6_canBe_37 3 rfl rfl ?_
          refine v_aload_n (pc := 38) h dX6_canBe_38 0 rfl rfl ?_
          refine v_iload_n (pc := 39) h dX6_canBe_39 1 rfl rfl ?_
          refine v_iload (pc := 40) h dX6_canBe_40 4 rfl ?_
          refine v_callp (pc := 42) h dX6_canBe_42 kX6_466 rfl hM.1 (tX6_changeUp hM a1 i4_4 I) (by decide) rfl rfl (Nat.le_of_ble_eq_true rfl) rfl (fun r9 => ?_)
          refine v_iadd (pc := 45) h dX6_canBe_45 ?_
          refine v_iconst (pc := 46) h dX6_canBe_46 (v := 1) rfl ?_
          refine v_isub (pc := 47) h dX6_canBe_47 ?_
          refine v_nmi (fun v10 => ?_)
          refine v_istore_n (pc := 48) h dX6_canBe_48 rfl (by decide) (lv' := [(3, .int v10), (0, .ref mo), (1, .int a1), (2, .int i2_1), (4, .int i4_4)]) rfl ?_
          refine v_sub [1, 2, 3, 0, 4] rfl ?_
          exact hk8 v10
      · refine v_iinc (pc := 49) h dX6_canBe_49 4 rfl (w := (i4_4 + (1 : Int32))) rfl (by decide) (lv' := [(4, .int (i4_4 + (1 : Int32))), (0, .ref mo), (1, .int a1), (2, .int i2_1), (3, .int v3_7)]) rfl ?_
        refine v_goto (pc := 52) (t := 15) h dX6_canBe_52 rfl ?_
        refine v_sub [1, 2, 3, 4, 0] rfl ?_
        exact hX5 v3_7 (i4_4 + (1 : Int32))
set_option maxHeartbeats 4000000 in
theorem tX6_kindsFor {g : Gl} {mo : Nat} {r : Rh} (hM : MStr mo r) (a1 : Int32) (I : MI) : CtP g yX6_kindsFor cX6_kindsFor 4 (some .int) 1 [.ref mo, .int a1] I r (pX6_kindsFor mo a1 I) := by
  refine CtP.mk (lv := [(0, .ref mo), (1, .int a1)]) (by decide) (Nat.le_of_ble_eq_true rfl) rfl (fun x Q h hr => ?_)
  unfold pX6_kindsFor
  refine v_iconst (pc := 0) h dX6_kindsFor_0 (v := 1) rfl ?_
  refine v_istore_n (pc := 1) h dX6_kindsFor_1 rfl (by decide) (lv' := [(2, .int (1 : Int32)), (0, .ref mo), (1, .int a1)]) rfl ?_
  refine v_iconst (pc := 2) h dX6_kindsFor_2 (v := 0) rfl ?_
  refine v_istore_n (pc := 3) h dX6_kindsFor_3 rfl (by decide) (lv' := [(3, .int (0 : Int32)), (2, .int (1 : Int32)), (0, .ref mo), (1, .int a1)]) rfl ?_
  refine v_sub [2, 3, 1, 0] rfl ?_
  refine L2.run (lv := fun i2_1 i3_2 => [(0, .ref mo), (1, .int a1), (2, .int i2_1), (3, .int i3_2)]) (st := fun i2_1 i3_2 => []) (Im := fun i2_1 i3_2 => I) (r := fun i2_1 i3_2 => r) (fun X3 hX3 i2_1 i3_2 => ?_) (1 : Int32) (0 : Int32)
  refine v_iload_n (pc := 4) h dX6_kindsFor_4 3 rfl rfl ?_
  refine v_bipush (pc := 5) h dX6_kindsFor_5 (v := 6) rfl ?_
  refine v_icmp_ge (pc := 7) (t := 47) h dX6_kindsFor_7 rfl (fun _ => ?_) (fun _ => ?_)
  · refine v_iload_n (pc := 47) h dX6_kindsFor_47 2 rfl rfl ?_
    exact v_iretP (pc := 48) h hr dX6_kindsFor_48
  · refine v_iload_n (pc := 10) h dX6_kindsFor_10 2 rfl rfl ?_
    refine v_aload_n (pc := 11) h dX6_kindsFor_11 0 rfl rfl ?_
    refine v_iload_n (pc := 12) h dX6_kindsFor_12 1 rfl rfl ?_
    refine v_iload_n (pc := 13) h dX6_kindsFor_13 3 rfl rfl ?_
    refine v_callp (pc := 14) h dX6_kindsFor_14 kX6_466 rfl hM.1 (tX6_changeUp hM a1 i3_2 I) (by decide) rfl rfl (Nat.le_of_ble_eq_true rfl) rfl (fun r4 => ?_)
    refine v_jn1 (fun t5 => V g x 4 (0, 0) 39 [(0, .ref mo), (1, .int a1), (3, .int i3_2)] [.int t5, .int i2_1] I r) (fun k6 hk6 => ?_) (fun t5 => ?_)
    · refine v_if_ne (pc := 17) (t := 24) h dX6_kindsFor_17 rfl (fun _ => ?_) (fun _ => ?_)
      · refine v_aload_n (pc := 24) h dX6_kindsFor_24 0 rfl rfl ?_
        refine v_iload_n (pc := 25) h dX6_kindsFor_25 1 rfl rfl ?_
        refine v_iload_n (pc := 26) h dX6_kindsFor_26 3 rfl rfl ?_
        refine v_callp (pc := 27) h dX6_kindsFor_27 kX6_466 rfl hM.1 (tX6_changeUp hM a1 i3_2 I) (by decide) rfl rfl (Nat.le_of_ble_eq_true rfl) rfl (fun r7 => ?_)
        refine v_iconst (pc := 30) h dX6_kindsFor_30 (v := 1) rfl ?_
        refine v_icmp_ne (pc := 31) (t := 38) h dX6_kindsFor_31 rfl (fun _ => ?_) (fun _ => ?_)
        · refine v_iconst (pc := 38) h dX6_kindsFor_38 (v := 1) rfl ?_
          refine v_sub [0, 1, 3] rfl ?_
          exact hk6 (1 : Int32)
        · refine v_iconst (pc := 34) h dX6_kindsFor_34 (v := 2) rfl ?_
          refine v_goto (pc := 35) (t := 39) h dX6_kindsFor_35 rfl ?_
          refine v_sub [0, 1, 3] rfl ?_
          exact hk6 (2 : Int32)
      · refine v_iconst (pc := 20) h dX6_kindsFor_20 (v := 3) rfl ?_
        refine v_goto (pc := 21) (t := 39) h dX6_kindsFor_21 rfl ?_
        refine v_sub [0, 1, 3] rfl ?_
        exact hk6 (3 : Int32)
    · refine v_imul (pc := 39) h dX6_kindsFor_39 ?_
      refine v_nmi (fun v8 => ?_)
      refine v_istore_n (pc := 40) h dX6_kindsFor_40 rfl (by decide) (lv' := [(2, .int v8), (0, .ref mo), (1, .int a1), (3, .int i3_2)]) rfl ?_
      refine v_iinc (pc := 41) h dX6_kindsFor_41 3 rfl (w := (i3_2 + (1 : Int32))) rfl (by decide) (lv' := [(3, .int (i3_2 + (1 : Int32))), (2, .int v8), (0, .ref mo), (1, .int a1)]) rfl ?_
      refine v_goto (pc := 44) (t := 4) h dX6_kindsFor_44 rfl ?_
      refine v_sub [2, 3, 1, 0] rfl ?_
      exact hX3 v8 (i3_2 + (1 : Int32))
set_option maxHeartbeats 4000000 in
theorem tX6_faces {g : Gl} {mo : Nat} {r : Rh} (hM : MStr mo r) (a1 : Int32) (I : MI) : CtI g yX6_faces cX6_faces 7 (some .int) 2 [.ref mo, .int a1] I r (pX6_faces mo a1 I) := by
  refine CtI.mk (lv := [(0, .ref mo), (1, .int a1)]) (by decide) (Nat.le_of_ble_eq_true rfl) rfl (fun x Q h hr => ?_)
  unfold pX6_faces
  refine v_aload_n (pc := 0) h dX6_faces_0 0 rfl rfl ?_
  refine v_iconst (pc := 1) h dX6_faces_1 (v := 0) rfl ?_
  refine v_puti (pc := 2) h dX6_faces_2 fX6_116 rfl hM.1 ?_
  refine v_nmI (fun I1 => ?_)
  refine v_aload_n (pc := 5) h dX6_faces_5 0 rfl rfl ?_
  refine v_iload_n (pc := 6) h dX6_faces_6 1 rfl rfl ?_
  refine v_iconst (pc := 7) h dX6_faces_7 (v := 0) rfl ?_
  refine v_iconst (pc := 8) h dX6_faces_8 (v := 1) rfl ?_
  refine v_callp (pc := 9) h dX6_faces_9 kX6_143 rfl hM.1 (tX6_isIn hM a1 (0 : Int32) (1 : Int32) I1) (by decide) rfl rfl (Nat.le_of_ble_eq_true rfl) rfl (fun r2 => ?_)
  refine v_if_ne (pc := 12) (t := 17) h dX6_faces_12 rfl (fun _ => ?_) (fun _ => ?_)
  · refine v_iconst (pc := 17) h dX6_faces_17 (v := 0) rfl ?_
    refine v_istore_n (pc := 18) h dX6_faces_18 rfl (by decide) (lv' := [(2, .int (0 : Int32)), (0, .ref mo), (1, .int a1)]) rfl ?_
    refine v_iconst (pc := 19) h dX6_faces_19 (v := (-1)) rfl ?_
    refine v_istore_n (pc := 20) h dX6_faces_20 rfl (by decide) (lv' := [(3, .int (-1 : Int32)), (2, .int (0 : Int32)), (0, .ref mo), (1, .int a1)]) rfl ?_
    refine v_iconst (pc := 21) h dX6_faces_21 (v := 0) rfl ?_
    refine v_istore (pc := 22) h dX6_faces_22 (by decide) (lv' := [(4, .int (0 : Int32)), (3, .int (-1 : Int32)), (2, .int (0 : Int32)), (0, .ref mo), (1, .int a1)]) rfl ?_
    refine v_iconst (pc := 24) h dX6_faces_24 (v := 0) rfl ?_
    refine v_istore (pc := 25) h dX6_faces_25 (by decide) (lv' := [(5, .int (0 : Int32)), (4, .int (0 : Int32)), (3, .int (-1 : Int32)), (2, .int (0 : Int32)), (0, .ref mo), (1, .int a1)]) rfl ?_
    refine v_sub [4, 5, 3, 2, 1, 0] rfl ?_
    refine L4.run (lv := fun i2_3 i3_4 i4_5 i5_6 => [(0, .ref mo), (1, .int a1), (2, .int i2_3), (3, .int i3_4), (4, .int i4_5), (5, .int i5_6)]) (st := fun i2_3 i3_4 i4_5 i5_6 => []) (Im := fun i2_3 i3_4 i4_5 i5_6 => I1) (r := fun i2_3 i3_4 i4_5 i5_6 => r) (fun X7 hX7 i2_3 i3_4 i4_5 i5_6 => ?_) (0 : Int32) (-1 : Int32) (0 : Int32) (0 : Int32)
    refine v_iload (pc := 27) h dX6_faces_27 5 rfl ?_
    refine v_sipush (pc := 29) h dX6_faces_29 (v := 4096) rfl ?_
    refine v_icmp_ge (pc := 32) (t := 79) h dX6_faces_32 rfl (fun _ => ?_) (fun _ => ?_)
    · refine v_iload_n (pc := 79) h dX6_faces_79 1 rfl rfl ?_
      refine v_if_ne (pc := 80) (t := 85) h dX6_faces_80 rfl (fun _ => ?_) (fun _ => ?_)
      · refine v_iconst (pc := 85) h dX6_faces_85 (v := 0) rfl ?_
        refine v_istore (pc := 86) h dX6_faces_86 (by decide) (lv' := [(5, .int (0 : Int32)), (0, .ref mo), (1, .int a1), (2, .int i2_3), (3, .int i3_4), (4, .int i4_5)]) rfl ?_
        refine v_iconst (pc := 88) h dX6_faces_88 (v := 0) rfl ?_
        refine v_istore (pc := 89) h dX6_faces_89 (by decide) (lv' := [(6, .int (0 : Int32)), (5, .int (0 : Int32)), (0, .ref mo), (1, .int a1), (2, .int i2_3), (3, .int i3_4), (4, .int i4_5)]) rfl ?_
        refine v_sub [2, 5, 6, 1, 0] rfl ?_
        refine L2.run (lv := fun i5_8 i6_9 => [(0, .ref mo), (3, .int i3_4), (4, .int i4_5), (5, .int i5_8), (6, .int i6_9)]) (st := fun i5_8 i6_9 => []) (Im := fun i5_8 i6_9 => I1) (r := fun i5_8 i6_9 => r) (fun X10 hX10 i5_8 i6_9 => ?_) (0 : Int32) (0 : Int32)
        refine v_iload (pc := 91) h dX6_faces_91 4 rfl ?_
        refine v_bipush (pc := 93) h dX6_faces_93 (v := 6) rfl ?_
        refine v_icmp_ge (pc := 95) (t := 129) h dX6_faces_95 rfl (fun _ => ?_) (fun _ => ?_)
        · refine v_iload (pc := 129) h dX6_faces_129 3 rfl ?_
          exact v_iret (pc := 131) h hr dX6_faces_131
        · refine v_iload_n (pc := 98) h dX6_faces_98 1 rfl rfl ?_
          refine v_iconst (pc := 99) h dX6_faces_99 (v := (-1)) rfl ?_
          refine v_jn1 (fun v5_11 => V g x 7 (0, 0) 123 [(0, .ref mo), (3, .int i3_4), (4, .int i4_5), (5, .int v5_11), (6, .int i6_9)] [] I1 r) (fun k12 hk12 => ?_) (fun v5_11 => ?_)
          · refine v_icmp_eq (pc := 100) (t := 123) h dX6_faces_100 rfl (fun _ => ?_) (fun _ => ?_)
            · exact hk12 i5_8
            · refine v_aload_n (pc := 103) h dX6_faces_103 0 rfl rfl ?_
              refine v_iload (pc := 104) h dX6_faces_104 2 rfl ?_
              refine v_iload (pc := 106) h dX6_faces_106 4 rfl ?_
              refine v_callp (pc := 108) h dX6_faces_108 kX6_466 rfl hM.1 (tX6_changeUp hM i4_5 i6_9 I1) (by decide) rfl rfl (Nat.le_of_ble_eq_true rfl) rfl (fun r13 => ?_)
              refine v_if_ne (pc := 111) (t := 123) h dX6_faces_111 rfl (fun _ => ?_) (fun _ => ?_)
              · exact hk12 i5_8
              · refine v_iload (pc := 114) h dX6_faces_114 3 rfl ?_
                refine v_iconst (pc := 116) h dX6_faces_116 (v := 1) rfl ?_
                refine v_iload (pc := 117) h dX6_faces_117 4 rfl ?_
                refine v_ishl (pc := 119) h dX6_faces_119 ?_
                refine v_ior (pc := 120) h dX6_faces_120 ?_
                refine v_nmi (fun v14 => ?_)
                refine v_istore (pc := 121) h dX6_faces_121 (by decide) (lv' := [(5, .int v14), (0, .ref mo), (3, .int i3_4), (4, .int i4_5), (6, .int i6_9)]) rfl ?_
                refine v_sub [1, 2, 3, 0, 4] rfl ?_
                exact hk12 v14
          · refine v_iinc (pc := 123) h dX6_faces_123 4 rfl (w := (i6_9 + (1 : Int32))) rfl (by decide) (lv' := [(6, .int (i6_9 + (1 : Int32))), (0, .ref mo), (3, .int i3_4), (4, .int i4_5), (5, .int v5_11)]) rfl ?_
            refine v_goto (pc := 126) (t := 91) h dX6_faces_126 rfl ?_
            refine v_sub [1, 2, 3, 4, 0] rfl ?_
            exact hX10 v5_11 (i6_9 + (1 : Int32))
      · refine v_iload_n (pc := 83) h dX6_faces_83 2 rfl rfl ?_
        exact v_iret (pc := 84) h hr dX6_faces_84
    · refine v_aload_n (pc := 35) h dX6_faces_35 0 rfl rfl ?_
      refine v_iload (pc := 36) h dX6_faces_36 5 rfl ?_
      refine v_callp (pc := 38) h dX6_faces_38 kX6_469 rfl hM.1 (tX6_canBe hM i5_6 I1) (by decide) rfl rfl (Nat.le_of_ble_eq_true rfl) rfl (fun r15 => ?_)
      refine v_jn3 (fun v2_16 v3_17 v4_18 => V g x 7 (0, 0) 73 [(0, .ref mo), (1, .int a1), (2, .int v2_16), (3, .int v3_17), (4, .int v4_18), (5, .int i5_6)] [] I1 r) (fun k19 hk19 => ?_) (fun v2_16 v3_17 v4_18 => ?_)
      · refine v_if_ne (pc := 41) (t := 47) h dX6_faces_41 rfl (fun _ => ?_) (fun _ => ?_)
        · refine v_iload_n (pc := 47) h dX6_faces_47 3 rfl rfl ?_
          refine v_iconst (pc := 48) h dX6_faces_48 (v := (-1)) rfl ?_
          refine v_jn1 (fun v3_20 => V g x 7 (0, 0) 55 [(0, .ref mo), (1, .int a1), (2, .int i2_3), (3, .int v3_20), (4, .int i4_5), (5, .int i5_6)] [] I1 r) (fun k21 hk21 => ?_) (fun v3_20 => ?_)
          · refine v_icmp_ne (pc := 49) (t := 55) h dX6_faces_49 rfl (fun _ => ?_) (fun _ => ?_)
            · exact hk21 i3_4
            · refine v_iload (pc := 52) h dX6_faces_52 5 rfl ?_
              refine v_istore_n (pc := 54) h dX6_faces_54 rfl (by decide) (lv' := [(3, .int i5_6), (0, .ref mo), (1, .int a1), (2, .int i2_3), (4, .int i4_5), (5, .int i5_6)]) rfl ?_
              refine v_sub [1, 2, 3, 0, 4, 5] rfl ?_
              exact hk21 i5_6
          · refine v_iload (pc := 55) h dX6_faces_55 4 rfl ?_
            refine v_iload (pc := 57) h dX6_faces_57 5 rfl ?_
            refine v_iload_n (pc := 59) h dX6_faces_59 3 rfl rfl ?_
            refine v_ixor (pc := 60) h dX6_faces_60 ?_
            refine v_ior (pc := 61) h dX6_faces_61 ?_
            refine v_nmi (fun v22 => ?_)
            refine v_istore (pc := 62) h dX6_faces_62 (by decide) (lv' := [(4, .int v22), (0, .ref mo), (1, .int a1), (2, .int i2_3), (3, .int v3_20), (5, .int i5_6)]) rfl ?_
            refine v_iload_n (pc := 64) h dX6_faces_64 3 rfl rfl ?_
            refine v_aload_n (pc := 65) h dX6_faces_65 1 rfl rfl ?_
            refine v_iload (pc := 66) h dX6_faces_66 5 rfl ?_
            refine v_callp (pc := 68) h dX6_faces_68 kX6_472 rfl hM.1 (tX6_kindsFor hM i5_6 I1) (by decide) rfl rfl (Nat.le_of_ble_eq_true rfl) rfl (fun r23 => ?_)
            refine v_iadd (pc := 71) h dX6_faces_71 ?_
            refine v_nmi (fun v24 => ?_)
            refine v_istore_n (pc := 72) h dX6_faces_72 rfl (by decide) (lv' := [(2, .int v24), (4, .int v22), (0, .ref mo), (1, .int a1), (3, .int v3_20), (5, .int i5_6)]) rfl ?_
            refine v_sub [2, 3, 0, 4, 1, 5] rfl ?_
            exact hk19 v24 v3_20 v22
        · refine v_goto (pc := 44) (t := 73) h dX6_faces_44 rfl ?_
          exact hk19 i2_3 i3_4 i4_5
      · refine v_iinc (pc := 73) h dX6_faces_73 5 rfl (w := (i5_6 + (1 : Int32))) rfl (by decide) (lv' := [(5, .int (i5_6 + (1 : Int32))), (0, .ref mo), (1, .int a1), (2, .int v2_16), (3, .int v3_17), (4, .int v4_18)]) rfl ?_
        refine v_goto (pc := 76) (t := 27) h dX6_faces_76 rfl ?_
        refine v_sub [1, 2, 3, 4, 5, 0] rfl ?_
        exact hX7 v2_16 v3_17 v4_18 (i5_6 + (1 : Int32))
  · refine v_iconst (pc := 15) h dX6_faces_15 (v := (-1)) rfl ?_
    exact v_iret (pc := 16) h hr dX6_faces_16
set_option maxHeartbeats 4000000 in
theorem tX6_joy {g : Gl} {mo : Nat} {r : Rh} (hM : MStr mo r) (a1 : Int32) (I : MI) : CtI g yX6_joy cX6_joy 7 (some .int) 1 [.ref mo, .int a1] I r (pX6_joy mo a1 I) := by
  refine CtI.mk (lv := [(0, .ref mo), (1, .int a1)]) (by decide) (Nat.le_of_ble_eq_true rfl) rfl (fun x Q h hr => ?_)
  unfold pX6_joy
  refine v_aload_n (pc := 0) h dX6_joy_0 0 rfl rfl ?_
  refine v_iconst (pc := 1) h dX6_joy_1 (v := 0) rfl ?_
  refine v_puti (pc := 2) h dX6_joy_2 fX6_116 rfl hM.1 ?_
  refine v_nmI (fun I1 => ?_)
  refine v_aload_n (pc := 5) h dX6_joy_5 0 rfl rfl ?_
  refine v_geti (pc := 6) h dX6_joy_6 fX6_129 rfl hM.1 ?_
  refine v_jn0 (V g x 7 (0, 0) 22 [] [] I1 r) (fun k2 hk2 => ?_) ?_
  · refine v_if_eq (pc := 9) (t := 22) h dX6_joy_9 rfl (fun _ => ?_) (fun _ => ?_)
    · refine v_sub [] rfl ?_
      exact hk2
    · refine v_aload_n (pc := 12) h dX6_joy_12 0 rfl rfl ?_
      refine v_iload_n (pc := 13) h dX6_joy_13 1 rfl rfl ?_
      refine v_iconst (pc := 14) h dX6_joy_14 (v := 0) rfl ?_
      refine v_iconst (pc := 15) h dX6_joy_15 (v := 1) rfl ?_
      refine v_callp (pc := 16) h dX6_joy_16 kX6_143 rfl hM.1 (tX6_isIn hM a1 (0 : Int32) (1 : Int32) I1) (by decide) rfl rfl (Nat.le_of_ble_eq_true rfl) rfl (fun r3 => ?_)
      refine v_if_ne (pc := 19) (t := 25) h dX6_joy_19 rfl (fun _ => ?_) (fun _ => ?_)
      · refine v_ldcw (pc := 25) h dX6_joy_25 (v := (-100000000)) q2043 ?_
        refine v_istore_n (pc := 28) h dX6_joy_28 rfl (by decide) (lv' := [(2, .int (-100000000 : Int32)), (0, .ref mo), (1, .int a1)]) rfl ?_
        refine v_iconst (pc := 29) h dX6_joy_29 (v := 0) rfl ?_
        refine v_istore_n (pc := 30) h dX6_joy_30 rfl (by decide) (lv' := [(3, .int (0 : Int32)), (2, .int (-100000000 : Int32)), (0, .ref mo), (1, .int a1)]) rfl ?_
        refine v_iconst (pc := 31) h dX6_joy_31 (v := 0) rfl ?_
        refine v_istore (pc := 32) h dX6_joy_32 (by decide) (lv' := [(4, .int (0 : Int32)), (3, .int (0 : Int32)), (2, .int (-100000000 : Int32)), (0, .ref mo), (1, .int a1)]) rfl ?_
        refine v_sub [3, 4, 2, 1, 0] rfl ?_
        refine L3.run (lv := fun i2_4 i3_5 i4_6 => [(0, .ref mo), (1, .int a1), (2, .int i2_4), (3, .int i3_5), (4, .int i4_6)]) (st := fun i2_4 i3_5 i4_6 => []) (Im := fun i2_4 i3_5 i4_6 => I1) (r := fun i2_4 i3_5 i4_6 => r) (fun X7 hX7 i2_4 i3_5 i4_6 => ?_) (-100000000 : Int32) (0 : Int32) (0 : Int32)
        refine v_iload (pc := 34) h dX6_joy_34 4 rfl ?_
        refine v_aload_n (pc := 36) h dX6_joy_36 0 rfl rfl ?_
        refine v_geti (pc := 37) h dX6_joy_37 fX6_129 rfl hM.1 ?_
        refine v_icmp_ge (pc := 40) (t := 107) h dX6_joy_40 rfl (fun _ => ?_) (fun _ => ?_)
        · refine v_iload_n (pc := 107) h dX6_joy_107 1 rfl rfl ?_
          refine v_if_ne (pc := 108) (t := 115) h dX6_joy_108 rfl (fun _ => ?_) (fun _ => ?_)
          · refine v_iload_n (pc := 115) h dX6_joy_115 3 rfl rfl ?_
            exact v_iret (pc := 116) h hr dX6_joy_116
          · refine v_iload_n (pc := 111) h dX6_joy_111 2 rfl rfl ?_
            refine v_goto (pc := 112) (t := 116) h dX6_joy_112 rfl ?_
            exact v_iret (pc := 116) h hr dX6_joy_116
        · refine v_iconst (pc := 43) h dX6_joy_43 (v := 0) rfl ?_
          refine v_istore (pc := 44) h dX6_joy_44 (by decide) (lv' := [(5, .int (0 : Int32)), (0, .ref mo), (1, .int a1), (2, .int i2_4), (3, .int i3_5), (4, .int i4_6)]) rfl ?_
          refine v_iload (pc := 46) h dX6_joy_46 5 rfl ?_
          refine v_istore (pc := 48) h dX6_joy_48 (by decide) (lv' := [(6, .int i4_6), (5, .int (0 : Int32)), (0, .ref mo), (1, .int a1), (2, .int i2_4), (3, .int i3_5), (4, .int i4_6)]) rfl ?_
          refine v_sub [2, 3, 4, 5, 6, 1, 0] rfl ?_
          refine L4.run (lv := fun i2_8 i3_9 i5_10 i6_11 => [(0, .ref mo), (1, .int a1), (2, .int i2_8), (3, .int i3_9), (4, .int i4_6), (5, .int i5_10), (6, .int i6_11)]) (st := fun i2_8 i3_9 i5_10 i6_11 => []) (Im := fun i2_8 i3_9 i5_10 i6_11 => I1) (r := fun i2_8 i3_9 i5_10 i6_11 => r) (fun X12 hX12 i2_8 i3_9 i5_10 i6_11 => ?_) i2_4 i3_5 (0 : Int32) i4_6
          refine v_iload (pc := 50) h dX6_joy_50 6 rfl ?_
          refine v_aload_n (pc := 52) h dX6_joy_52 0 rfl rfl ?_
          refine v_geti (pc := 53) h dX6_joy_53 fX6_129 rfl hM.1 ?_
          refine v_icmp_ge (pc := 56) (t := 101) h dX6_joy_56 rfl (fun _ => ?_) (fun _ => ?_)
          · refine v_iinc (pc := 101) h dX6_joy_101 4 rfl (w := (i4_6 + (1 : Int32))) rfl (by decide) (lv' := [(4, .int (i4_6 + (1 : Int32))), (0, .ref mo), (1, .int a1), (2, .int i2_8), (3, .int i3_9), (5, .int i5_10), (6, .int i6_11)]) rfl ?_
            refine v_goto (pc := 104) (t := 34) h dX6_joy_104 rfl ?_
            refine v_sub [1, 2, 3, 4, 0] rfl ?_
            exact hX7 i2_8 i3_9 (i4_6 + (1 : Int32))
          · refine v_iload (pc := 59) h dX6_joy_59 5 rfl ?_
            refine v_aload_n (pc := 61) h dX6_joy_61 0 rfl rfl ?_
            refine v_getp (pc := 62) h dX6_joy_62 fX6_7 rfl hM.1 (mA_1 hM).1 ?_
            refine v_bipush (pc := 65) h dX6_joy_65 (v := 18) rfl ?_
            refine v_iload (pc := 67) h dX6_joy_67 6 rfl ?_
            refine v_iadd (pc := 69) h dX6_joy_69 ?_
            refine v_iald (pc := 70) h dX6_joy_70 (mA_1 hM).2.1 (mA_1 hM).2.2 ?_
            refine v_iadd (pc := 71) h dX6_joy_71 ?_
            refine v_nmi (fun v13 => ?_)
            refine v_istore (pc := 72) h dX6_joy_72 (by decide) (lv' := [(5, .int v13), (0, .ref mo), (1, .int a1), (2, .int i2_8), (3, .int i3_9), (4, .int i4_6), (6, .int i6_11)]) rfl ?_
            refine v_iload (pc := 74) h dX6_joy_74 0 rfl ?_
            refine v_iload_n (pc := 76) h dX6_joy_76 3 rfl rfl ?_
            refine v_jn1 (fun t14 => V g x 7 (0, 0) 86 [(0, .ref mo), (1, .int a1), (2, .int i2_8), (4, .int i4_6), (5, .int v13), (6, .int i6_11)] [.int t14] I1 r) (fun k15 hk15 => ?_) (fun t14 => ?_)
            · refine v_icmp_le (pc := 77) (t := 85) h dX6_joy_77 rfl (fun _ => ?_) (fun _ => ?_)
              · refine v_iload_n (pc := 85) h dX6_joy_85 4 rfl rfl ?_
                refine v_sub [1, 2, 3, 5, 0, 6] rfl ?_
                exact hk15 i3_9
              · refine v_iload (pc := 80) h dX6_joy_80 5 rfl ?_
                refine v_goto (pc := 82) (t := 86) h dX6_joy_82 rfl ?_
                refine v_sub [1, 2, 3, 5, 0, 6] rfl ?_
                exact hk15 i4_6
            · refine v_istore_n (pc := 86) h dX6_joy_86 rfl (by decide) (lv' := [(3, .int t14), (0, .ref mo), (1, .int a1), (2, .int i2_8), (4, .int i4_6), (5, .int v13), (6, .int i6_11)]) rfl ?_
              refine v_aload_n (pc := 87) h dX6_joy_87 1 rfl rfl ?_
              refine v_iload_n (pc := 88) h dX6_joy_88 3 rfl rfl ?_
              refine v_iload (pc := 89) h dX6_joy_89 5 rfl ?_
              refine v_callp (pc := 91) h dX6_joy_91 kX6_332 rfl hM.1 (tX6_greater hM i2_8 v13 I1) (by decide) rfl rfl (Nat.le_of_ble_eq_true rfl) rfl (fun r16 => ?_)
              refine v_istore_n (pc := 94) h dX6_joy_94 rfl (by decide) (lv' := [(2, .int r16), (3, .int t14), (0, .ref mo), (1, .int a1), (4, .int i4_6), (5, .int v13), (6, .int i6_11)]) rfl ?_
              refine v_iinc (pc := 95) h dX6_joy_95 6 rfl (w := (i6_11 + (1 : Int32))) rfl (by decide) (lv' := [(6, .int (i6_11 + (1 : Int32))), (2, .int r16), (3, .int t14), (0, .ref mo), (1, .int a1), (4, .int i4_6), (5, .int v13)]) rfl ?_
              refine v_goto (pc := 98) (t := 50) h dX6_joy_98 rfl ?_
              refine v_sub [3, 4, 1, 2, 5, 6, 0] rfl ?_
              exact hX12 r16 t14 v13 (i6_11 + (1 : Int32))
      · refine v_sub [] rfl ?_
        exact hk2
  · refine v_bipush (pc := 22) h dX6_joy_22 (v := (-100)) rfl ?_
    exact v_iret (pc := 24) h hr dX6_joy_24
set_option maxHeartbeats 4000000 in
theorem tX6_game {g : Gl} {mo : Nat} {r : Rh} (hM : MStr mo r) (a1 : Int32) (I : MI) : CtI g yX6_game cX6_game 7 (some .int) 3 [.ref mo, .int a1] I r (pX6_game mo a1 I) := by
  refine CtI.mk (lv := [(0, .ref mo), (1, .int a1)]) (by decide) (Nat.le_of_ble_eq_true rfl) rfl (fun x Q h hr => ?_)
  unfold pX6_game
  refine v_aload_n (pc := 0) h dX6_game_0 0 rfl rfl ?_
  refine v_iconst (pc := 1) h dX6_game_1 (v := 0) rfl ?_
  refine v_puti (pc := 2) h dX6_game_2 fX6_116 rfl hM.1 ?_
  refine v_nmI (fun I1 => ?_)
  refine v_aload_n (pc := 5) h dX6_game_5 0 rfl rfl ?_
  refine v_iload_n (pc := 6) h dX6_game_6 1 rfl rfl ?_
  refine v_iconst (pc := 7) h dX6_game_7 (v := 0) rfl ?_
  refine v_iconst (pc := 8) h dX6_game_8 (v := 1) rfl ?_
  refine v_callp (pc := 9) h dX6_game_9 kX6_143 rfl hM.1 (tX6_isIn hM a1 (0 : Int32) (1 : Int32) I1) (by decide) rfl rfl (Nat.le_of_ble_eq_true rfl) rfl (fun r2 => ?_)
  refine v_if_ne (pc := 12) (t := 17) h dX6_game_12 rfl (fun _ => ?_) (fun _ => ?_)
  · refine v_iconst (pc := 17) h dX6_game_17 (v := 0) rfl ?_
    refine v_istore_n (pc := 18) h dX6_game_18 rfl (by decide) (lv' := [(2, .int (0 : Int32)), (0, .ref mo), (1, .int a1)]) rfl ?_
    refine v_iconst (pc := 19) h dX6_game_19 (v := 0) rfl ?_
    refine v_istore_n (pc := 20) h dX6_game_20 rfl (by decide) (lv' := [(3, .int (0 : Int32)), (2, .int (0 : Int32)), (0, .ref mo), (1, .int a1)]) rfl ?_
    refine v_sub [2, 3, 1, 0] rfl ?_
    refine L2.run (lv := fun i2_3 i3_4 => [(0, .ref mo), (1, .int a1), (2, .int i2_3), (3, .int i3_4)]) (st := fun i2_3 i3_4 => []) (Im := fun i2_3 i3_4 => I1) (r := fun i2_3 i3_4 => r) (fun X5 hX5 i2_3 i3_4 => ?_) (0 : Int32) (0 : Int32)
    refine v_iload_n (pc := 21) h dX6_game_21 3 rfl rfl ?_
    refine v_aload_n (pc := 22) h dX6_game_22 0 rfl rfl ?_
    refine v_geti (pc := 23) h dX6_game_23 fX6_129 rfl hM.1 ?_
    refine v_icmp_ge (pc := 26) (t := 45) h dX6_game_26 rfl (fun _ => ?_) (fun _ => ?_)
    · refine v_iconst (pc := 45) h dX6_game_45 (v := 0) rfl ?_
      refine v_istore_n (pc := 46) h dX6_game_46 rfl (by decide) (lv' := [(3, .int (0 : Int32)), (0, .ref mo), (1, .int a1), (2, .int i2_3)]) rfl ?_
      refine v_sub [1, 2, 3, 0] rfl ?_
      refine L1.run (lv := fun i3_6 => [(0, .ref mo), (1, .int a1), (2, .int i2_3), (3, .int i3_6)]) (st := fun i3_6 => []) (Im := fun i3_6 => I1) (r := fun i3_6 => r) (fun X7 hX7 i3_6 => ?_) (0 : Int32)
      refine v_iload_n (pc := 47) h dX6_game_47 3 rfl rfl ?_
      refine v_aload_n (pc := 48) h dX6_game_48 0 rfl rfl ?_
      refine v_geti (pc := 49) h dX6_game_49 fX6_129 rfl hM.1 ?_
      refine v_icmp_ge (pc := 52) (t := 120) h dX6_game_52 rfl (fun _ => ?_) (fun _ => ?_)
      · refine v_iconst (pc := 120) h dX6_game_120 (v := (-1)) rfl ?_
        exact v_iret (pc := 121) h hr dX6_game_121
      · refine v_aload_n (pc := 55) h dX6_game_55 0 rfl rfl ?_
        refine v_iload_n (pc := 56) h dX6_game_56 3 rfl rfl ?_
        refine v_callp (pc := 57) h dX6_game_57 kX6_396 rfl hM.1 (tX6_lettersFor hM i3_6 I1) (by decide) rfl rfl (Nat.le_of_ble_eq_true rfl) rfl (fun r8 => ?_)
        refine v_istore (pc := 60) h dX6_game_60 (by decide) (lv' := [(4, .int r8), (0, .ref mo), (1, .int a1), (2, .int i2_3), (3, .int i3_6)]) rfl ?_
        refine v_iload_n (pc := 62) h dX6_game_62 3 rfl rfl ?_
        refine v_iload (pc := 63) h dX6_game_63 0 rfl ?_
        refine v_iconst (pc := 65) h dX6_game_65 (v := 3) rfl ?_
        refine v_iremK (pc := 66) h dX6_game_66 (by decide) ?_
        refine v_ixor (pc := 67) h dX6_game_67 ?_
        refine v_nmi (fun v9 => ?_)
        refine v_istore (pc := 68) h dX6_game_68 (by decide) (lv' := [(5, .int v9), (4, .int r8), (0, .ref mo), (1, .int a1), (2, .int i2_3), (3, .int i3_6)]) rfl ?_
        refine v_iconst (pc := 70) h dX6_game_70 (v := 1) rfl ?_
        refine v_istore (pc := 71) h dX6_game_71 (by decide) (lv' := [(6, .int (1 : Int32)), (5, .int v9), (4, .int r8), (0, .ref mo), (1, .int a1), (2, .int i2_3), (3, .int i3_6)]) rfl ?_
        refine v_sub [3, 4, 5, 6, 2, 1, 0] rfl ?_
        refine L1.run (lv := fun i6_10 => [(0, .ref mo), (1, .int a1), (2, .int i2_3), (3, .int i3_6), (4, .int r8), (5, .int v9), (6, .int i6_10)]) (st := fun i6_10 => []) (Im := fun i6_10 => I1) (r := fun i6_10 => r) (fun X11 hX11 i6_10 => ?_) (1 : Int32)
        refine v_iload (pc := 73) h dX6_game_73 6 rfl ?_
        refine v_aload_n (pc := 75) h dX6_game_75 0 rfl rfl ?_
        refine v_iload (pc := 76) h dX6_game_76 4 rfl ?_
        refine v_iconst (pc := 78) h dX6_game_78 (v := 2) rfl ?_
        refine v_callp (pc := 79) h dX6_game_79 kX6_353 rfl hM.1 (tX6_lesser hM r8 (2 : Int32) I1) (by decide) rfl rfl (Nat.le_of_ble_eq_true rfl) rfl (fun r12 => ?_)
        refine v_icmp_gt (pc := 82) (t := 114) h dX6_game_82 rfl (fun _ => ?_) (fun _ => ?_)
        · refine v_iinc (pc := 114) h dX6_game_114 3 rfl (w := (i3_6 + (1 : Int32))) rfl (by decide) (lv' := [(3, .int (i3_6 + (1 : Int32))), (0, .ref mo), (1, .int a1), (2, .int i2_3), (4, .int r8), (5, .int v9), (6, .int i6_10)]) rfl ?_
          refine v_goto (pc := 117) (t := 47) h dX6_game_117 rfl ?_
          refine v_sub [1, 2, 3, 0] rfl ?_
          exact hX7 (i3_6 + (1 : Int32))
        · refine v_iload (pc := 85) h dX6_game_85 4 rfl ?_
          refine v_iload (pc := 87) h dX6_game_87 6 rfl ?_
          refine v_isub (pc := 89) h dX6_game_89 ?_
          refine v_iconst (pc := 90) h dX6_game_90 (v := 3) rfl ?_
          refine v_iremK (pc := 91) h dX6_game_91 (by decide) ?_
          refine v_iload (pc := 92) h dX6_game_92 5 rfl ?_
          refine v_icmp_ne (pc := 94) (t := 108) h dX6_game_94 rfl (fun _ => ?_) (fun _ => ?_)
          · refine v_iinc (pc := 108) h dX6_game_108 6 rfl (w := (i6_10 + (1 : Int32))) rfl (by decide) (lv' := [(6, .int (i6_10 + (1 : Int32))), (0, .ref mo), (1, .int a1), (2, .int i2_3), (3, .int i3_6), (4, .int r8), (5, .int v9)]) rfl ?_
            refine v_goto (pc := 111) (t := 73) h dX6_game_111 rfl ?_
            refine v_sub [1, 2, 3, 4, 5, 6, 0] rfl ?_
            exact hX11 (i6_10 + (1 : Int32))
          · refine v_iload_n (pc := 97) h dX6_game_97 1 rfl rfl ?_
            refine v_if_ne (pc := 98) (t := 105) h dX6_game_98 rfl (fun _ => ?_) (fun _ => ?_)
            · refine v_iload (pc := 105) h dX6_game_105 6 rfl ?_
              exact v_iret (pc := 107) h hr dX6_game_107
            · refine v_iload_n (pc := 101) h dX6_game_101 3 rfl rfl ?_
              refine v_goto (pc := 102) (t := 107) h dX6_game_102 rfl ?_
              exact v_iret (pc := 107) h hr dX6_game_107
    · refine v_iload_n (pc := 29) h dX6_game_29 2 rfl rfl ?_
      refine v_aload_n (pc := 30) h dX6_game_30 0 rfl rfl ?_
      refine v_iload_n (pc := 31) h dX6_game_31 3 rfl rfl ?_
      refine v_callp (pc := 32) h dX6_game_32 kX6_396 rfl hM.1 (tX6_lettersFor hM i3_4 I1) (by decide) rfl rfl (Nat.le_of_ble_eq_true rfl) rfl (fun r13 => ?_)
      refine v_iconst (pc := 35) h dX6_game_35 (v := 3) rfl ?_
      refine v_iremK (pc := 36) h dX6_game_36 (by decide) ?_
      refine v_ixor (pc := 37) h dX6_game_37 ?_
      refine v_nmi (fun v14 => ?_)
      refine v_istore_n (pc := 38) h dX6_game_38 rfl (by decide) (lv' := [(2, .int v14), (0, .ref mo), (1, .int a1), (3, .int i3_4)]) rfl ?_
      refine v_iinc (pc := 39) h dX6_game_39 3 rfl (w := (i3_4 + (1 : Int32))) rfl (by decide) (lv' := [(3, .int (i3_4 + (1 : Int32))), (2, .int v14), (0, .ref mo), (1, .int a1)]) rfl ?_
      refine v_goto (pc := 42) (t := 21) h dX6_game_42 rfl ?_
      refine v_sub [2, 3, 1, 0] rfl ?_
      exact hX5 v14 (i3_4 + (1 : Int32))
  · refine v_iconst (pc := 15) h dX6_game_15 (v := (-1)) rfl ?_
    exact v_iret (pc := 16) h hr dX6_game_16
set_option maxHeartbeats 4000000 in
theorem tX6_keeps {g : Gl} {mo : Nat} {r : Rh} (hM : MStr mo r) (a1 : Int32) (I : MI) : CtI g yX6_keeps cX6_keeps 2 (some .int) 0 [.ref mo, .int a1] I r (pX6_keeps mo a1 I) := by
  refine CtI.mk (lv := [(0, .ref mo), (1, .int a1)]) (by decide) (Nat.le_of_ble_eq_true rfl) rfl (fun x Q h hr => ?_)
  unfold pX6_keeps
  refine v_aload_n (pc := 0) h dX6_keeps_0 0 rfl rfl ?_
  refine v_aload_n (pc := 1) h dX6_keeps_1 0 rfl rfl ?_
  refine v_geti (pc := 2) h dX6_keeps_2 fX6_476 rfl hM.1 ?_
  refine v_iconst (pc := 5) h dX6_keeps_5 (v := 1) rfl ?_
  refine v_iadd (pc := 6) h dX6_keeps_6 ?_
  refine v_puti (pc := 7) h dX6_keeps_7 fX6_476 rfl hM.1 ?_
  refine v_nmI (fun I1 => ?_)
  refine v_aload_n (pc := 10) h dX6_keeps_10 0 rfl rfl ?_
  refine v_geti (pc := 11) h dX6_keeps_11 fX6_479 rfl hM.1 ?_
  refine v_if_ne (pc := 14) (t := 29) h dX6_keeps_14 rfl (fun _ => ?_) (fun _ => ?_)
  · refine v_aload_n (pc := 29) h dX6_keeps_29 0 rfl rfl ?_
    refine v_getp (pc := 30) h dX6_keeps_30 fX6_113 rfl hM.1 (mA_63 hM).1 ?_
    refine v_aload_n (pc := 33) h dX6_keeps_33 0 rfl rfl ?_
    refine v_geti (pc := 34) h dX6_keeps_34 fX6_476 rfl hM.1 ?_
    refine v_iconst (pc := 37) h dX6_keeps_37 (v := 1) rfl ?_
    refine v_isub (pc := 38) h dX6_keeps_38 ?_
    refine v_iload_n (pc := 39) h dX6_keeps_39 1 rfl rfl ?_
    refine v_iast (pc := 40) h dX6_keeps_40 (mA_63 hM).2.1 (mA_63 hM).2.2 ?_
    refine v_nmI (fun I2 => ?_)
    refine v_iload_n (pc := 41) h dX6_keeps_41 1 rfl rfl ?_
    exact v_iret (pc := 42) h hr dX6_keeps_42
  · refine v_aload_n (pc := 17) h dX6_keeps_17 0 rfl rfl ?_
    refine v_getp (pc := 18) h dX6_keeps_18 fX6_113 rfl hM.1 (mA_63 hM).1 ?_
    refine v_aload_n (pc := 21) h dX6_keeps_21 0 rfl rfl ?_
    refine v_geti (pc := 22) h dX6_keeps_22 fX6_476 rfl hM.1 ?_
    refine v_iconst (pc := 25) h dX6_keeps_25 (v := 1) rfl ?_
    refine v_isub (pc := 26) h dX6_keeps_26 ?_
    refine v_iald (pc := 27) h dX6_keeps_27 (mA_63 hM).2.1 (mA_63 hM).2.2 ?_
    exact v_iret (pc := 28) h hr dX6_keeps_28
set_option maxHeartbeats 4000000 in
theorem tX6_keepsMany {g : Gl} {mo : Nat} {r : Rh} (hM : MStr mo r)  (I : MI) : CtV g yX6_keepsMany cX6_keepsMany 1 1 [.ref mo] I r (pX6_keepsMany mo  I) := by
  refine CtV.mk (lv := [(0, .ref mo)]) (by decide) (Nat.le_of_ble_eq_true rfl) rfl (fun x Q h hr => ?_)
  unfold pX6_keepsMany
  refine v_aload_n (pc := 0) h dX6_keepsMany_0 0 rfl rfl ?_
  refine v_aload_n (pc := 1) h dX6_keepsMany_1 0 rfl rfl ?_
  refine v_aload_n (pc := 2) h dX6_keepsMany_2 0 rfl rfl ?_
  refine v_geti (pc := 3) h dX6_keepsMany_3 fX6_129 rfl hM.1 ?_
  refine v_calli (pc := 6) h dX6_keepsMany_6 kX6_482 rfl hM.1 (tX6_keeps hM (I mo 6) I) (by decide) rfl rfl (Nat.le_of_ble_eq_true rfl) rfl (fun r1 I2 => ?_)
  refine v_puti (pc := 9) h dX6_keepsMany_9 fX6_129 rfl hM.1 ?_
  refine v_nmI (fun I3 => ?_)
  refine v_aload_n (pc := 12) h dX6_keepsMany_12 0 rfl rfl ?_
  refine v_aload_n (pc := 13) h dX6_keepsMany_13 0 rfl rfl ?_
  refine v_aload_n (pc := 14) h dX6_keepsMany_14 0 rfl rfl ?_
  refine v_geti (pc := 15) h dX6_keepsMany_15 fX6_288 rfl hM.1 ?_
  refine v_calli (pc := 18) h dX6_keepsMany_18 kX6_482 rfl hM.1 (tX6_keeps hM (I3 mo 32) I3) (by decide) rfl rfl (Nat.le_of_ble_eq_true rfl) rfl (fun r4 I5 => ?_)
  refine v_puti (pc := 21) h dX6_keepsMany_21 fX6_288 rfl hM.1 ?_
  refine v_nmI (fun I6 => ?_)
  refine v_aload_n (pc := 24) h dX6_keepsMany_24 0 rfl rfl ?_
  refine v_aload_n (pc := 25) h dX6_keepsMany_25 0 rfl rfl ?_
  refine v_aload_n (pc := 26) h dX6_keepsMany_26 0 rfl rfl ?_
  refine v_geti (pc := 27) h dX6_keepsMany_27 fX6_291 rfl hM.1 ?_
  refine v_calli (pc := 30) h dX6_keepsMany_30 kX6_482 rfl hM.1 (tX6_keeps hM (I6 mo 34) I6) (by decide) rfl rfl (Nat.le_of_ble_eq_true rfl) rfl (fun r7 I8 => ?_)
  refine v_puti (pc := 33) h dX6_keepsMany_33 fX6_291 rfl hM.1 ?_
  refine v_nmI (fun I9 => ?_)
  refine v_aload_n (pc := 36) h dX6_keepsMany_36 0 rfl rfl ?_
  refine v_aload_n (pc := 37) h dX6_keepsMany_37 0 rfl rfl ?_
  refine v_aload_n (pc := 38) h dX6_keepsMany_38 0 rfl rfl ?_
  refine v_geti (pc := 39) h dX6_keepsMany_39 fX6_285 rfl hM.1 ?_
  refine v_calli (pc := 42) h dX6_keepsMany_42 kX6_482 rfl hM.1 (tX6_keeps hM (I9 mo 36) I9) (by decide) rfl rfl (Nat.le_of_ble_eq_true rfl) rfl (fun r10 I11 => ?_)
  refine v_puti (pc := 45) h dX6_keepsMany_45 fX6_285 rfl hM.1 ?_
  refine v_nmI (fun I12 => ?_)
  refine v_aload_n (pc := 48) h dX6_keepsMany_48 0 rfl rfl ?_
  refine v_aload_n (pc := 49) h dX6_keepsMany_49 0 rfl rfl ?_
  refine v_aload_n (pc := 50) h dX6_keepsMany_50 0 rfl rfl ?_
  refine v_geti (pc := 51) h dX6_keepsMany_51 fX6_421 rfl hM.1 ?_
  refine v_calli (pc := 54) h dX6_keepsMany_54 kX6_482 rfl hM.1 (tX6_keeps hM (I12 mo 45) I12) (by decide) rfl rfl (Nat.le_of_ble_eq_true rfl) rfl (fun r13 I14 => ?_)
  refine v_puti (pc := 57) h dX6_keepsMany_57 fX6_421 rfl hM.1 ?_
  refine v_nmI (fun I15 => ?_)
  refine v_aload_n (pc := 60) h dX6_keepsMany_60 0 rfl rfl ?_
  refine v_aload_n (pc := 61) h dX6_keepsMany_61 0 rfl rfl ?_
  refine v_aload_n (pc := 62) h dX6_keepsMany_62 0 rfl rfl ?_
  refine v_geti (pc := 63) h dX6_keepsMany_63 fX6_436 rfl hM.1 ?_
  refine v_calli (pc := 66) h dX6_keepsMany_66 kX6_482 rfl hM.1 (tX6_keeps hM (I15 mo 49) I15) (by decide) rfl rfl (Nat.le_of_ble_eq_true rfl) rfl (fun r16 I17 => ?_)
  refine v_puti (pc := 69) h dX6_keepsMany_69 fX6_436 rfl hM.1 ?_
  refine v_nmI (fun I18 => ?_)
  refine v_aload_n (pc := 72) h dX6_keepsMany_72 0 rfl rfl ?_
  refine v_aload_n (pc := 73) h dX6_keepsMany_73 0 rfl rfl ?_
  refine v_aload_n (pc := 74) h dX6_keepsMany_74 0 rfl rfl ?_
  refine v_geti (pc := 75) h dX6_keepsMany_75 fX6_448 rfl hM.1 ?_
  refine v_calli (pc := 78) h dX6_keepsMany_78 kX6_482 rfl hM.1 (tX6_keeps hM (I18 mo 53) I18) (by decide) rfl rfl (Nat.le_of_ble_eq_true rfl) rfl (fun r19 I20 => ?_)
  refine v_puti (pc := 81) h dX6_keepsMany_81 fX6_448 rfl hM.1 ?_
  refine v_nmI (fun I21 => ?_)
  refine v_aload_n (pc := 84) h dX6_keepsMany_84 0 rfl rfl ?_
  refine v_aload_n (pc := 85) h dX6_keepsMany_85 0 rfl rfl ?_
  refine v_aload_n (pc := 86) h dX6_keepsMany_86 0 rfl rfl ?_
  refine v_geti (pc := 87) h dX6_keepsMany_87 fX6_454 rfl hM.1 ?_
  refine v_calli (pc := 90) h dX6_keepsMany_90 kX6_482 rfl hM.1 (tX6_keeps hM (I21 mo 55) I21) (by decide) rfl rfl (Nat.le_of_ble_eq_true rfl) rfl (fun r22 I23 => ?_)
  refine v_puti (pc := 93) h dX6_keepsMany_93 fX6_454 rfl hM.1 ?_
  refine v_nmI (fun I24 => ?_)
  refine v_aload_n (pc := 96) h dX6_keepsMany_96 0 rfl rfl ?_
  refine v_aload_n (pc := 97) h dX6_keepsMany_97 0 rfl rfl ?_
  refine v_aload_n (pc := 98) h dX6_keepsMany_98 0 rfl rfl ?_
  refine v_geti (pc := 99) h dX6_keepsMany_99 fX6_463 rfl hM.1 ?_
  refine v_calli (pc := 102) h dX6_keepsMany_102 kX6_482 rfl hM.1 (tX6_keeps hM (I24 mo 57) I24) (by decide) rfl rfl (Nat.le_of_ble_eq_true rfl) rfl (fun r25 I26 => ?_)
  refine v_puti (pc := 105) h dX6_keepsMany_105 fX6_463 rfl hM.1 ?_
  refine v_nmI (fun I27 => ?_)
  exact v_vret (pc := 108) h hr dX6_keepsMany_108
set_option maxHeartbeats 4000000 in
theorem tX6_keepsTold {g : Gl} {mo : Nat} {r : Rh} (hM : MStr mo r)  (I : MI) : CtV g yX6_keepsTold cX6_keepsTold 2 1 [.ref mo] I r (pX6_keepsTold mo  I) := by
  refine CtV.mk (lv := [(0, .ref mo)]) (by decide) (Nat.le_of_ble_eq_true rfl) rfl (fun x Q h hr => ?_)
  unfold pX6_keepsTold
  refine v_iconst (pc := 0) h dX6_keepsTold_0 (v := 0) rfl ?_
  refine v_istore_n (pc := 1) h dX6_keepsTold_1 rfl (by decide) (lv' := [(1, .int (0 : Int32)), (0, .ref mo)]) rfl ?_
  refine v_sub [1, 0] rfl ?_
  refine L2.run (lv := fun i1_1 I2 => [(0, .ref mo), (1, .int i1_1)]) (st := fun i1_1 I2 => []) (Im := fun i1_1 I2 => I2) (r := fun i1_1 I2 => r) (fun X3 hX3 i1_1 I2 => ?_) (0 : Int32) I
  refine v_iload_n (pc := 2) h dX6_keepsTold_2 1 rfl rfl ?_
  refine v_bipush (pc := 3) h dX6_keepsTold_3 (v := 12) rfl ?_
  refine v_icmp_ge (pc := 5) (t := 46) h dX6_keepsTold_5 rfl (fun _ => ?_) (fun _ => ?_)
  · refine v_iconst (pc := 46) h dX6_keepsTold_46 (v := 0) rfl ?_
    refine v_istore_n (pc := 47) h dX6_keepsTold_47 rfl (by decide) (lv' := [(1, .int (0 : Int32)), (0, .ref mo)]) rfl ?_
    refine v_sub [1, 0] rfl ?_
    refine L2.run (lv := fun i1_4 I5 => [(0, .ref mo), (1, .int i1_4)]) (st := fun i1_4 I5 => []) (Im := fun i1_4 I5 => I5) (r := fun i1_4 I5 => r) (fun X6 hX6 i1_4 I5 => ?_) (0 : Int32) I2
    refine v_iload_n (pc := 48) h dX6_keepsTold_48 1 rfl rfl ?_
    refine v_bipush (pc := 49) h dX6_keepsTold_49 (v := 8) rfl ?_
    refine v_icmp_ge (pc := 51) (t := 124) h dX6_keepsTold_51 rfl (fun _ => ?_) (fun _ => ?_)
    · refine v_iconst (pc := 124) h dX6_keepsTold_124 (v := 0) rfl ?_
      refine v_istore_n (pc := 125) h dX6_keepsTold_125 rfl (by decide) (lv' := [(1, .int (0 : Int32)), (0, .ref mo)]) rfl ?_
      refine v_sub [1, 0] rfl ?_
      refine L2.run (lv := fun i1_7 I8 => [(0, .ref mo), (1, .int i1_7)]) (st := fun i1_7 I8 => []) (Im := fun i1_7 I8 => I8) (r := fun i1_7 I8 => r) (fun X9 hX9 i1_7 I8 => ?_) (0 : Int32) I5
      refine v_iload_n (pc := 126) h dX6_keepsTold_126 1 rfl rfl ?_
      refine v_bipush (pc := 127) h dX6_keepsTold_127 (v := 26) rfl ?_
      refine v_icmp_ge (pc := 129) (t := 154) h dX6_keepsTold_129 rfl (fun _ => ?_) (fun _ => ?_)
      · refine v_iconst (pc := 154) h dX6_keepsTold_154 (v := 0) rfl ?_
        refine v_istore_n (pc := 155) h dX6_keepsTold_155 rfl (by decide) (lv' := [(1, .int (0 : Int32)), (0, .ref mo)]) rfl ?_
        refine v_sub [1, 0] rfl ?_
        refine L2.run (lv := fun i1_10 I11 => [(0, .ref mo), (1, .int i1_10)]) (st := fun i1_10 I11 => []) (Im := fun i1_10 I11 => I11) (r := fun i1_10 I11 => r) (fun X12 hX12 i1_10 I11 => ?_) (0 : Int32) I8
        refine v_iload_n (pc := 156) h dX6_keepsTold_156 1 rfl rfl ?_
        refine v_bipush (pc := 157) h dX6_keepsTold_157 (v := 49) rfl ?_
        refine v_icmp_ge (pc := 159) (t := 184) h dX6_keepsTold_159 rfl (fun _ => ?_) (fun _ => ?_)
        · refine v_iconst (pc := 184) h dX6_keepsTold_184 (v := 0) rfl ?_
          refine v_istore_n (pc := 185) h dX6_keepsTold_185 rfl (by decide) (lv' := [(1, .int (0 : Int32)), (0, .ref mo)]) rfl ?_
          refine v_sub [1, 0] rfl ?_
          refine L2.run (lv := fun i1_13 I14 => [(0, .ref mo), (1, .int i1_13)]) (st := fun i1_13 I14 => []) (Im := fun i1_13 I14 => I14) (r := fun i1_13 I14 => r) (fun X15 hX15 i1_13 I14 => ?_) (0 : Int32) I11
          refine v_iload_n (pc := 186) h dX6_keepsTold_186 1 rfl rfl ?_
          refine v_bipush (pc := 187) h dX6_keepsTold_187 (v := 64) rfl ?_
          refine v_icmp_ge (pc := 189) (t := 214) h dX6_keepsTold_189 rfl (fun _ => ?_) (fun _ => ?_)
          · refine v_iconst (pc := 214) h dX6_keepsTold_214 (v := 0) rfl ?_
            refine v_istore_n (pc := 215) h dX6_keepsTold_215 rfl (by decide) (lv' := [(1, .int (0 : Int32)), (0, .ref mo)]) rfl ?_
            refine v_sub [1, 0] rfl ?_
            refine L2.run (lv := fun i1_16 I17 => [(0, .ref mo), (1, .int i1_16)]) (st := fun i1_16 I17 => []) (Im := fun i1_16 I17 => I17) (r := fun i1_16 I17 => r) (fun X18 hX18 i1_16 I17 => ?_) (0 : Int32) I14
            refine v_iload_n (pc := 216) h dX6_keepsTold_216 1 rfl rfl ?_
            refine v_bipush (pc := 217) h dX6_keepsTold_217 (v := 16) rfl ?_
            refine v_icmp_ge (pc := 219) (t := 244) h dX6_keepsTold_219 rfl (fun _ => ?_) (fun _ => ?_)
            · refine v_iconst (pc := 244) h dX6_keepsTold_244 (v := 0) rfl ?_
              refine v_istore_n (pc := 245) h dX6_keepsTold_245 rfl (by decide) (lv' := [(1, .int (0 : Int32)), (0, .ref mo)]) rfl ?_
              refine v_sub [1, 0] rfl ?_
              refine L2.run (lv := fun i1_19 I20 => [(0, .ref mo), (1, .int i1_19)]) (st := fun i1_19 I20 => []) (Im := fun i1_19 I20 => I20) (r := fun i1_19 I20 => r) (fun X21 hX21 i1_19 I20 => ?_) (0 : Int32) I17
              refine v_iload_n (pc := 246) h dX6_keepsTold_246 1 rfl rfl ?_
              refine v_sipush (pc := 247) h dX6_keepsTold_247 (v := 144) rfl ?_
              refine v_icmp_ge (pc := 250) (t := 275) h dX6_keepsTold_250 rfl (fun _ => ?_) (fun _ => ?_)
              · exact v_vret (pc := 275) h hr dX6_keepsTold_275
              · refine v_aload_n (pc := 253) h dX6_keepsTold_253 0 rfl rfl ?_
                refine v_getp (pc := 254) h dX6_keepsTold_254 fX6_65 rfl hM.1 (mA_37 hM).1 ?_
                refine v_iload_n (pc := 257) h dX6_keepsTold_257 1 rfl rfl ?_
                refine v_aload_n (pc := 258) h dX6_keepsTold_258 0 rfl rfl ?_
                refine v_aload_n (pc := 259) h dX6_keepsTold_259 0 rfl rfl ?_
                refine v_getp (pc := 260) h dX6_keepsTold_260 fX6_65 rfl hM.1 (mA_37 hM).1 ?_
                refine v_iload_n (pc := 263) h dX6_keepsTold_263 1 rfl rfl ?_
                refine v_iald (pc := 264) h dX6_keepsTold_264 (mA_37 hM).2.1 (mA_37 hM).2.2 ?_
                refine v_calli (pc := 265) h dX6_keepsTold_265 kX6_482 rfl hM.1 (tX6_keeps hM (I20 (mo + 18) i1_19.toNatClampNeg) I20) (by decide) rfl rfl (Nat.le_of_ble_eq_true rfl) rfl (fun r22 I23 => ?_)
                refine v_iast (pc := 268) h dX6_keepsTold_268 (mA_37 hM).2.1 (mA_37 hM).2.2 ?_
                refine v_nmI (fun I24 => ?_)
                refine v_iinc (pc := 269) h dX6_keepsTold_269 1 rfl (w := (i1_19 + (1 : Int32))) rfl (by decide) (lv' := [(1, .int (i1_19 + (1 : Int32))), (0, .ref mo)]) rfl ?_
                refine v_goto (pc := 272) (t := 246) h dX6_keepsTold_272 rfl ?_
                refine v_sub [1, 0] rfl ?_
                exact hX21 (i1_19 + (1 : Int32)) I24
            · refine v_aload_n (pc := 222) h dX6_keepsTold_222 0 rfl rfl ?_
              refine v_getp (pc := 223) h dX6_keepsTold_223 fX6_62 rfl hM.1 (mA_35 hM).1 ?_
              refine v_iload_n (pc := 226) h dX6_keepsTold_226 1 rfl rfl ?_
              refine v_aload_n (pc := 227) h dX6_keepsTold_227 0 rfl rfl ?_
              refine v_aload_n (pc := 228) h dX6_keepsTold_228 0 rfl rfl ?_
              refine v_getp (pc := 229) h dX6_keepsTold_229 fX6_62 rfl hM.1 (mA_35 hM).1 ?_
              refine v_iload_n (pc := 232) h dX6_keepsTold_232 1 rfl rfl ?_
              refine v_iald (pc := 233) h dX6_keepsTold_233 (mA_35 hM).2.1 (mA_35 hM).2.2 ?_
              refine v_calli (pc := 234) h dX6_keepsTold_234 kX6_482 rfl hM.1 (tX6_keeps hM (I17 (mo + 17) i1_16.toNatClampNeg) I17) (by decide) rfl rfl (Nat.le_of_ble_eq_true rfl) rfl (fun r25 I26 => ?_)
              refine v_iast (pc := 237) h dX6_keepsTold_237 (mA_35 hM).2.1 (mA_35 hM).2.2 ?_
              refine v_nmI (fun I27 => ?_)
              refine v_iinc (pc := 238) h dX6_keepsTold_238 1 rfl (w := (i1_16 + (1 : Int32))) rfl (by decide) (lv' := [(1, .int (i1_16 + (1 : Int32))), (0, .ref mo)]) rfl ?_
              refine v_goto (pc := 241) (t := 216) h dX6_keepsTold_241 rfl ?_
              refine v_sub [1, 0] rfl ?_
              exact hX18 (i1_16 + (1 : Int32)) I27
          · refine v_aload_n (pc := 192) h dX6_keepsTold_192 0 rfl rfl ?_
            refine v_getp (pc := 193) h dX6_keepsTold_193 fX6_59 rfl hM.1 (mA_33 hM).1 ?_
            refine v_iload_n (pc := 196) h dX6_keepsTold_196 1 rfl rfl ?_
            refine v_aload_n (pc := 197) h dX6_keepsTold_197 0 rfl rfl ?_
            refine v_aload_n (pc := 198) h dX6_keepsTold_198 0 rfl rfl ?_
            refine v_getp (pc := 199) h dX6_keepsTold_199 fX6_59 rfl hM.1 (mA_33 hM).1 ?_
            refine v_iload_n (pc := 202) h dX6_keepsTold_202 1 rfl rfl ?_
            refine v_iald (pc := 203) h dX6_keepsTold_203 (mA_33 hM).2.1 (mA_33 hM).2.2 ?_
            refine v_calli (pc := 204) h dX6_keepsTold_204 kX6_482 rfl hM.1 (tX6_keeps hM (I14 (mo + 16) i1_13.toNatClampNeg) I14) (by decide) rfl rfl (Nat.le_of_ble_eq_true rfl) rfl (fun r28 I29 => ?_)
            refine v_iast (pc := 207) h dX6_keepsTold_207 (mA_33 hM).2.1 (mA_33 hM).2.2 ?_
            refine v_nmI (fun I30 => ?_)
            refine v_iinc (pc := 208) h dX6_keepsTold_208 1 rfl (w := (i1_13 + (1 : Int32))) rfl (by decide) (lv' := [(1, .int (i1_13 + (1 : Int32))), (0, .ref mo)]) rfl ?_
            refine v_goto (pc := 211) (t := 186) h dX6_keepsTold_211 rfl ?_
            refine v_sub [1, 0] rfl ?_
            exact hX15 (i1_13 + (1 : Int32)) I30
        · refine v_aload_n (pc := 162) h dX6_keepsTold_162 0 rfl rfl ?_
          refine v_getp (pc := 163) h dX6_keepsTold_163 fX6_104 rfl hM.1 (mA_56 hM).1 ?_
          refine v_iload_n (pc := 166) h dX6_keepsTold_166 1 rfl rfl ?_
          refine v_aload_n (pc := 167) h dX6_keepsTold_167 0 rfl rfl ?_
          refine v_aload_n (pc := 168) h dX6_keepsTold_168 0 rfl rfl ?_
          refine v_getp (pc := 169) h dX6_keepsTold_169 fX6_104 rfl hM.1 (mA_56 hM).1 ?_
          refine v_iload_n (pc := 172) h dX6_keepsTold_172 1 rfl rfl ?_
          refine v_iald (pc := 173) h dX6_keepsTold_173 (mA_56 hM).2.1 (mA_56 hM).2.2 ?_
          refine v_calli (pc := 174) h dX6_keepsTold_174 kX6_482 rfl hM.1 (tX6_keeps hM (I11 (mo + 31) i1_10.toNatClampNeg) I11) (by decide) rfl rfl (Nat.le_of_ble_eq_true rfl) rfl (fun r31 I32 => ?_)
          refine v_iast (pc := 177) h dX6_keepsTold_177 (mA_56 hM).2.1 (mA_56 hM).2.2 ?_
          refine v_nmI (fun I33 => ?_)
          refine v_iinc (pc := 178) h dX6_keepsTold_178 1 rfl (w := (i1_10 + (1 : Int32))) rfl (by decide) (lv' := [(1, .int (i1_10 + (1 : Int32))), (0, .ref mo)]) rfl ?_
          refine v_goto (pc := 181) (t := 156) h dX6_keepsTold_181 rfl ?_
          refine v_sub [1, 0] rfl ?_
          exact hX12 (i1_10 + (1 : Int32)) I33
      · refine v_aload_n (pc := 132) h dX6_keepsTold_132 0 rfl rfl ?_
        refine v_getp (pc := 133) h dX6_keepsTold_133 fX6_98 rfl hM.1 (mA_52 hM).1 ?_
        refine v_iload_n (pc := 136) h dX6_keepsTold_136 1 rfl rfl ?_
        refine v_aload_n (pc := 137) h dX6_keepsTold_137 0 rfl rfl ?_
        refine v_aload_n (pc := 138) h dX6_keepsTold_138 0 rfl rfl ?_
        refine v_getp (pc := 139) h dX6_keepsTold_139 fX6_98 rfl hM.1 (mA_52 hM).1 ?_
        refine v_iload_n (pc := 142) h dX6_keepsTold_142 1 rfl rfl ?_
        refine v_iald (pc := 143) h dX6_keepsTold_143 (mA_52 hM).2.1 (mA_52 hM).2.2 ?_
        refine v_calli (pc := 144) h dX6_keepsTold_144 kX6_482 rfl hM.1 (tX6_keeps hM (I8 (mo + 29) i1_7.toNatClampNeg) I8) (by decide) rfl rfl (Nat.le_of_ble_eq_true rfl) rfl (fun r34 I35 => ?_)
        refine v_iast (pc := 147) h dX6_keepsTold_147 (mA_52 hM).2.1 (mA_52 hM).2.2 ?_
        refine v_nmI (fun I36 => ?_)
        refine v_iinc (pc := 148) h dX6_keepsTold_148 1 rfl (w := (i1_7 + (1 : Int32))) rfl (by decide) (lv' := [(1, .int (i1_7 + (1 : Int32))), (0, .ref mo)]) rfl ?_
        refine v_goto (pc := 151) (t := 126) h dX6_keepsTold_151 rfl ?_
        refine v_sub [1, 0] rfl ?_
        exact hX9 (i1_7 + (1 : Int32)) I36
    · refine v_aload_n (pc := 54) h dX6_keepsTold_54 0 rfl rfl ?_
      refine v_getp (pc := 55) h dX6_keepsTold_55 fX6_83 rfl hM.1 (mA_46 hM).1 ?_
      refine v_iload_n (pc := 58) h dX6_keepsTold_58 1 rfl rfl ?_
      refine v_aload_n (pc := 59) h dX6_keepsTold_59 0 rfl rfl ?_
      refine v_aload_n (pc := 60) h dX6_keepsTold_60 0 rfl rfl ?_
      refine v_getp (pc := 61) h dX6_keepsTold_61 fX6_83 rfl hM.1 (mA_46 hM).1 ?_
      refine v_iload_n (pc := 64) h dX6_keepsTold_64 1 rfl rfl ?_
      refine v_iald (pc := 65) h dX6_keepsTold_65 (mA_46 hM).2.1 (mA_46 hM).2.2 ?_
      refine v_calli (pc := 66) h dX6_keepsTold_66 kX6_482 rfl hM.1 (tX6_keeps hM (I5 (mo + 24) i1_4.toNatClampNeg) I5) (by decide) rfl rfl (Nat.le_of_ble_eq_true rfl) rfl (fun r37 I38 => ?_)
      refine v_iast (pc := 69) h dX6_keepsTold_69 (mA_46 hM).2.1 (mA_46 hM).2.2 ?_
      refine v_nmI (fun I39 => ?_)
      refine v_aload_n (pc := 70) h dX6_keepsTold_70 0 rfl rfl ?_
      refine v_getp (pc := 71) h dX6_keepsTold_71 fX6_101 rfl hM.1 (mA_54 hM).1 ?_
      refine v_iload_n (pc := 74) h dX6_keepsTold_74 1 rfl rfl ?_
      refine v_aload_n (pc := 75) h dX6_keepsTold_75 0 rfl rfl ?_
      refine v_aload_n (pc := 76) h dX6_keepsTold_76 0 rfl rfl ?_
      refine v_getp (pc := 77) h dX6_keepsTold_77 fX6_101 rfl hM.1 (mA_54 hM).1 ?_
      refine v_iload_n (pc := 80) h dX6_keepsTold_80 1 rfl rfl ?_
      refine v_iald (pc := 81) h dX6_keepsTold_81 (mA_54 hM).2.1 (mA_54 hM).2.2 ?_
      refine v_calli (pc := 82) h dX6_keepsTold_82 kX6_482 rfl hM.1 (tX6_keeps hM (I39 (mo + 30) i1_4.toNatClampNeg) I39) (by decide) rfl rfl (Nat.le_of_ble_eq_true rfl) rfl (fun r40 I41 => ?_)
      refine v_iast (pc := 85) h dX6_keepsTold_85 (mA_54 hM).2.1 (mA_54 hM).2.2 ?_
      refine v_nmI (fun I42 => ?_)
      refine v_aload_n (pc := 86) h dX6_keepsTold_86 0 rfl rfl ?_
      refine v_getp (pc := 87) h dX6_keepsTold_87 fX6_107 rfl hM.1 (mA_58 hM).1 ?_
      refine v_iload_n (pc := 90) h dX6_keepsTold_90 1 rfl rfl ?_
      refine v_aload_n (pc := 91) h dX6_keepsTold_91 0 rfl rfl ?_
      refine v_aload_n (pc := 92) h dX6_keepsTold_92 0 rfl rfl ?_
      refine v_getp (pc := 93) h dX6_keepsTold_93 fX6_107 rfl hM.1 (mA_58 hM).1 ?_
      refine v_iload_n (pc := 96) h dX6_keepsTold_96 1 rfl rfl ?_
      refine v_iald (pc := 97) h dX6_keepsTold_97 (mA_58 hM).2.1 (mA_58 hM).2.2 ?_
      refine v_calli (pc := 98) h dX6_keepsTold_98 kX6_482 rfl hM.1 (tX6_keeps hM (I42 (mo + 32) i1_4.toNatClampNeg) I42) (by decide) rfl rfl (Nat.le_of_ble_eq_true rfl) rfl (fun r43 I44 => ?_)
      refine v_iast (pc := 101) h dX6_keepsTold_101 (mA_58 hM).2.1 (mA_58 hM).2.2 ?_
      refine v_nmI (fun I45 => ?_)
      refine v_aload_n (pc := 102) h dX6_keepsTold_102 0 rfl rfl ?_
      refine v_getp (pc := 103) h dX6_keepsTold_103 fX6_110 rfl hM.1 (mA_59 hM).1 ?_
      refine v_iload_n (pc := 106) h dX6_keepsTold_106 1 rfl rfl ?_
      refine v_aload_n (pc := 107) h dX6_keepsTold_107 0 rfl rfl ?_
      refine v_aload_n (pc := 108) h dX6_keepsTold_108 0 rfl rfl ?_
      refine v_getp (pc := 109) h dX6_keepsTold_109 fX6_110 rfl hM.1 (mA_59 hM).1 ?_
      refine v_iload_n (pc := 112) h dX6_keepsTold_112 1 rfl rfl ?_
      refine v_iald (pc := 113) h dX6_keepsTold_113 (mA_59 hM).2.1 (mA_59 hM).2.2 ?_
      refine v_calli (pc := 114) h dX6_keepsTold_114 kX6_482 rfl hM.1 (tX6_keeps hM (I45 (mo + 33) i1_4.toNatClampNeg) I45) (by decide) rfl rfl (Nat.le_of_ble_eq_true rfl) rfl (fun r46 I47 => ?_)
      refine v_iast (pc := 117) h dX6_keepsTold_117 (mA_59 hM).2.1 (mA_59 hM).2.2 ?_
      refine v_nmI (fun I48 => ?_)
      refine v_iinc (pc := 118) h dX6_keepsTold_118 1 rfl (w := (i1_4 + (1 : Int32))) rfl (by decide) (lv' := [(1, .int (i1_4 + (1 : Int32))), (0, .ref mo)]) rfl ?_
      refine v_goto (pc := 121) (t := 48) h dX6_keepsTold_121 rfl ?_
      refine v_sub [1, 0] rfl ?_
      exact hX6 (i1_4 + (1 : Int32)) I48
  · refine v_aload_n (pc := 8) h dX6_keepsTold_8 0 rfl rfl ?_
    refine v_getp (pc := 9) h dX6_keepsTold_9 fX6_19 rfl hM.1 (mA_7 hM).1 ?_
    refine v_iload_n (pc := 12) h dX6_keepsTold_12 1 rfl rfl ?_
    refine v_aload_n (pc := 13) h dX6_keepsTold_13 0 rfl rfl ?_
    refine v_aload_n (pc := 14) h dX6_keepsTold_14 0 rfl rfl ?_
    refine v_getp (pc := 15) h dX6_keepsTold_15 fX6_19 rfl hM.1 (mA_7 hM).1 ?_
    refine v_iload_n (pc := 18) h dX6_keepsTold_18 1 rfl rfl ?_
    refine v_iald (pc := 19) h dX6_keepsTold_19 (mA_7 hM).2.1 (mA_7 hM).2.2 ?_
    refine v_calli (pc := 20) h dX6_keepsTold_20 kX6_482 rfl hM.1 (tX6_keeps hM (I2 (mo + 4) i1_1.toNatClampNeg) I2) (by decide) rfl rfl (Nat.le_of_ble_eq_true rfl) rfl (fun r49 I50 => ?_)
    refine v_iast (pc := 23) h dX6_keepsTold_23 (mA_7 hM).2.1 (mA_7 hM).2.2 ?_
    refine v_nmI (fun I51 => ?_)
    refine v_aload_n (pc := 24) h dX6_keepsTold_24 0 rfl rfl ?_
    refine v_getp (pc := 25) h dX6_keepsTold_25 fX6_92 rfl hM.1 (mA_50 hM).1 ?_
    refine v_iload_n (pc := 28) h dX6_keepsTold_28 1 rfl rfl ?_
    refine v_aload_n (pc := 29) h dX6_keepsTold_29 0 rfl rfl ?_
    refine v_aload_n (pc := 30) h dX6_keepsTold_30 0 rfl rfl ?_
    refine v_getp (pc := 31) h dX6_keepsTold_31 fX6_92 rfl hM.1 (mA_50 hM).1 ?_
    refine v_iload_n (pc := 34) h dX6_keepsTold_34 1 rfl rfl ?_
    refine v_iald (pc := 35) h dX6_keepsTold_35 (mA_50 hM).2.1 (mA_50 hM).2.2 ?_
    refine v_calli (pc := 36) h dX6_keepsTold_36 kX6_482 rfl hM.1 (tX6_keeps hM (I51 (mo + 27) i1_1.toNatClampNeg) I51) (by decide) rfl rfl (Nat.le_of_ble_eq_true rfl) rfl (fun r52 I53 => ?_)
    refine v_iast (pc := 39) h dX6_keepsTold_39 (mA_50 hM).2.1 (mA_50 hM).2.2 ?_
    refine v_nmI (fun I54 => ?_)
    refine v_iinc (pc := 40) h dX6_keepsTold_40 1 rfl (w := (i1_1 + (1 : Int32))) rfl (by decide) (lv' := [(1, .int (i1_1 + (1 : Int32))), (0, .ref mo)]) rfl ?_
    refine v_goto (pc := 43) (t := 2) h dX6_keepsTold_43 rfl ?_
    refine v_sub [1, 0] rfl ?_
    exact hX3 (i1_1 + (1 : Int32)) I54
set_option maxHeartbeats 4000000 in
theorem tX6_keepsLaw {g : Gl} {mo : Nat} {r : Rh} (hM : MStr mo r)  (I : MI) : CtV g yX6_keepsLaw cX6_keepsLaw 2 1 [.ref mo] I r (pX6_keepsLaw mo  I) := by
  refine CtV.mk (lv := [(0, .ref mo)]) (by decide) (Nat.le_of_ble_eq_true rfl) rfl (fun x Q h hr => ?_)
  unfold pX6_keepsLaw
  refine v_aload_n (pc := 0) h dX6_keepsLaw_0 0 rfl rfl ?_
  refine v_getp (pc := 1) h dX6_keepsLaw_1 fX6_31 rfl hM.1 (mA_16 hM).1 ?_
  refine v_iconst (pc := 4) h dX6_keepsLaw_4 (v := 0) rfl ?_
  refine v_aload_n (pc := 5) h dX6_keepsLaw_5 0 rfl rfl ?_
  refine v_aload_n (pc := 6) h dX6_keepsLaw_6 0 rfl rfl ?_
  refine v_getp (pc := 7) h dX6_keepsLaw_7 fX6_31 rfl hM.1 (mA_16 hM).1 ?_
  refine v_iconst (pc := 10) h dX6_keepsLaw_10 (v := 0) rfl ?_
  refine v_ialdL (pc := 11) h dX6_keepsLaw_11 (mA_16 hM).2.1 (mA_16 hM).2.2 (vpd rfl) (k := 0) rfl ?_
  refine v_calli (pc := 12) h dX6_keepsLaw_12 kX6_482 rfl hM.1 (tX6_keeps hM (I (mo + 8) 0) I) (by decide) rfl rfl (Nat.le_of_ble_eq_true rfl) rfl (fun r1 I2 => ?_)
  refine v_iastL (pc := 15) h dX6_keepsLaw_15 (mA_16 hM).2.1 (mA_16 hM).2.2 (vpd rfl) (k := 0) rfl ?_
  refine v_nmI (fun I3 => ?_)
  refine v_iconst (pc := 16) h dX6_keepsLaw_16 (v := 0) rfl ?_
  refine v_istore_n (pc := 17) h dX6_keepsLaw_17 rfl (by decide) (lv' := [(1, .int (0 : Int32)), (0, .ref mo)]) rfl ?_
  refine v_sub [1, 0] rfl ?_
  refine L2.run (lv := fun i1_4 I5 => [(0, .ref mo), (1, .int i1_4)]) (st := fun i1_4 I5 => []) (Im := fun i1_4 I5 => I5) (r := fun i1_4 I5 => r) (fun X6 hX6 i1_4 I5 => ?_) (0 : Int32) I3
  refine v_iload_n (pc := 18) h dX6_keepsLaw_18 1 rfl rfl ?_
  refine v_bipush (pc := 19) h dX6_keepsLaw_19 (v := 16) rfl ?_
  refine v_icmp_ge (pc := 21) (t := 94) h dX6_keepsLaw_21 rfl (fun _ => ?_) (fun _ => ?_)
  · refine v_iconst (pc := 94) h dX6_keepsLaw_94 (v := 0) rfl ?_
    refine v_istore_n (pc := 95) h dX6_keepsLaw_95 rfl (by decide) (lv' := [(1, .int (0 : Int32)), (0, .ref mo)]) rfl ?_
    refine v_sub [1, 0] rfl ?_
    refine L2.run (lv := fun i1_7 I8 => [(0, .ref mo), (1, .int i1_7)]) (st := fun i1_7 I8 => []) (Im := fun i1_7 I8 => I8) (r := fun i1_7 I8 => r) (fun X9 hX9 i1_7 I8 => ?_) (0 : Int32) I5
    refine v_iload_n (pc := 96) h dX6_keepsLaw_96 1 rfl rfl ?_
    refine v_sipush (pc := 97) h dX6_keepsLaw_97 (v := 400) rfl ?_
    refine v_icmp_ge (pc := 100) (t := 141) h dX6_keepsLaw_100 rfl (fun _ => ?_) (fun _ => ?_)
    · exact v_vret (pc := 141) h hr dX6_keepsLaw_141
    · refine v_aload_n (pc := 103) h dX6_keepsLaw_103 0 rfl rfl ?_
      refine v_getp (pc := 104) h dX6_keepsLaw_104 fX6_46 rfl hM.1 (mA_21 hM).1 ?_
      refine v_iload_n (pc := 107) h dX6_keepsLaw_107 1 rfl rfl ?_
      refine v_aload_n (pc := 108) h dX6_keepsLaw_108 0 rfl rfl ?_
      refine v_aload_n (pc := 109) h dX6_keepsLaw_109 0 rfl rfl ?_
      refine v_getp (pc := 110) h dX6_keepsLaw_110 fX6_46 rfl hM.1 (mA_21 hM).1 ?_
      refine v_iload_n (pc := 113) h dX6_keepsLaw_113 1 rfl rfl ?_
      refine v_iald (pc := 114) h dX6_keepsLaw_114 (mA_21 hM).2.1 (mA_21 hM).2.2 ?_
      refine v_calli (pc := 115) h dX6_keepsLaw_115 kX6_482 rfl hM.1 (tX6_keeps hM (I8 (mo + 13) i1_7.toNatClampNeg) I8) (by decide) rfl rfl (Nat.le_of_ble_eq_true rfl) rfl (fun r10 I11 => ?_)
      refine v_iast (pc := 118) h dX6_keepsLaw_118 (mA_21 hM).2.1 (mA_21 hM).2.2 ?_
      refine v_nmI (fun I12 => ?_)
      refine v_aload_n (pc := 119) h dX6_keepsLaw_119 0 rfl rfl ?_
      refine v_getp (pc := 120) h dX6_keepsLaw_120 fX6_49 rfl hM.1 (mA_22 hM).1 ?_
      refine v_iload_n (pc := 123) h dX6_keepsLaw_123 1 rfl rfl ?_
      refine v_aload_n (pc := 124) h dX6_keepsLaw_124 0 rfl rfl ?_
      refine v_aload_n (pc := 125) h dX6_keepsLaw_125 0 rfl rfl ?_
      refine v_getp (pc := 126) h dX6_keepsLaw_126 fX6_49 rfl hM.1 (mA_22 hM).1 ?_
      refine v_iload_n (pc := 129) h dX6_keepsLaw_129 1 rfl rfl ?_
      refine v_iald (pc := 130) h dX6_keepsLaw_130 (mA_22 hM).2.1 (mA_22 hM).2.2 ?_
      refine v_calli (pc := 131) h dX6_keepsLaw_131 kX6_482 rfl hM.1 (tX6_keeps hM (I12 (mo + 14) i1_7.toNatClampNeg) I12) (by decide) rfl rfl (Nat.le_of_ble_eq_true rfl) rfl (fun r13 I14 => ?_)
      refine v_iast (pc := 134) h dX6_keepsLaw_134 (mA_22 hM).2.1 (mA_22 hM).2.2 ?_
      refine v_nmI (fun I15 => ?_)
      refine v_iinc (pc := 135) h dX6_keepsLaw_135 1 rfl (w := (i1_7 + (1 : Int32))) rfl (by decide) (lv' := [(1, .int (i1_7 + (1 : Int32))), (0, .ref mo)]) rfl ?_
      refine v_goto (pc := 138) (t := 96) h dX6_keepsLaw_138 rfl ?_
      refine v_sub [1, 0] rfl ?_
      exact hX9 (i1_7 + (1 : Int32)) I15
  · refine v_aload_n (pc := 24) h dX6_keepsLaw_24 0 rfl rfl ?_
    refine v_getp (pc := 25) h dX6_keepsLaw_25 fX6_34 rfl hM.1 (mA_17 hM).1 ?_
    refine v_iload_n (pc := 28) h dX6_keepsLaw_28 1 rfl rfl ?_
    refine v_aload_n (pc := 29) h dX6_keepsLaw_29 0 rfl rfl ?_
    refine v_aload_n (pc := 30) h dX6_keepsLaw_30 0 rfl rfl ?_
    refine v_getp (pc := 31) h dX6_keepsLaw_31 fX6_34 rfl hM.1 (mA_17 hM).1 ?_
    refine v_iload_n (pc := 34) h dX6_keepsLaw_34 1 rfl rfl ?_
    refine v_iald (pc := 35) h dX6_keepsLaw_35 (mA_17 hM).2.1 (mA_17 hM).2.2 ?_
    refine v_calli (pc := 36) h dX6_keepsLaw_36 kX6_482 rfl hM.1 (tX6_keeps hM (I5 (mo + 9) i1_4.toNatClampNeg) I5) (by decide) rfl rfl (Nat.le_of_ble_eq_true rfl) rfl (fun r16 I17 => ?_)
    refine v_iast (pc := 39) h dX6_keepsLaw_39 (mA_17 hM).2.1 (mA_17 hM).2.2 ?_
    refine v_nmI (fun I18 => ?_)
    refine v_aload_n (pc := 40) h dX6_keepsLaw_40 0 rfl rfl ?_
    refine v_getp (pc := 41) h dX6_keepsLaw_41 fX6_37 rfl hM.1 (mA_18 hM).1 ?_
    refine v_iload_n (pc := 44) h dX6_keepsLaw_44 1 rfl rfl ?_
    refine v_aload_n (pc := 45) h dX6_keepsLaw_45 0 rfl rfl ?_
    refine v_aload_n (pc := 46) h dX6_keepsLaw_46 0 rfl rfl ?_
    refine v_getp (pc := 47) h dX6_keepsLaw_47 fX6_37 rfl hM.1 (mA_18 hM).1 ?_
    refine v_iload_n (pc := 50) h dX6_keepsLaw_50 1 rfl rfl ?_
    refine v_iald (pc := 51) h dX6_keepsLaw_51 (mA_18 hM).2.1 (mA_18 hM).2.2 ?_
    refine v_calli (pc := 52) h dX6_keepsLaw_52 kX6_482 rfl hM.1 (tX6_keeps hM (I18 (mo + 10) i1_4.toNatClampNeg) I18) (by decide) rfl rfl (Nat.le_of_ble_eq_true rfl) rfl (fun r19 I20 => ?_)
    refine v_iast (pc := 55) h dX6_keepsLaw_55 (mA_18 hM).2.1 (mA_18 hM).2.2 ?_
    refine v_nmI (fun I21 => ?_)
    refine v_aload_n (pc := 56) h dX6_keepsLaw_56 0 rfl rfl ?_
    refine v_getp (pc := 57) h dX6_keepsLaw_57 fX6_40 rfl hM.1 (mA_19 hM).1 ?_
    refine v_iload_n (pc := 60) h dX6_keepsLaw_60 1 rfl rfl ?_
    refine v_aload_n (pc := 61) h dX6_keepsLaw_61 0 rfl rfl ?_
    refine v_aload_n (pc := 62) h dX6_keepsLaw_62 0 rfl rfl ?_
    refine v_getp (pc := 63) h dX6_keepsLaw_63 fX6_40 rfl hM.1 (mA_19 hM).1 ?_
    refine v_iload_n (pc := 66) h dX6_keepsLaw_66 1 rfl rfl ?_
    refine v_iald (pc := 67) h dX6_keepsLaw_67 (mA_19 hM).2.1 (mA_19 hM).2.2 ?_
    refine v_calli (pc := 68) h dX6_keepsLaw_68 kX6_482 rfl hM.1 (tX6_keeps hM (I21 (mo + 11) i1_4.toNatClampNeg) I21) (by decide) rfl rfl (Nat.le_of_ble_eq_true rfl) rfl (fun r22 I23 => ?_)
    refine v_iast (pc := 71) h dX6_keepsLaw_71 (mA_19 hM).2.1 (mA_19 hM).2.2 ?_
    refine v_nmI (fun I24 => ?_)
    refine v_aload_n (pc := 72) h dX6_keepsLaw_72 0 rfl rfl ?_
    refine v_getp (pc := 73) h dX6_keepsLaw_73 fX6_43 rfl hM.1 (mA_20 hM).1 ?_
    refine v_iload_n (pc := 76) h dX6_keepsLaw_76 1 rfl rfl ?_
    refine v_aload_n (pc := 77) h dX6_keepsLaw_77 0 rfl rfl ?_
    refine v_aload_n (pc := 78) h dX6_keepsLaw_78 0 rfl rfl ?_
    refine v_getp (pc := 79) h dX6_keepsLaw_79 fX6_43 rfl hM.1 (mA_20 hM).1 ?_
    refine v_iload_n (pc := 82) h dX6_keepsLaw_82 1 rfl rfl ?_
    refine v_iald (pc := 83) h dX6_keepsLaw_83 (mA_20 hM).2.1 (mA_20 hM).2.2 ?_
    refine v_calli (pc := 84) h dX6_keepsLaw_84 kX6_482 rfl hM.1 (tX6_keeps hM (I24 (mo + 12) i1_4.toNatClampNeg) I24) (by decide) rfl rfl (Nat.le_of_ble_eq_true rfl) rfl (fun r25 I26 => ?_)
    refine v_iast (pc := 87) h dX6_keepsLaw_87 (mA_20 hM).2.1 (mA_20 hM).2.2 ?_
    refine v_nmI (fun I27 => ?_)
    refine v_iinc (pc := 88) h dX6_keepsLaw_88 1 rfl (w := (i1_4 + (1 : Int32))) rfl (by decide) (lv' := [(1, .int (i1_4 + (1 : Int32))), (0, .ref mo)]) rfl ?_
    refine v_goto (pc := 91) (t := 18) h dX6_keepsLaw_91 rfl ?_
    refine v_sub [1, 0] rfl ?_
    exact hX6 (i1_4 + (1 : Int32)) I27
set_option maxHeartbeats 4000000 in
theorem tX6_image {g : Gl} {mo : Nat} {r : Rh} (hM : MStr mo r) (a1 : Int32) (I : MI) : CtI g yX6_image cX6_image 3 (some .boolean) 2 [.ref mo, .int a1] I r (pX6_image mo a1 I) := by
  refine CtI.mk (lv := [(0, .ref mo), (1, .int a1)]) (by decide) (Nat.le_of_ble_eq_true rfl) rfl (fun x Q h hr => ?_)
  unfold pX6_image
  refine v_aload_n (pc := 0) h dX6_image_0 0 rfl rfl ?_
  refine v_iconst (pc := 1) h dX6_image_1 (v := 0) rfl ?_
  refine v_puti (pc := 2) h dX6_image_2 fX6_116 rfl hM.1 ?_
  refine v_nmI (fun I1 => ?_)
  refine v_iload_n (pc := 5) h dX6_image_5 1 rfl rfl ?_
  refine v_jn0 (V g x 3 (0, 0) 18 [(0, .ref mo), (1, .int a1)] [] I1 r) (fun k2 hk2 => ?_) ?_
  · refine v_if_ne (pc := 6) (t := 18) h dX6_image_6 rfl (fun _ => ?_) (fun _ => ?_)
    · exact hk2
    · refine v_aload_n (pc := 9) h dX6_image_9 0 rfl rfl ?_
      refine v_geti (pc := 10) h dX6_image_10 fX6_485 rfl hM.1 ?_
      refine v_if_ne (pc := 13) (t := 18) h dX6_image_13 rfl (fun _ => ?_) (fun _ => ?_)
      · exact hk2
      · refine v_iconst (pc := 16) h dX6_image_16 (v := 0) rfl ?_
        exact v_zret (pc := 17) h hr (Or.inl rfl) dX6_image_17
  · refine v_aload_n (pc := 18) h dX6_image_18 0 rfl rfl ?_
    refine v_iload_n (pc := 19) h dX6_image_19 1 rfl rfl ?_
    refine v_putzE (pc := 20) h dX6_image_20 fX6_479 rfl hM.1 ?_
    refine v_nmI (fun I3 => ?_)
    refine v_aload_n (pc := 23) h dX6_image_23 0 rfl rfl ?_
    refine v_iconst (pc := 24) h dX6_image_24 (v := 1) rfl ?_
    refine v_putz (pc := 25) h dX6_image_25 fX6_485 rfl (Or.inr rfl) hM.1 ?_
    refine v_nmI (fun I4 => ?_)
    refine v_aload_n (pc := 28) h dX6_image_28 0 rfl rfl ?_
    refine v_iconst (pc := 29) h dX6_image_29 (v := 0) rfl ?_
    refine v_puti (pc := 30) h dX6_image_30 fX6_476 rfl hM.1 ?_
    refine v_nmI (fun I5 => ?_)
    refine v_iconst (pc := 33) h dX6_image_33 (v := 0) rfl ?_
    refine v_istore_n (pc := 34) h dX6_image_34 rfl (by decide) (lv' := [(2, .int (0 : Int32)), (0, .ref mo), (1, .int a1)]) rfl ?_
    refine v_sub [1, 2, 0] rfl ?_
    refine L2.run (lv := fun i2_6 I7 => [(0, .ref mo), (1, .int a1), (2, .int i2_6)]) (st := fun i2_6 I7 => []) (Im := fun i2_6 I7 => I7) (r := fun i2_6 I7 => r) (fun X8 hX8 i2_6 I7 => ?_) (0 : Int32) I5
    refine v_iload_n (pc := 35) h dX6_image_35 2 rfl rfl ?_
    refine v_sipush (pc := 36) h dX6_image_36 (v := 174) rfl ?_
    refine v_icmp_ge (pc := 39) (t := 64) h dX6_image_39 rfl (fun _ => ?_) (fun _ => ?_)
    · refine v_aload_n (pc := 64) h dX6_image_64 0 rfl rfl ?_
      refine v_callv (pc := 65) h dX6_image_65 kX6_488 rfl hM.1 (tX6_keepsMany hM I7) (by decide) rfl rfl (Nat.le_of_ble_eq_true rfl) rfl (fun I9 => ?_)
      refine v_aload_n (pc := 68) h dX6_image_68 0 rfl rfl ?_
      refine v_callv (pc := 69) h dX6_image_69 kX6_491 rfl hM.1 (tX6_keepsTold hM I9) (by decide) rfl rfl (Nat.le_of_ble_eq_true rfl) rfl (fun I10 => ?_)
      refine v_iconst (pc := 72) h dX6_image_72 (v := 0) rfl ?_
      refine v_istore_n (pc := 73) h dX6_image_73 rfl (by decide) (lv' := [(2, .int (0 : Int32)), (0, .ref mo), (1, .int a1)]) rfl ?_
      refine v_sub [1, 2, 0] rfl ?_
      refine L2.run (lv := fun i2_11 I12 => [(0, .ref mo), (1, .int a1), (2, .int i2_11)]) (st := fun i2_11 I12 => []) (Im := fun i2_11 I12 => I12) (r := fun i2_11 I12 => r) (fun X13 hX13 i2_11 I12 => ?_) (0 : Int32) I10
      refine v_iload_n (pc := 74) h dX6_image_74 2 rfl rfl ?_
      refine v_sipush (pc := 75) h dX6_image_75 (v := 600) rfl ?_
      refine v_icmp_ge (pc := 78) (t := 103) h dX6_image_78 rfl (fun _ => ?_) (fun _ => ?_)
      · refine v_aload_n (pc := 103) h dX6_image_103 0 rfl rfl ?_
        refine v_callv (pc := 104) h dX6_image_104 kX6_494 rfl hM.1 (tX6_keepsLaw hM I12) (by decide) rfl rfl (Nat.le_of_ble_eq_true rfl) rfl (fun I14 => ?_)
        refine v_iload_n (pc := 107) h dX6_image_107 1 rfl rfl ?_
        refine v_if_ne (pc := 108) (t := 116) h dX6_image_108 rfl (fun _ => ?_) (fun _ => ?_)
        · refine v_iconst (pc := 116) h dX6_image_116 (v := 1) rfl ?_
          exact v_zret (pc := 117) h hr (Or.inr rfl) dX6_image_117
        · refine v_aload_n (pc := 111) h dX6_image_111 0 rfl rfl ?_
          refine v_iconst (pc := 112) h dX6_image_112 (v := 0) rfl ?_
          refine v_puti (pc := 113) h dX6_image_113 fX6_120 rfl hM.1 ?_
          refine v_nmI (fun I15 => ?_)
          refine v_iconst (pc := 116) h dX6_image_116 (v := 1) rfl ?_
          exact v_zret (pc := 117) h hr (Or.inr rfl) dX6_image_117
      · refine v_aload_n (pc := 81) h dX6_image_81 0 rfl rfl ?_
        refine v_getp (pc := 82) h dX6_image_82 fX6_22 rfl hM.1 (mA_8 hM).1 ?_
        refine v_iload_n (pc := 85) h dX6_image_85 2 rfl rfl ?_
        refine v_aload_n (pc := 86) h dX6_image_86 0 rfl rfl ?_
        refine v_aload_n (pc := 87) h dX6_image_87 0 rfl rfl ?_
        refine v_getp (pc := 88) h dX6_image_88 fX6_22 rfl hM.1 (mA_8 hM).1 ?_
        refine v_iload_n (pc := 91) h dX6_image_91 2 rfl rfl ?_
        refine v_iald (pc := 92) h dX6_image_92 (mA_8 hM).2.1 (mA_8 hM).2.2 ?_
        refine v_calli (pc := 93) h dX6_image_93 kX6_482 rfl hM.1 (tX6_keeps hM (I12 (mo + 5) i2_11.toNatClampNeg) I12) (by decide) rfl rfl (Nat.le_of_ble_eq_true rfl) rfl (fun r16 I17 => ?_)
        refine v_iast (pc := 96) h dX6_image_96 (mA_8 hM).2.1 (mA_8 hM).2.2 ?_
        refine v_nmI (fun I18 => ?_)
        refine v_iinc (pc := 97) h dX6_image_97 2 rfl (w := (i2_11 + (1 : Int32))) rfl (by decide) (lv' := [(2, .int (i2_11 + (1 : Int32))), (0, .ref mo), (1, .int a1)]) rfl ?_
        refine v_goto (pc := 100) (t := 74) h dX6_image_100 rfl ?_
        refine v_sub [1, 2, 0] rfl ?_
        exact hX13 (i2_11 + (1 : Int32)) I18
    · refine v_aload_n (pc := 42) h dX6_image_42 0 rfl rfl ?_
      refine v_getp (pc := 43) h dX6_image_43 fX6_7 rfl hM.1 (mA_1 hM).1 ?_
      refine v_iload_n (pc := 46) h dX6_image_46 2 rfl rfl ?_
      refine v_aload_n (pc := 47) h dX6_image_47 0 rfl rfl ?_
      refine v_aload_n (pc := 48) h dX6_image_48 0 rfl rfl ?_
      refine v_getp (pc := 49) h dX6_image_49 fX6_7 rfl hM.1 (mA_1 hM).1 ?_
      refine v_iload_n (pc := 52) h dX6_image_52 2 rfl rfl ?_
      refine v_iald (pc := 53) h dX6_image_53 (mA_1 hM).2.1 (mA_1 hM).2.2 ?_
      refine v_calli (pc := 54) h dX6_image_54 kX6_482 rfl hM.1 (tX6_keeps hM (I7 (mo + 1) i2_6.toNatClampNeg) I7) (by decide) rfl rfl (Nat.le_of_ble_eq_true rfl) rfl (fun r19 I20 => ?_)
      refine v_iast (pc := 57) h dX6_image_57 (mA_1 hM).2.1 (mA_1 hM).2.2 ?_
      refine v_nmI (fun I21 => ?_)
      refine v_iinc (pc := 58) h dX6_image_58 2 rfl (w := (i2_6 + (1 : Int32))) rfl (by decide) (lv' := [(2, .int (i2_6 + (1 : Int32))), (0, .ref mo), (1, .int a1)]) rfl ?_
      refine v_goto (pc := 61) (t := 35) h dX6_image_61 rfl ?_
      refine v_sub [1, 2, 0] rfl ?_
      exact hX8 (i2_6 + (1 : Int32)) I21
set_option maxHeartbeats 4000000 in
theorem tX6_look {g : Gl} {mo : Nat} {r : Rh} (hM : MStr mo r) (a1 : Int32) (I : MI) : CtI g yX6_look cX6_look 2 (some .int) 1 [.ref mo, .int a1] I r (pX6_look mo a1 I) := by
  refine CtI.mk (lv := [(0, .ref mo), (1, .int a1)]) (by decide) (Nat.le_of_ble_eq_true rfl) rfl (fun x Q h hr => ?_)
  unfold pX6_look
  refine v_aload_n (pc := 0) h dX6_look_0 0 rfl rfl ?_
  refine v_iconst (pc := 1) h dX6_look_1 (v := 0) rfl ?_
  refine v_puti (pc := 2) h dX6_look_2 fX6_116 rfl hM.1 ?_
  refine v_nmI (fun I1 => ?_)
  refine v_iload_n (pc := 5) h dX6_look_5 1 rfl rfl ?_
  refine v_if_ne (pc := 6) (t := 14) h dX6_look_6 rfl (fun _ => ?_) (fun _ => ?_)
  · refine v_iload_n (pc := 14) h dX6_look_14 1 rfl rfl ?_
    refine v_iconst (pc := 15) h dX6_look_15 (v := 1) rfl ?_
    refine v_icmp_ne (pc := 16) (t := 27) h dX6_look_16 rfl (fun _ => ?_) (fun _ => ?_)
    · refine v_iload_n (pc := 27) h dX6_look_27 1 rfl rfl ?_
      refine v_iconst (pc := 28) h dX6_look_28 (v := 2) rfl ?_
      refine v_icmp_ne (pc := 29) (t := 37) h dX6_look_29 rfl (fun _ => ?_) (fun _ => ?_)
      · refine v_iload_n (pc := 37) h dX6_look_37 1 rfl rfl ?_
        refine v_iconst (pc := 38) h dX6_look_38 (v := 3) rfl ?_
        refine v_icmp_ne (pc := 39) (t := 49) h dX6_look_39 rfl (fun _ => ?_) (fun _ => ?_)
        · refine v_iload_n (pc := 49) h dX6_look_49 1 rfl rfl ?_
          refine v_iconst (pc := 50) h dX6_look_50 (v := 4) rfl ?_
          refine v_icmp_ne (pc := 51) (t := 62) h dX6_look_51 rfl (fun _ => ?_) (fun _ => ?_)
          · refine v_iload_n (pc := 62) h dX6_look_62 1 rfl rfl ?_
            refine v_iconst (pc := 63) h dX6_look_63 (v := 5) rfl ?_
            refine v_icmp_ne (pc := 64) (t := 75) h dX6_look_64 rfl (fun _ => ?_) (fun _ => ?_)
            · refine v_iload_n (pc := 75) h dX6_look_75 1 rfl rfl ?_
              refine v_bipush (pc := 76) h dX6_look_76 (v := 6) rfl ?_
              refine v_icmp_ne (pc := 78) (t := 88) h dX6_look_78 rfl (fun _ => ?_) (fun _ => ?_)
              · refine v_iload_n (pc := 88) h dX6_look_88 1 rfl rfl ?_
                refine v_bipush (pc := 89) h dX6_look_89 (v := 7) rfl ?_
                refine v_icmp_ne (pc := 91) (t := 102) h dX6_look_91 rfl (fun _ => ?_) (fun _ => ?_)
                · refine v_iload_n (pc := 102) h dX6_look_102 1 rfl rfl ?_
                  refine v_bipush (pc := 103) h dX6_look_103 (v := 8) rfl ?_
                  refine v_icmp_ne (pc := 105) (t := 115) h dX6_look_105 rfl (fun _ => ?_) (fun _ => ?_)
                  · refine v_iload_n (pc := 115) h dX6_look_115 1 rfl rfl ?_
                    refine v_bipush (pc := 116) h dX6_look_116 (v := 9) rfl ?_
                    refine v_icmp_ne (pc := 118) (t := 128) h dX6_look_118 rfl (fun _ => ?_) (fun _ => ?_)
                    · refine v_iload_n (pc := 128) h dX6_look_128 1 rfl rfl ?_
                      refine v_bipush (pc := 129) h dX6_look_129 (v := 10) rfl ?_
                      refine v_icmp_ne (pc := 131) (t := 141) h dX6_look_131 rfl (fun _ => ?_) (fun _ => ?_)
                      · refine v_iload_n (pc := 141) h dX6_look_141 1 rfl rfl ?_
                        refine v_bipush (pc := 142) h dX6_look_142 (v := 11) rfl ?_
                        refine v_icmp_ne (pc := 144) (t := 154) h dX6_look_144 rfl (fun _ => ?_) (fun _ => ?_)
                        · refine v_iload_n (pc := 154) h dX6_look_154 1 rfl rfl ?_
                          refine v_bipush (pc := 155) h dX6_look_155 (v := 12) rfl ?_
                          refine v_icmp_ne (pc := 157) (t := 165) h dX6_look_157 rfl (fun _ => ?_) (fun _ => ?_)
                          · refine v_iload_n (pc := 165) h dX6_look_165 1 rfl rfl ?_
                            refine v_bipush (pc := 166) h dX6_look_166 (v := 13) rfl ?_
                            refine v_icmp_ne (pc := 168) (t := 176) h dX6_look_168 rfl (fun _ => ?_) (fun _ => ?_)
                            · refine v_iload_n (pc := 176) h dX6_look_176 1 rfl rfl ?_
                              refine v_bipush (pc := 177) h dX6_look_177 (v := 14) rfl ?_
                              refine v_icmp_ne (pc := 179) (t := 187) h dX6_look_179 rfl (fun _ => ?_) (fun _ => ?_)
                              · refine v_iload_n (pc := 187) h dX6_look_187 1 rfl rfl ?_
                                refine v_bipush (pc := 188) h dX6_look_188 (v := 15) rfl ?_
                                refine v_icmp_ne (pc := 190) (t := 200) h dX6_look_190 rfl (fun _ => ?_) (fun _ => ?_)
                                · refine v_iconst (pc := 200) h dX6_look_200 (v := (-1)) rfl ?_
                                  exact v_iret (pc := 201) h hr dX6_look_201
                                · refine v_aload_n (pc := 193) h dX6_look_193 0 rfl rfl ?_
                                  refine v_geti (pc := 194) h dX6_look_194 fX6_120 rfl hM.1 ?_
                                  refine v_goto (pc := 197) (t := 201) h dX6_look_197 rfl ?_
                                  exact v_iret (pc := 201) h hr dX6_look_201
                              · refine v_aload_n (pc := 182) h dX6_look_182 0 rfl rfl ?_
                                refine v_geti (pc := 183) h dX6_look_183 fX6_285 rfl hM.1 ?_
                                exact v_iret (pc := 186) h hr dX6_look_186
                            · refine v_aload_n (pc := 171) h dX6_look_171 0 rfl rfl ?_
                              refine v_geti (pc := 172) h dX6_look_172 fX6_291 rfl hM.1 ?_
                              exact v_iret (pc := 175) h hr dX6_look_175
                          · refine v_aload_n (pc := 160) h dX6_look_160 0 rfl rfl ?_
                            refine v_geti (pc := 161) h dX6_look_161 fX6_288 rfl hM.1 ?_
                            exact v_iret (pc := 164) h hr dX6_look_164
                        · refine v_aload_n (pc := 147) h dX6_look_147 0 rfl rfl ?_
                          refine v_getp (pc := 148) h dX6_look_148 fX6_31 rfl hM.1 (mA_16 hM).1 ?_
                          refine v_iconst (pc := 151) h dX6_look_151 (v := 0) rfl ?_
                          refine v_ialdL (pc := 152) h dX6_look_152 (mA_16 hM).2.1 (mA_16 hM).2.2 (vpd rfl) (k := 0) rfl ?_
                          exact v_iret (pc := 153) h hr dX6_look_153
                      · refine v_aload_n (pc := 134) h dX6_look_134 0 rfl rfl ?_
                        refine v_getp (pc := 135) h dX6_look_135 fX6_7 rfl hM.1 (mA_1 hM).1 ?_
                        refine v_iconst (pc := 138) h dX6_look_138 (v := 1) rfl ?_
                        refine v_ialdL (pc := 139) h dX6_look_139 (mA_1 hM).2.1 (mA_1 hM).2.2 (vpd rfl) (k := 1) rfl ?_
                        exact v_iret (pc := 140) h hr dX6_look_140
                    · refine v_aload_n (pc := 121) h dX6_look_121 0 rfl rfl ?_
                      refine v_getp (pc := 122) h dX6_look_122 fX6_7 rfl hM.1 (mA_1 hM).1 ?_
                      refine v_iconst (pc := 125) h dX6_look_125 (v := 2) rfl ?_
                      refine v_ialdL (pc := 126) h dX6_look_126 (mA_1 hM).2.1 (mA_1 hM).2.2 (vpd rfl) (k := 2) rfl ?_
                      exact v_iret (pc := 127) h hr dX6_look_127
                  · refine v_aload_n (pc := 108) h dX6_look_108 0 rfl rfl ?_
                    refine v_getp (pc := 109) h dX6_look_109 fX6_7 rfl hM.1 (mA_1 hM).1 ?_
                    refine v_iconst (pc := 112) h dX6_look_112 (v := 0) rfl ?_
                    refine v_ialdL (pc := 113) h dX6_look_113 (mA_1 hM).2.1 (mA_1 hM).2.2 (vpd rfl) (k := 0) rfl ?_
                    exact v_iret (pc := 114) h hr dX6_look_114
                · refine v_aload_n (pc := 94) h dX6_look_94 0 rfl rfl ?_
                  refine v_getp (pc := 95) h dX6_look_95 fX6_7 rfl hM.1 (mA_1 hM).1 ?_
                  refine v_bipush (pc := 98) h dX6_look_98 (v := 8) rfl ?_
                  refine v_ialdL (pc := 100) h dX6_look_100 (mA_1 hM).2.1 (mA_1 hM).2.2 (vpd rfl) (k := 8) rfl ?_
                  exact v_iret (pc := 101) h hr dX6_look_101
              · refine v_aload_n (pc := 81) h dX6_look_81 0 rfl rfl ?_
                refine v_getp (pc := 82) h dX6_look_82 fX6_7 rfl hM.1 (mA_1 hM).1 ?_
                refine v_iconst (pc := 85) h dX6_look_85 (v := 3) rfl ?_
                refine v_ialdL (pc := 86) h dX6_look_86 (mA_1 hM).2.1 (mA_1 hM).2.2 (vpd rfl) (k := 3) rfl ?_
                exact v_iret (pc := 87) h hr dX6_look_87
            · refine v_aload_n (pc := 67) h dX6_look_67 0 rfl rfl ?_
              refine v_getp (pc := 68) h dX6_look_68 fX6_7 rfl hM.1 (mA_1 hM).1 ?_
              refine v_bipush (pc := 71) h dX6_look_71 (v := 7) rfl ?_
              refine v_ialdL (pc := 73) h dX6_look_73 (mA_1 hM).2.1 (mA_1 hM).2.2 (vpd rfl) (k := 7) rfl ?_
              exact v_iret (pc := 74) h hr dX6_look_74
          · refine v_aload_n (pc := 54) h dX6_look_54 0 rfl rfl ?_
            refine v_getp (pc := 55) h dX6_look_55 fX6_7 rfl hM.1 (mA_1 hM).1 ?_
            refine v_bipush (pc := 58) h dX6_look_58 (v := 6) rfl ?_
            refine v_ialdL (pc := 60) h dX6_look_60 (mA_1 hM).2.1 (mA_1 hM).2.2 (vpd rfl) (k := 6) rfl ?_
            exact v_iret (pc := 61) h hr dX6_look_61
        · refine v_aload_n (pc := 42) h dX6_look_42 0 rfl rfl ?_
          refine v_getp (pc := 43) h dX6_look_43 fX6_7 rfl hM.1 (mA_1 hM).1 ?_
          refine v_iconst (pc := 46) h dX6_look_46 (v := 5) rfl ?_
          refine v_ialdL (pc := 47) h dX6_look_47 (mA_1 hM).2.1 (mA_1 hM).2.2 (vpd rfl) (k := 5) rfl ?_
          exact v_iret (pc := 48) h hr dX6_look_48
      · refine v_aload_n (pc := 32) h dX6_look_32 0 rfl rfl ?_
        refine v_callp (pc := 33) h dX6_look_33 kX6_312 rfl hM.1 (tX6_health hM I1) (by decide) rfl rfl (Nat.le_of_ble_eq_true rfl) rfl (fun r2 => ?_)
        exact v_iret (pc := 36) h hr dX6_look_36
    · refine v_aload_n (pc := 19) h dX6_look_19 0 rfl rfl ?_
      refine v_getp (pc := 20) h dX6_look_20 fX6_7 rfl hM.1 (mA_1 hM).1 ?_
      refine v_bipush (pc := 23) h dX6_look_23 (v := 10) rfl ?_
      refine v_ialdL (pc := 25) h dX6_look_25 (mA_1 hM).2.1 (mA_1 hM).2.2 (vpd rfl) (k := 10) rfl ?_
      exact v_iret (pc := 26) h hr dX6_look_26
  · refine v_aload_n (pc := 9) h dX6_look_9 0 rfl rfl ?_
    refine v_geti (pc := 10) h dX6_look_10 fX6_129 rfl hM.1 ?_
    exact v_iret (pc := 13) h hr dX6_look_13
