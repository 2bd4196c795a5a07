/-! the reference: the walks -/
set_option maxRecDepth 100000
set_option maxHeartbeats 4000000 in
theorem tX6_undo {g : Gl} {mo : Nat} {r : Rh} (hM : MStr mo r)  (I : MI) : CtI g yX6_undo cX6_undo 2 (some .boolean) 0 [.ref mo] I r (pX6_undo mo  I) := by
  refine CtI.mk (lv := [(0, .ref mo)]) (by decide) (Nat.le_of_ble_eq_true rfl) rfl (fun x Q h hr => ?_)
  unfold pX6_undo
  refine v_aload_n (pc := 0) h dX6_undo_0 0 rfl rfl ?_
  refine v_iconst (pc := 1) h dX6_undo_1 (v := 0) rfl ?_
  refine v_puti (pc := 2) h dX6_undo_2 fX6_116 rfl hM.1 ?_
  refine v_nmI (fun I1 => ?_)
  refine v_aload_n (pc := 5) h dX6_undo_5 0 rfl rfl ?_
  refine v_geti (pc := 6) h dX6_undo_6 fX6_120 rfl hM.1 ?_
  refine v_if_ne (pc := 9) (t := 14) h dX6_undo_9 rfl (fun _ => ?_) (fun _ => ?_)
  · refine v_aload_n (pc := 14) h dX6_undo_14 0 rfl rfl ?_
    refine v_aload_n (pc := 15) h dX6_undo_15 0 rfl rfl ?_
    refine v_geti (pc := 16) h dX6_undo_16 fX6_120 rfl hM.1 ?_
    refine v_iconst (pc := 19) h dX6_undo_19 (v := 1) rfl ?_
    refine v_isub (pc := 20) h dX6_undo_20 ?_
    refine v_puti (pc := 21) h dX6_undo_21 fX6_120 rfl hM.1 ?_
    refine v_nmI (fun I2 => ?_)
    refine v_iconst (pc := 24) h dX6_undo_24 (v := 0) rfl ?_
    refine v_istore_n (pc := 25) h dX6_undo_25 rfl (by decide) (lv' := [(1, .int (0 : Int32)), (0, .ref mo)]) rfl ?_
    refine v_sub [1, 0] rfl ?_
    refine L2.run (lv := fun i1_3 I4 => [(0, .ref mo), (1, .int i1_3)]) (st := fun i1_3 I4 => []) (Im := fun i1_3 I4 => I4) (r := fun i1_3 I4 => r) (fun X5 hX5 i1_3 I4 => ?_) (0 : Int32) I2
    refine v_iload_n (pc := 26) h dX6_undo_26 1 rfl rfl ?_
    refine v_sipush (pc := 27) h dX6_undo_27 (v := 174) rfl ?_
    refine v_icmp_ge (pc := 30) (t := 60) h dX6_undo_30 rfl (fun _ => ?_) (fun _ => ?_)
    · refine v_iconst (pc := 60) h dX6_undo_60 (v := 1) rfl ?_
      exact v_zret (pc := 61) h hr (Or.inr rfl) dX6_undo_61
    · refine v_aload_n (pc := 33) h dX6_undo_33 0 rfl rfl ?_
      refine v_getp (pc := 34) h dX6_undo_34 fX6_7 rfl hM.1 (mA_1 hM).1 ?_
      refine v_iload_n (pc := 37) h dX6_undo_37 1 rfl rfl ?_
      refine v_aload_n (pc := 38) h dX6_undo_38 0 rfl rfl ?_
      refine v_getp (pc := 39) h dX6_undo_39 fX6_13 rfl hM.1 (mA_2 hM).1 ?_
      refine v_sipush (pc := 42) h dX6_undo_42 (v := 174) rfl ?_
      refine v_aload_n (pc := 45) h dX6_undo_45 0 rfl rfl ?_
      refine v_geti (pc := 46) h dX6_undo_46 fX6_120 rfl hM.1 ?_
      refine v_imul (pc := 49) h dX6_undo_49 ?_
      refine v_iload_n (pc := 50) h dX6_undo_50 1 rfl rfl ?_
      refine v_iadd (pc := 51) h dX6_undo_51 ?_
      refine v_iald (pc := 52) h dX6_undo_52 (mA_2 hM).2.1 (mA_2 hM).2.2 ?_
      refine v_iast (pc := 53) h dX6_undo_53 (mA_1 hM).2.1 (mA_1 hM).2.2 ?_
      refine v_nmI (fun I6 => ?_)
      refine v_iinc (pc := 54) h dX6_undo_54 1 rfl (w := (i1_3 + (1 : Int32))) rfl (by decide) (lv' := [(1, .int (i1_3 + (1 : Int32))), (0, .ref mo)]) rfl ?_
      refine v_goto (pc := 57) (t := 26) h dX6_undo_57 rfl ?_
      refine v_sub [1, 0] rfl ?_
      exact hX5 (i1_3 + (1 : Int32)) I6
  · refine v_iconst (pc := 12) h dX6_undo_12 (v := 0) rfl ?_
    exact v_zret (pc := 13) h hr (Or.inl rfl) dX6_undo_13
set_option maxHeartbeats 4000000 in
theorem tX6_state {g : Gl} {mo : Nat} {r : Rh} (hM : MStr mo r) (a1 : Int32) (I : MI) : CtI g yX6_state cX6_state 3 (some .int) 0 [.ref mo, .int a1] I r (pX6_state mo a1 I) := by
  refine CtI.mk (lv := [(0, .ref mo), (1, .int a1)]) (by decide) (Nat.le_of_ble_eq_true rfl) rfl (fun x Q h hr => ?_)
  unfold pX6_state
  refine v_aload_n (pc := 0) h dX6_state_0 0 rfl rfl ?_
  refine v_iconst (pc := 1) h dX6_state_1 (v := 0) rfl ?_
  refine v_puti (pc := 2) h dX6_state_2 fX6_116 rfl hM.1 ?_
  refine v_nmI (fun I1 => ?_)
  refine v_aload_n (pc := 5) h dX6_state_5 0 rfl rfl ?_
  refine v_getp (pc := 6) h dX6_state_6 fX6_7 rfl hM.1 (mA_1 hM).1 ?_
  refine v_iconst (pc := 9) h dX6_state_9 (v := 1) rfl ?_
  refine v_ialdL (pc := 10) h dX6_state_10 (mA_1 hM).2.1 (mA_1 hM).2.2 (vpd rfl) (k := 1) rfl ?_
  refine v_nmi (fun v2 => ?_)
  refine v_istore_n (pc := 11) h dX6_state_11 rfl (by decide) (lv' := [(2, .int v2), (0, .ref mo), (1, .int a1)]) rfl ?_
  refine v_aload_n (pc := 12) h dX6_state_12 1 rfl rfl ?_
  refine v_getp (pc := 13) h dX6_state_13 fX6_7 rfl hM.1 (mA_1 hM).1 ?_
  refine v_iconst (pc := 16) h dX6_state_16 (v := 1) rfl ?_
  refine v_iload_n (pc := 17) h dX6_state_17 2 rfl rfl ?_
  refine v_iastL (pc := 18) h dX6_state_18 (mA_1 hM).2.1 (mA_1 hM).2.2 (vpd rfl) (k := 1) rfl ?_
  refine v_nmI (fun I3 => ?_)
  refine v_aload_n (pc := 19) h dX6_state_19 1 rfl rfl ?_
  refine v_iconst (pc := 20) h dX6_state_20 (v := 0) rfl ?_
  refine v_puti (pc := 21) h dX6_state_21 fX6_120 rfl hM.1 ?_
  refine v_nmI (fun I4 => ?_)
  refine v_iload_n (pc := 24) h dX6_state_24 0 rfl rfl ?_
  exact v_iret (pc := 25) h hr dX6_state_25
set_option maxHeartbeats 4000000 in
theorem tX6_isIn {g : Gl} {mo : Nat} {r : Rh} (hM : MStr mo r) (a1 : Int32) (a2 : Int32) (a3 : Int32) (I : MI) : CtP g yX6_isIn cX6_isIn 4 (some .boolean) 0 [.ref mo, .int a1, .int a2, .int a3] I r (pX6_isIn mo a1 a2 a3 I) := by
  refine CtP.mk (lv := [(0, .ref mo), (1, .int a1), (2, .int a2), (3, .int a3)]) (by decide) (Nat.le_of_ble_eq_true rfl) rfl (fun x Q h hr => ?_)
  unfold pX6_isIn
  refine v_iload_n (pc := 0) h dX6_isIn_0 1 rfl rfl ?_
  refine v_iload_n (pc := 1) h dX6_isIn_1 2 rfl rfl ?_
  refine v_jn0 (V g x 4 (0, 0) 14 [] [] I r) (fun k1 hk1 => ?_) ?_
  · refine v_icmp_lt (pc := 2) (t := 14) h dX6_isIn_2 rfl (fun _ => ?_) (fun _ => ?_)
    · refine v_sub [] rfl ?_
      exact hk1
    · refine v_iload_n (pc := 5) h dX6_isIn_5 1 rfl rfl ?_
      refine v_iload_n (pc := 6) h dX6_isIn_6 3 rfl rfl ?_
      refine v_icmp_gt (pc := 7) (t := 14) h dX6_isIn_7 rfl (fun _ => ?_) (fun _ => ?_)
      · refine v_sub [] rfl ?_
        exact hk1
      · refine v_iconst (pc := 10) h dX6_isIn_10 (v := 1) rfl ?_
        refine v_goto (pc := 11) (t := 15) h dX6_isIn_11 rfl ?_
        exact v_zretP (pc := 15) h hr (Or.inr rfl) dX6_isIn_15
  · refine v_iconst (pc := 14) h dX6_isIn_14 (v := 0) rfl ?_
    exact v_zretP (pc := 15) h hr (Or.inl rfl) dX6_isIn_15
set_option maxHeartbeats 4000000 in
theorem tX6_door {g : Gl} {mo : Nat} {r : Rh} (hM : MStr mo r) (a1 : Int32) (a2 : Int32) (a3 : Int32) (I : MI) : CtI g yX6_door cX6_door 4 (some .int) 1 [.ref mo, .int a1, .int a2, .int a3] I r (pX6_door mo a1 a2 a3 I) := by
  refine CtI.mk (lv := [(0, .ref mo), (1, .int a1), (2, .int a2), (3, .int a3)]) (by decide) (Nat.le_of_ble_eq_true rfl) rfl (fun x Q h hr => ?_)
  unfold pX6_door
  refine v_aload_n (pc := 0) h dX6_door_0 0 rfl rfl ?_
  refine v_iconst (pc := 1) h dX6_door_1 (v := 0) rfl ?_
  refine v_puti (pc := 2) h dX6_door_2 fX6_116 rfl hM.1 ?_
  refine v_nmI (fun I1 => ?_)
  refine v_aload_n (pc := 5) h dX6_door_5 0 rfl rfl ?_
  refine v_iload_n (pc := 6) h dX6_door_6 1 rfl rfl ?_
  refine v_bipush (pc := 7) h dX6_door_7 (v := (-9)) rfl ?_
  refine v_bipush (pc := 9) h dX6_door_9 (v := 9) rfl ?_
  refine v_callp (pc := 11) h dX6_door_11 kX6_143 rfl hM.1 (tX6_isIn hM a1 (-9 : Int32) (9 : Int32) I1) (by decide) rfl rfl (Nat.le_of_ble_eq_true rfl) rfl (fun r2 => ?_)
  refine v_if_eq (pc := 14) (t := 49) h dX6_door_14 rfl (fun _ => ?_) (fun _ => ?_)
  · refine v_iconst (pc := 49) h dX6_door_49 (v := (-1)) rfl ?_
    exact v_iret (pc := 50) h hr dX6_door_50
  · refine v_aload_n (pc := 17) h dX6_door_17 0 rfl rfl ?_
    refine v_iload_n (pc := 18) h dX6_door_18 2 rfl rfl ?_
    refine v_iconst (pc := 19) h dX6_door_19 (v := 0) rfl ?_
    refine v_bipush (pc := 20) h dX6_door_20 (v := 9) rfl ?_
    refine v_callp (pc := 22) h dX6_door_22 kX6_143 rfl hM.1 (tX6_isIn hM a2 (0 : Int32) (9 : Int32) I1) (by decide) rfl rfl (Nat.le_of_ble_eq_true rfl) rfl (fun r3 => ?_)
    refine v_if_eq (pc := 25) (t := 49) h dX6_door_25 rfl (fun _ => ?_) (fun _ => ?_)
    · refine v_iconst (pc := 49) h dX6_door_49 (v := (-1)) rfl ?_
      exact v_iret (pc := 50) h hr dX6_door_50
    · refine v_aload_n (pc := 28) h dX6_door_28 0 rfl rfl ?_
      refine v_iload_n (pc := 29) h dX6_door_29 3 rfl rfl ?_
      refine v_iconst (pc := 30) h dX6_door_30 (v := 0) rfl ?_
      refine v_sipush (pc := 31) h dX6_door_31 (v := 999) rfl ?_
      refine v_callp (pc := 34) h dX6_door_34 kX6_143 rfl hM.1 (tX6_isIn hM a3 (0 : Int32) (999 : Int32) I1) (by decide) rfl rfl (Nat.le_of_ble_eq_true rfl) rfl (fun r4 => ?_)
      refine v_if_eq (pc := 37) (t := 49) h dX6_door_37 rfl (fun _ => ?_) (fun _ => ?_)
      · refine v_iconst (pc := 49) h dX6_door_49 (v := (-1)) rfl ?_
        exact v_iret (pc := 50) h hr dX6_door_50
      · refine v_aload_n (pc := 40) h dX6_door_40 0 rfl rfl ?_
        refine v_geti (pc := 41) h dX6_door_41 fX6_129 rfl hM.1 ?_
        refine v_bipush (pc := 44) h dX6_door_44 (v := 12) rfl ?_
        refine v_icmp_ne (pc := 46) (t := 51) h dX6_door_46 rfl (fun _ => ?_) (fun _ => ?_)
        · refine v_aload_n (pc := 51) h dX6_door_51 0 rfl rfl ?_
          refine v_getp (pc := 52) h dX6_door_52 fX6_7 rfl hM.1 (mA_1 hM).1 ?_
          refine v_bipush (pc := 55) h dX6_door_55 (v := 18) rfl ?_
          refine v_aload_n (pc := 57) h dX6_door_57 0 rfl rfl ?_
          refine v_geti (pc := 58) h dX6_door_58 fX6_129 rfl hM.1 ?_
          refine v_iadd (pc := 61) h dX6_door_61 ?_
          refine v_iload_n (pc := 62) h dX6_door_62 1 rfl rfl ?_
          refine v_iast (pc := 63) h dX6_door_63 (mA_1 hM).2.1 (mA_1 hM).2.2 ?_
          refine v_nmI (fun I5 => ?_)
          refine v_aload_n (pc := 64) h dX6_door_64 0 rfl rfl ?_
          refine v_getp (pc := 65) h dX6_door_65 fX6_7 rfl hM.1 (mA_1 hM).1 ?_
          refine v_bipush (pc := 68) h dX6_door_68 (v := 30) rfl ?_
          refine v_aload_n (pc := 70) h dX6_door_70 0 rfl rfl ?_
          refine v_geti (pc := 71) h dX6_door_71 fX6_129 rfl hM.1 ?_
          refine v_iadd (pc := 74) h dX6_door_74 ?_
          refine v_iload_n (pc := 75) h dX6_door_75 3 rfl rfl ?_
          refine v_iast (pc := 76) h dX6_door_76 (mA_1 hM).2.1 (mA_1 hM).2.2 ?_
          refine v_nmI (fun I6 => ?_)
          refine v_aload_n (pc := 77) h dX6_door_77 0 rfl rfl ?_
          refine v_getp (pc := 78) h dX6_door_78 fX6_7 rfl hM.1 (mA_1 hM).1 ?_
          refine v_bipush (pc := 81) h dX6_door_81 (v := 42) rfl ?_
          refine v_aload_n (pc := 83) h dX6_door_83 0 rfl rfl ?_
          refine v_geti (pc := 84) h dX6_door_84 fX6_129 rfl hM.1 ?_
          refine v_iadd (pc := 87) h dX6_door_87 ?_
          refine v_iconst (pc := 88) h dX6_door_88 (v := 0) rfl ?_
          refine v_iast (pc := 89) h dX6_door_89 (mA_1 hM).2.1 (mA_1 hM).2.2 ?_
          refine v_nmI (fun I7 => ?_)
          refine v_aload_n (pc := 90) h dX6_door_90 0 rfl rfl ?_
          refine v_getp (pc := 91) h dX6_door_91 fX6_19 rfl hM.1 (mA_7 hM).1 ?_
          refine v_aload_n (pc := 94) h dX6_door_94 0 rfl rfl ?_
          refine v_geti (pc := 95) h dX6_door_95 fX6_129 rfl hM.1 ?_
          refine v_iload_n (pc := 98) h dX6_door_98 2 rfl rfl ?_
          refine v_iast (pc := 99) h dX6_door_99 (mA_7 hM).2.1 (mA_7 hM).2.2 ?_
          refine v_nmI (fun I8 => ?_)
          refine v_aload_n (pc := 100) h dX6_door_100 0 rfl rfl ?_
          refine v_aload_n (pc := 101) h dX6_door_101 0 rfl rfl ?_
          refine v_geti (pc := 102) h dX6_door_102 fX6_129 rfl hM.1 ?_
          refine v_iconst (pc := 105) h dX6_door_105 (v := 1) rfl ?_
          refine v_iadd (pc := 106) h dX6_door_106 ?_
          refine v_puti (pc := 107) h dX6_door_107 fX6_129 rfl hM.1 ?_
          refine v_nmI (fun I9 => ?_)
          refine v_aload_n (pc := 110) h dX6_door_110 0 rfl rfl ?_
          refine v_iconst (pc := 111) h dX6_door_111 (v := 0) rfl ?_
          refine v_puti (pc := 112) h dX6_door_112 fX6_120 rfl hM.1 ?_
          refine v_nmI (fun I10 => ?_)
          refine v_aload_n (pc := 115) h dX6_door_115 0 rfl rfl ?_
          refine v_geti (pc := 116) h dX6_door_116 fX6_129 rfl hM.1 ?_
          refine v_iconst (pc := 119) h dX6_door_119 (v := 1) rfl ?_
          refine v_isub (pc := 120) h dX6_door_120 ?_
          exact v_iret (pc := 121) h hr dX6_door_121
        · refine v_iconst (pc := 49) h dX6_door_49 (v := (-1)) rfl ?_
          exact v_iret (pc := 50) h hr dX6_door_50
set_option maxHeartbeats 4000000 in
theorem tX6_isDoor {g : Gl} {mo : Nat} {r : Rh} (hM : MStr mo r) (a1 : Int32) (I : MI) : CtP g yX6_isDoor cX6_isDoor 2 (some .boolean) 0 [.ref mo, .int a1] I r (pX6_isDoor mo a1 I) := by
  refine CtP.mk (lv := [(0, .ref mo), (1, .int a1)]) (by decide) (Nat.le_of_ble_eq_true rfl) rfl (fun x Q h hr => ?_)
  unfold pX6_isDoor
  refine v_iload_n (pc := 0) h dX6_isDoor_0 1 rfl rfl ?_
  refine v_jn0 (V g x 2 (0, 0) 16 [] [] I r) (fun k1 hk1 => ?_) ?_
  · refine v_if_lt (pc := 1) (t := 16) h dX6_isDoor_1 rfl (fun _ => ?_) (fun _ => ?_)
    · refine v_sub [] rfl ?_
      exact hk1
    · refine v_iload_n (pc := 4) h dX6_isDoor_4 1 rfl rfl ?_
      refine v_aload_n (pc := 5) h dX6_isDoor_5 0 rfl rfl ?_
      refine v_geti (pc := 6) h dX6_isDoor_6 fX6_129 rfl hM.1 ?_
      refine v_icmp_ge (pc := 9) (t := 16) h dX6_isDoor_9 rfl (fun _ => ?_) (fun _ => ?_)
      · refine v_sub [] rfl ?_
        exact hk1
      · refine v_iconst (pc := 12) h dX6_isDoor_12 (v := 1) rfl ?_
        refine v_goto (pc := 13) (t := 17) h dX6_isDoor_13 rfl ?_
        exact v_zretP (pc := 17) h hr (Or.inr rfl) dX6_isDoor_17
  · refine v_iconst (pc := 16) h dX6_isDoor_16 (v := 0) rfl ?_
    exact v_zretP (pc := 17) h hr (Or.inl rfl) dX6_isDoor_17
set_option maxHeartbeats 4000000 in
theorem tX6_canSet {g : Gl} {mo : Nat} {r : Rh} (hM : MStr mo r) (a1 : Int32) (a2 : Int32) (a3 : Int32) (I : MI) : CtP g yX6_canSet cX6_canSet 4 (some .boolean) 1 [.ref mo, .int a1, .int a2, .int a3] I r (pX6_canSet mo a1 a2 a3 I) := by
  refine CtP.mk (lv := [(0, .ref mo), (1, .int a1), (2, .int a2), (3, .int a3)]) (by decide) (Nat.le_of_ble_eq_true rfl) rfl (fun x Q h hr => ?_)
  unfold pX6_canSet
  refine v_iload_n (pc := 0) h dX6_canSet_0 1 rfl rfl ?_
  refine v_if_ne (pc := 1) (t := 30) h dX6_canSet_1 rfl (fun _ => ?_) (fun _ => ?_)
  · refine v_iload_n (pc := 30) h dX6_canSet_30 1 rfl rfl ?_
    refine v_iconst (pc := 31) h dX6_canSet_31 (v := 1) rfl ?_
    refine v_jn0 (V g x 4 (0, 0) 40 [(0, .ref mo), (1, .int a1), (2, .int a2), (3, .int a3)] [] I r) (fun k1 hk1 => ?_) ?_
    · refine v_icmp_eq (pc := 32) (t := 40) h dX6_canSet_32 rfl (fun _ => ?_) (fun _ => ?_)
      · exact hk1
      · refine v_iload_n (pc := 35) h dX6_canSet_35 1 rfl rfl ?_
        refine v_iconst (pc := 36) h dX6_canSet_36 (v := 2) rfl ?_
        refine v_icmp_ne (pc := 37) (t := 76) h dX6_canSet_37 rfl (fun _ => ?_) (fun _ => ?_)
        · refine v_iload_n (pc := 76) h dX6_canSet_76 1 rfl rfl ?_
          refine v_iconst (pc := 77) h dX6_canSet_77 (v := 3) rfl ?_
          refine v_jn0 (V g x 4 (0, 0) 101 [] [] I r) (fun k2 hk2 => ?_) ?_
          · refine v_jn0 (V g x 4 (0, 0) 86 [(0, .ref mo), (3, .int a3)] [] I r) (fun k3 hk3 => ?_) ?_
            · refine v_icmp_eq (pc := 78) (t := 86) h dX6_canSet_78 rfl (fun _ => ?_) (fun _ => ?_)
              · refine v_sub [0, 3] rfl ?_
                exact hk3
              · refine v_iload_n (pc := 81) h dX6_canSet_81 1 rfl rfl ?_
                refine v_iconst (pc := 82) h dX6_canSet_82 (v := 4) rfl ?_
                refine v_icmp_ne (pc := 83) (t := 101) h dX6_canSet_83 rfl (fun _ => ?_) (fun _ => ?_)
                · refine v_sub [] rfl ?_
                  exact hk2
                · refine v_sub [0, 3] rfl ?_
                  exact hk3
            · refine v_aload_n (pc := 86) h dX6_canSet_86 0 rfl rfl ?_
              refine v_iload_n (pc := 87) h dX6_canSet_87 1 rfl rfl ?_
              refine v_iconst (pc := 88) h dX6_canSet_88 (v := 0) rfl ?_
              refine v_bipush (pc := 89) h dX6_canSet_89 (v := 99) rfl ?_
              refine v_callp (pc := 91) h dX6_canSet_91 kX6_143 rfl hM.1 (tX6_isIn hM a3 (0 : Int32) (99 : Int32) I) (by decide) rfl rfl (Nat.le_of_ble_eq_true rfl) rfl (fun r4 => ?_)
              refine v_if_eq (pc := 94) (t := 101) h dX6_canSet_94 rfl (fun _ => ?_) (fun _ => ?_)
              · refine v_sub [] rfl ?_
                exact hk2
              · refine v_iconst (pc := 97) h dX6_canSet_97 (v := 1) rfl ?_
                refine v_goto (pc := 98) (t := 102) h dX6_canSet_98 rfl ?_
                exact v_zretP (pc := 102) h hr (Or.inr rfl) dX6_canSet_102
          · refine v_iconst (pc := 101) h dX6_canSet_101 (v := 0) rfl ?_
            exact v_zretP (pc := 102) h hr (Or.inl rfl) dX6_canSet_102
        · exact hk1
    · refine v_aload_n (pc := 40) h dX6_canSet_40 0 rfl rfl ?_
      refine v_iload_n (pc := 41) h dX6_canSet_41 2 rfl rfl ?_
      refine v_callp (pc := 42) h dX6_canSet_42 kX6_147 rfl hM.1 (tX6_isDoor hM a2 I) (by decide) rfl rfl (Nat.le_of_ble_eq_true rfl) rfl (fun r5 => ?_)
      refine v_jn0 (V g x 4 (0, 0) 74 [] [] I r) (fun k6 hk6 => ?_) ?_
      · refine v_if_eq (pc := 45) (t := 74) h dX6_canSet_45 rfl (fun _ => ?_) (fun _ => ?_)
        · refine v_sub [] rfl ?_
          exact hk6
        · refine v_aload_n (pc := 48) h dX6_canSet_48 0 rfl rfl ?_
          refine v_iload_n (pc := 49) h dX6_canSet_49 3 rfl rfl ?_
          refine v_iconst (pc := 50) h dX6_canSet_50 (v := 0) rfl ?_
          refine v_iload_n (pc := 51) h dX6_canSet_51 1 rfl rfl ?_
          refine v_iconst (pc := 52) h dX6_canSet_52 (v := 1) rfl ?_
          refine v_jn1 (fun t7 => V g x 4 (0, 0) 64 [] [.int t7, .int (0 : Int32), .int a3, .ref mo] I r) (fun k8 hk8 => ?_) (fun t7 => ?_)
          · refine v_icmp_ne (pc := 53) (t := 61) h dX6_canSet_53 rfl (fun _ => ?_) (fun _ => ?_)
            · refine v_sipush (pc := 61) h dX6_canSet_61 (v := 999) rfl ?_
              refine v_sub [] rfl ?_
              exact hk8 (999 : Int32)
            · refine v_bipush (pc := 56) h dX6_canSet_56 (v := 9) rfl ?_
              refine v_goto (pc := 58) (t := 64) h dX6_canSet_58 rfl ?_
              refine v_sub [] rfl ?_
              exact hk8 (9 : Int32)
          · refine v_callp (pc := 64) h dX6_canSet_64 kX6_143 rfl hM.1 (tX6_isIn hM a3 (0 : Int32) t7 I) (by decide) rfl rfl (Nat.le_of_ble_eq_true rfl) rfl (fun r9 => ?_)
            refine v_if_eq (pc := 67) (t := 74) h dX6_canSet_67 rfl (fun _ => ?_) (fun _ => ?_)
            · exact hk6
            · refine v_iconst (pc := 70) h dX6_canSet_70 (v := 1) rfl ?_
              refine v_goto (pc := 71) (t := 75) h dX6_canSet_71 rfl ?_
              exact v_zretP (pc := 75) h hr (Or.inr rfl) dX6_canSet_75
      · refine v_iconst (pc := 74) h dX6_canSet_74 (v := 0) rfl ?_
        exact v_zretP (pc := 75) h hr (Or.inl rfl) dX6_canSet_75
  · refine v_aload_n (pc := 4) h dX6_canSet_4 0 rfl rfl ?_
    refine v_iload_n (pc := 5) h dX6_canSet_5 2 rfl rfl ?_
    refine v_callp (pc := 6) h dX6_canSet_6 kX6_147 rfl hM.1 (tX6_isDoor hM a2 I) (by decide) rfl rfl (Nat.le_of_ble_eq_true rfl) rfl (fun r10 => ?_)
    refine v_jn0 (V g x 4 (0, 0) 28 [] [] I r) (fun k11 hk11 => ?_) ?_
    · refine v_if_eq (pc := 9) (t := 28) h dX6_canSet_9 rfl (fun _ => ?_) (fun _ => ?_)
      · refine v_sub [] rfl ?_
        exact hk11
      · refine v_aload_n (pc := 12) h dX6_canSet_12 0 rfl rfl ?_
        refine v_iload_n (pc := 13) h dX6_canSet_13 3 rfl rfl ?_
        refine v_bipush (pc := 14) h dX6_canSet_14 (v := (-9)) rfl ?_
        refine v_bipush (pc := 16) h dX6_canSet_16 (v := 9) rfl ?_
        refine v_callp (pc := 18) h dX6_canSet_18 kX6_143 rfl hM.1 (tX6_isIn hM a3 (-9 : Int32) (9 : Int32) I) (by decide) rfl rfl (Nat.le_of_ble_eq_true rfl) rfl (fun r12 => ?_)
        refine v_if_eq (pc := 21) (t := 28) h dX6_canSet_21 rfl (fun _ => ?_) (fun _ => ?_)
        · refine v_sub [] rfl ?_
          exact hk11
        · refine v_iconst (pc := 24) h dX6_canSet_24 (v := 1) rfl ?_
          refine v_goto (pc := 25) (t := 29) h dX6_canSet_25 rfl ?_
          exact v_zretP (pc := 29) h hr (Or.inr rfl) dX6_canSet_29
    · refine v_iconst (pc := 28) h dX6_canSet_28 (v := 0) rfl ?_
      exact v_zretP (pc := 29) h hr (Or.inl rfl) dX6_canSet_29
set_option maxHeartbeats 4000000 in
theorem tX6_held {g : Gl} {mo : Nat} {r : Rh} (hM : MStr mo r) (a1 : Int32) (a2 : Int32) (a3 : Int32) (I : MI) : CtP g yX6_held cX6_held 4 (some .int) 0 [.ref mo, .int a1, .int a2, .int a3] I r (pX6_held mo a1 a2 a3 I) := by
  refine CtP.mk (lv := [(0, .ref mo), (1, .int a1), (2, .int a2), (3, .int a3)]) (by decide) (Nat.le_of_ble_eq_true rfl) rfl (fun x Q h hr => ?_)
  unfold pX6_held
  refine v_iload_n (pc := 0) h dX6_held_0 1 rfl rfl ?_
  refine v_iload_n (pc := 1) h dX6_held_1 2 rfl rfl ?_
  refine v_icmp_ge (pc := 2) (t := 9) h dX6_held_2 rfl (fun _ => ?_) (fun _ => ?_)
  · refine v_iload_n (pc := 9) h dX6_held_9 1 rfl rfl ?_
    refine v_iload_n (pc := 10) h dX6_held_10 3 rfl rfl ?_
    refine v_icmp_le (pc := 11) (t := 18) h dX6_held_11 rfl (fun _ => ?_) (fun _ => ?_)
    · refine v_iload_n (pc := 18) h dX6_held_18 1 rfl rfl ?_
      exact v_iretP (pc := 19) h hr dX6_held_19
    · refine v_iload_n (pc := 14) h dX6_held_14 3 rfl rfl ?_
      refine v_goto (pc := 15) (t := 19) h dX6_held_15 rfl ?_
      exact v_iretP (pc := 19) h hr dX6_held_19
  · refine v_iload_n (pc := 5) h dX6_held_5 2 rfl rfl ?_
    refine v_goto (pc := 6) (t := 19) h dX6_held_6 rfl ?_
    exact v_iretP (pc := 19) h hr dX6_held_19
set_option maxHeartbeats 4000000 in
theorem tX6_hasHealth {g : Gl} {mo : Nat} {r : Rh} (hM : MStr mo r) (a1 : Int32) (I : MI) : CtV g yX6_hasHealth cX6_hasHealth 2 1 [.ref mo, .int a1] I r (pX6_hasHealth mo a1 I) := by
  refine CtV.mk (lv := [(0, .ref mo), (1, .int a1)]) (by decide) (Nat.le_of_ble_eq_true rfl) rfl (fun x Q h hr => ?_)
  unfold pX6_hasHealth
  refine v_aload_n (pc := 0) h dX6_hasHealth_0 0 rfl rfl ?_
  refine v_getp (pc := 1) h dX6_hasHealth_1 fX6_7 rfl hM.1 (mA_1 hM).1 ?_
  refine v_iconst (pc := 4) h dX6_hasHealth_4 (v := 4) rfl ?_
  refine v_bipush (pc := 5) h dX6_hasHealth_5 (v := 99) rfl ?_
  refine v_aload_n (pc := 7) h dX6_hasHealth_7 0 rfl rfl ?_
  refine v_iload_n (pc := 8) h dX6_hasHealth_8 1 rfl rfl ?_
  refine v_iconst (pc := 9) h dX6_hasHealth_9 (v := 0) rfl ?_
  refine v_bipush (pc := 10) h dX6_hasHealth_10 (v := 99) rfl ?_
  refine v_callp (pc := 12) h dX6_hasHealth_12 kX6_132 rfl hM.1 (tX6_held hM a1 (0 : Int32) (99 : Int32) I) (by decide) rfl rfl (Nat.le_of_ble_eq_true rfl) rfl (fun r1 => ?_)
  refine v_isub (pc := 15) h dX6_hasHealth_15 ?_
  refine v_iastL (pc := 16) h dX6_hasHealth_16 (mA_1 hM).2.1 (mA_1 hM).2.2 (vpd rfl) (k := 4) rfl ?_
  refine v_nmI (fun I2 => ?_)
  exact v_vret (pc := 17) h hr dX6_hasHealth_17
set_option maxHeartbeats 4000000 in
theorem tX6_set {g : Gl} {mo : Nat} {r : Rh} (hM : MStr mo r) (a1 : Int32) (a2 : Int32) (a3 : Int32) (I : MI) : CtI g yX6_set cX6_set 4 (some .boolean) 2 [.ref mo, .int a1, .int a2, .int a3] I r (pX6_set mo a1 a2 a3 I) := by
  refine CtI.mk (lv := [(0, .ref mo), (1, .int a1), (2, .int a2), (3, .int a3)]) (by decide) (Nat.le_of_ble_eq_true rfl) rfl (fun x Q h hr => ?_)
  unfold pX6_set
  refine v_aload_n (pc := 0) h dX6_set_0 0 rfl rfl ?_
  refine v_iconst (pc := 1) h dX6_set_1 (v := 0) rfl ?_
  refine v_puti (pc := 2) h dX6_set_2 fX6_116 rfl hM.1 ?_
  refine v_nmI (fun I1 => ?_)
  refine v_aload_n (pc := 5) h dX6_set_5 0 rfl rfl ?_
  refine v_iload_n (pc := 6) h dX6_set_6 1 rfl rfl ?_
  refine v_iload_n (pc := 7) h dX6_set_7 2 rfl rfl ?_
  refine v_iload_n (pc := 8) h dX6_set_8 3 rfl rfl ?_
  refine v_callp (pc := 9) h dX6_set_9 kX6_151 rfl hM.1 (tX6_canSet hM a1 a2 a3 I1) (by decide) rfl rfl (Nat.le_of_ble_eq_true rfl) rfl (fun r2 => ?_)
  refine v_if_ne (pc := 12) (t := 17) h dX6_set_12 rfl (fun _ => ?_) (fun _ => ?_)
  · refine v_iload_n (pc := 17) h dX6_set_17 1 rfl rfl ?_
    refine v_jn1 (fun I3 => V g x 4 (0, 0) 31 [(0, .ref mo), (1, .int a1), (2, .int a2), (3, .int a3)] [] I3 r) (fun k4 hk4 => ?_) (fun I3 => ?_)
    · refine v_if_ne (pc := 18) (t := 31) h dX6_set_18 rfl (fun _ => ?_) (fun _ => ?_)
      · exact hk4 I1
      · refine v_aload_n (pc := 21) h dX6_set_21 0 rfl rfl ?_
        refine v_getp (pc := 22) h dX6_set_22 fX6_7 rfl hM.1 (mA_1 hM).1 ?_
        refine v_bipush (pc := 25) h dX6_set_25 (v := 18) rfl ?_
        refine v_iload_n (pc := 27) h dX6_set_27 2 rfl rfl ?_
        refine v_iadd (pc := 28) h dX6_set_28 ?_
        refine v_iload_n (pc := 29) h dX6_set_29 3 rfl rfl ?_
        refine v_iast (pc := 30) h dX6_set_30 (mA_1 hM).2.1 (mA_1 hM).2.2 ?_
        refine v_nmI (fun I5 => ?_)
        exact hk4 I5
    · refine v_iload_n (pc := 31) h dX6_set_31 1 rfl rfl ?_
      refine v_iconst (pc := 32) h dX6_set_32 (v := 1) rfl ?_
      refine v_jn1 (fun I6 => V g x 4 (0, 0) 43 [(0, .ref mo), (1, .int a1), (2, .int a2), (3, .int a3)] [] I6 r) (fun k7 hk7 => ?_) (fun I6 => ?_)
      · refine v_icmp_ne (pc := 33) (t := 43) h dX6_set_33 rfl (fun _ => ?_) (fun _ => ?_)
        · exact hk7 I3
        · refine v_aload_n (pc := 36) h dX6_set_36 0 rfl rfl ?_
          refine v_getp (pc := 37) h dX6_set_37 fX6_19 rfl hM.1 (mA_7 hM).1 ?_
          refine v_iload_n (pc := 40) h dX6_set_40 2 rfl rfl ?_
          refine v_iload_n (pc := 41) h dX6_set_41 3 rfl rfl ?_
          refine v_iast (pc := 42) h dX6_set_42 (mA_7 hM).2.1 (mA_7 hM).2.2 ?_
          refine v_nmI (fun I8 => ?_)
          exact hk7 I8
      · refine v_iload_n (pc := 43) h dX6_set_43 1 rfl rfl ?_
        refine v_iconst (pc := 44) h dX6_set_44 (v := 2) rfl ?_
        refine v_jn1 (fun I9 => V g x 4 (0, 0) 58 [(0, .ref mo), (1, .int a1), (3, .int a3)] [] I9 r) (fun k10 hk10 => ?_) (fun I9 => ?_)
        · refine v_icmp_ne (pc := 45) (t := 58) h dX6_set_45 rfl (fun _ => ?_) (fun _ => ?_)
          · refine v_sub [0, 1, 3] rfl ?_
            exact hk10 I6
          · refine v_aload_n (pc := 48) h dX6_set_48 0 rfl rfl ?_
            refine v_getp (pc := 49) h dX6_set_49 fX6_7 rfl hM.1 (mA_1 hM).1 ?_
            refine v_bipush (pc := 52) h dX6_set_52 (v := 30) rfl ?_
            refine v_iload_n (pc := 54) h dX6_set_54 2 rfl rfl ?_
            refine v_iadd (pc := 55) h dX6_set_55 ?_
            refine v_iload_n (pc := 56) h dX6_set_56 3 rfl rfl ?_
            refine v_iast (pc := 57) h dX6_set_57 (mA_1 hM).2.1 (mA_1 hM).2.2 ?_
            refine v_nmI (fun I11 => ?_)
            refine v_sub [0, 1, 3] rfl ?_
            exact hk10 I11
        · refine v_iload_n (pc := 58) h dX6_set_58 1 rfl rfl ?_
          refine v_iconst (pc := 59) h dX6_set_59 (v := 3) rfl ?_
          refine v_jn1 (fun I12 => V g x 4 (0, 0) 68 [(0, .ref mo), (1, .int a1), (3, .int a3)] [] I12 r) (fun k13 hk13 => ?_) (fun I12 => ?_)
          · refine v_icmp_ne (pc := 60) (t := 68) h dX6_set_60 rfl (fun _ => ?_) (fun _ => ?_)
            · exact hk13 I9
            · refine v_aload_n (pc := 63) h dX6_set_63 0 rfl rfl ?_
              refine v_iload_n (pc := 64) h dX6_set_64 2 rfl rfl ?_
              refine v_callv (pc := 65) h dX6_set_65 kX6_154 rfl hM.1 (tX6_hasHealth hM a3 I9) (by decide) rfl rfl (Nat.le_of_ble_eq_true rfl) rfl (fun I14 => ?_)
              exact hk13 I14
          · refine v_iload_n (pc := 68) h dX6_set_68 1 rfl rfl ?_
            refine v_iconst (pc := 69) h dX6_set_69 (v := 4) rfl ?_
            refine v_jn1 (fun I15 => V g x 4 (0, 0) 80 [(0, .ref mo)] [] I15 r) (fun k16 hk16 => ?_) (fun I15 => ?_)
            · refine v_icmp_ne (pc := 70) (t := 80) h dX6_set_70 rfl (fun _ => ?_) (fun _ => ?_)
              · refine v_sub [0] rfl ?_
                exact hk16 I12
              · refine v_aload_n (pc := 73) h dX6_set_73 0 rfl rfl ?_
                refine v_getp (pc := 74) h dX6_set_74 fX6_7 rfl hM.1 (mA_1 hM).1 ?_
                refine v_iconst (pc := 77) h dX6_set_77 (v := 5) rfl ?_
                refine v_iload_n (pc := 78) h dX6_set_78 2 rfl rfl ?_
                refine v_iastL (pc := 79) h dX6_set_79 (mA_1 hM).2.1 (mA_1 hM).2.2 (vpd rfl) (k := 5) rfl ?_
                refine v_nmI (fun I17 => ?_)
                refine v_sub [0] rfl ?_
                exact hk16 I17
            · refine v_aload_n (pc := 80) h dX6_set_80 0 rfl rfl ?_
              refine v_iconst (pc := 81) h dX6_set_81 (v := 0) rfl ?_
              refine v_puti (pc := 82) h dX6_set_82 fX6_120 rfl hM.1 ?_
              refine v_nmI (fun I18 => ?_)
              refine v_iconst (pc := 85) h dX6_set_85 (v := 1) rfl ?_
              exact v_zret (pc := 86) h hr (Or.inr rfl) dX6_set_86
  · refine v_iconst (pc := 15) h dX6_set_15 (v := 0) rfl ?_
    exact v_zret (pc := 16) h hr (Or.inl rfl) dX6_set_16
set_option maxHeartbeats 4000000 in
theorem tX6_types {g : Gl} {mo : Nat} {r : Rh} (hM : MStr mo r) (a1 : Int32) (I : MI) : CtV g yX6_types cX6_types 3 0 [.ref mo, .int a1] I r (pX6_types mo a1 I) := by
  refine CtV.mk (lv := [(0, .ref mo), (1, .int a1)]) (by decide) (Nat.le_of_ble_eq_true rfl) rfl (fun x Q h hr => ?_)
  unfold pX6_types
  refine v_bipush (pc := 0) h dX6_types_0 (v := 24) rfl ?_
  refine v_istore_n (pc := 2) h dX6_types_2 rfl (by decide) (lv' := [(2, .int (24 : Int32)), (0, .ref mo), (1, .int a1)]) rfl ?_
  refine v_sub [1, 2, 0] rfl ?_
  refine L2.run (lv := fun i2_1 I2 => [(0, .ref mo), (1, .int a1), (2, .int i2_1)]) (st := fun i2_1 I2 => []) (Im := fun i2_1 I2 => I2) (r := fun i2_1 I2 => r) (fun X3 hX3 i2_1 I2 => ?_) (24 : Int32) I
  refine v_iload_n (pc := 3) h dX6_types_3 2 rfl rfl ?_
  refine v_if_lt (pc := 4) (t := 39) h dX6_types_4 rfl (fun _ => ?_) (fun _ => ?_)
  · exact v_vret (pc := 39) h hr dX6_types_39
  · refine v_aload_n (pc := 7) h dX6_types_7 0 rfl rfl ?_
    refine v_getp (pc := 8) h dX6_types_8 fX6_25 rfl hM.1 (mA_9 hM).1 ?_
    refine v_aload_n (pc := 11) h dX6_types_11 0 rfl rfl ?_
    refine v_geti (pc := 12) h dX6_types_12 fX6_158 rfl hM.1 ?_
    refine v_iload_n (pc := 15) h dX6_types_15 1 rfl rfl ?_
    refine v_iload_n (pc := 16) h dX6_types_16 2 rfl rfl ?_
    refine v_ishr (pc := 17) h dX6_types_17 ?_
    refine v_sipush (pc := 18) h dX6_types_18 (v := 255) rfl ?_
    refine v_iand (pc := 21) h dX6_types_21 ?_
    refine v_iast (pc := 22) h dX6_types_22 (mA_9 hM).2.1 (mA_9 hM).2.2 ?_
    refine v_nmI (fun I4 => ?_)
    refine v_aload_n (pc := 23) h dX6_types_23 0 rfl rfl ?_
    refine v_aload_n (pc := 24) h dX6_types_24 0 rfl rfl ?_
    refine v_geti (pc := 25) h dX6_types_25 fX6_158 rfl hM.1 ?_
    refine v_iconst (pc := 28) h dX6_types_28 (v := 1) rfl ?_
    refine v_iadd (pc := 29) h dX6_types_29 ?_
    refine v_puti (pc := 30) h dX6_types_30 fX6_158 rfl hM.1 ?_
    refine v_nmI (fun I5 => ?_)
    refine v_iinc (pc := 33) h dX6_types_33 2 rfl (w := (i2_1 + (-8 : Int32))) rfl (by decide) (lv' := [(2, .int (i2_1 + (-8 : Int32))), (0, .ref mo), (1, .int a1)]) rfl ?_
    refine v_goto (pc := 36) (t := 3) h dX6_types_36 rfl ?_
    refine v_sub [1, 2, 0] rfl ?_
    exact hX3 (i2_1 + (-8 : Int32)) I5
set_option maxHeartbeats 4000000 in
theorem tX6_feed {g : Gl} {mo : Nat} {r : Rh} (hM : MStr mo r) (a1 : Int32) (a2 : Int32) (a3 : Int32) (a4 : Int32) (a5 : Int32) (I : MI) : CtI g yX6_feed cX6_feed 6 (some .int) 1 [.ref mo, .int a1, .int a2, .int a3, .int a4, .int a5] I r (pX6_feed mo a1 a2 a3 a4 a5 I) := by
  refine CtI.mk (lv := [(0, .ref mo), (1, .int a1), (2, .int a2), (3, .int a3), (4, .int a4), (5, .int a5)]) (by decide) (Nat.le_of_ble_eq_true rfl) rfl (fun x Q h hr => ?_)
  unfold pX6_feed
  refine v_aload_n (pc := 0) h dX6_feed_0 0 rfl rfl ?_
  refine v_iconst (pc := 1) h dX6_feed_1 (v := 0) rfl ?_
  refine v_puti (pc := 2) h dX6_feed_2 fX6_116 rfl hM.1 ?_
  refine v_nmI (fun I1 => ?_)
  refine v_aload_n (pc := 5) h dX6_feed_5 0 rfl rfl ?_
  refine v_geti (pc := 6) h dX6_feed_6 fX6_158 rfl hM.1 ?_
  refine v_sipush (pc := 9) h dX6_feed_9 (v := 380) rfl ?_
  refine v_icmp_le (pc := 12) (t := 17) h dX6_feed_12 rfl (fun _ => ?_) (fun _ => ?_)
  · refine v_aload_n (pc := 17) h dX6_feed_17 0 rfl rfl ?_
    refine v_iload_n (pc := 18) h dX6_feed_18 1 rfl rfl ?_
    refine v_callv (pc := 19) h dX6_feed_19 kX6_161 rfl hM.1 (tX6_types hM a1 I1) (by decide) rfl rfl (Nat.le_of_ble_eq_true rfl) rfl (fun I2 => ?_)
    refine v_aload_n (pc := 22) h dX6_feed_22 0 rfl rfl ?_
    refine v_iload_n (pc := 23) h dX6_feed_23 2 rfl rfl ?_
    refine v_callv (pc := 24) h dX6_feed_24 kX6_161 rfl hM.1 (tX6_types hM a2 I2) (by decide) rfl rfl (Nat.le_of_ble_eq_true rfl) rfl (fun I3 => ?_)
    refine v_aload_n (pc := 27) h dX6_feed_27 0 rfl rfl ?_
    refine v_iload_n (pc := 28) h dX6_feed_28 3 rfl rfl ?_
    refine v_callv (pc := 29) h dX6_feed_29 kX6_161 rfl hM.1 (tX6_types hM a3 I3) (by decide) rfl rfl (Nat.le_of_ble_eq_true rfl) rfl (fun I4 => ?_)
    refine v_aload_n (pc := 32) h dX6_feed_32 0 rfl rfl ?_
    refine v_iload (pc := 33) h dX6_feed_33 4 rfl ?_
    refine v_callv (pc := 35) h dX6_feed_35 kX6_161 rfl hM.1 (tX6_types hM a4 I4) (by decide) rfl rfl (Nat.le_of_ble_eq_true rfl) rfl (fun I5 => ?_)
    refine v_aload_n (pc := 38) h dX6_feed_38 0 rfl rfl ?_
    refine v_iload (pc := 39) h dX6_feed_39 5 rfl ?_
    refine v_callv (pc := 41) h dX6_feed_41 kX6_161 rfl hM.1 (tX6_types hM a5 I5) (by decide) rfl rfl (Nat.le_of_ble_eq_true rfl) rfl (fun I6 => ?_)
    refine v_aload_n (pc := 44) h dX6_feed_44 0 rfl rfl ?_
    refine v_geti (pc := 45) h dX6_feed_45 fX6_158 rfl hM.1 ?_
    exact v_iret (pc := 48) h hr dX6_feed_48
  · refine v_iconst (pc := 15) h dX6_feed_15 (v := (-1)) rfl ?_
    exact v_iret (pc := 16) h hr dX6_feed_16
set_option maxHeartbeats 4000000 in
theorem tX6_end {g : Gl} {mo : Nat} {r : Rh} (hM : MStr mo r) (a1 : Int32) (I : MI) : CtI g yX6_end cX6_end 2 (some .boolean) 1 [.ref mo, .int a1] I r (pX6_end mo a1 I) := by
  refine CtI.mk (lv := [(0, .ref mo), (1, .int a1)]) (by decide) (Nat.le_of_ble_eq_true rfl) rfl (fun x Q h hr => ?_)
  unfold pX6_end
  refine v_aload_n (pc := 0) h dX6_end_0 0 rfl rfl ?_
  refine v_iconst (pc := 1) h dX6_end_1 (v := 0) rfl ?_
  refine v_puti (pc := 2) h dX6_end_2 fX6_116 rfl hM.1 ?_
  refine v_nmI (fun I1 => ?_)
  refine v_aload_n (pc := 5) h dX6_end_5 0 rfl rfl ?_
  refine v_iload_n (pc := 6) h dX6_end_6 1 rfl rfl ?_
  refine v_iconst (pc := 7) h dX6_end_7 (v := 0) rfl ?_
  refine v_aload_n (pc := 8) h dX6_end_8 0 rfl rfl ?_
  refine v_geti (pc := 9) h dX6_end_9 fX6_158 rfl hM.1 ?_
  refine v_callp (pc := 12) h dX6_end_12 kX6_143 rfl hM.1 (tX6_isIn hM a1 (0 : Int32) (I1 mo 10) I1) (by decide) rfl rfl (Nat.le_of_ble_eq_true rfl) rfl (fun r2 => ?_)
  refine v_if_ne (pc := 15) (t := 20) h dX6_end_15 rfl (fun _ => ?_) (fun _ => ?_)
  · refine v_aload_n (pc := 20) h dX6_end_20 0 rfl rfl ?_
    refine v_iload_n (pc := 21) h dX6_end_21 1 rfl rfl ?_
    refine v_puti (pc := 22) h dX6_end_22 fX6_158 rfl hM.1 ?_
    refine v_nmI (fun I3 => ?_)
    refine v_iconst (pc := 25) h dX6_end_25 (v := 1) rfl ?_
    exact v_zret (pc := 26) h hr (Or.inr rfl) dX6_end_26
  · refine v_iconst (pc := 18) h dX6_end_18 (v := 0) rfl ?_
    exact v_zret (pc := 19) h hr (Or.inl rfl) dX6_end_19
set_option maxHeartbeats 4000000 in
theorem tX6_raw {g : Gl} {mo : Nat} {r : Rh} (hM : MStr mo r) (a1 : Int32) (I : MI) : CtP g yX6_raw cX6_raw 2 (some .int) 0 [.ref mo, .int a1] I r (pX6_raw mo a1 I) := by
  refine CtP.mk (lv := [(0, .ref mo), (1, .int a1)]) (by decide) (Nat.le_of_ble_eq_true rfl) rfl (fun x Q h hr => ?_)
  unfold pX6_raw
  refine v_iload_n (pc := 0) h dX6_raw_0 1 rfl rfl ?_
  refine v_aload_n (pc := 1) h dX6_raw_1 0 rfl rfl ?_
  refine v_geti (pc := 2) h dX6_raw_2 fX6_158 rfl hM.1 ?_
  refine v_icmp_ge (pc := 5) (t := 17) h dX6_raw_5 rfl (fun _ => ?_) (fun _ => ?_)
  · refine v_iconst (pc := 17) h dX6_raw_17 (v := (-1)) rfl ?_
    exact v_iretP (pc := 18) h hr dX6_raw_18
  · refine v_aload_n (pc := 8) h dX6_raw_8 0 rfl rfl ?_
    refine v_getp (pc := 9) h dX6_raw_9 fX6_25 rfl hM.1 (mA_9 hM).1 ?_
    refine v_iload_n (pc := 12) h dX6_raw_12 1 rfl rfl ?_
    refine v_iald (pc := 13) h dX6_raw_13 (mA_9 hM).2.1 (mA_9 hM).2.2 ?_
    refine v_goto (pc := 14) (t := 18) h dX6_raw_14 rfl ?_
    exact v_iretP (pc := 18) h hr dX6_raw_18
set_option maxHeartbeats 4000000 in
theorem tX6_isLetter {g : Gl} {mo : Nat} {r : Rh} (hM : MStr mo r) (a1 : Int32) (I : MI) : CtP g yX6_isLetter cX6_isLetter 2 (some .boolean) 1 [.ref mo, .int a1] I r (pX6_isLetter mo a1 I) := by
  refine CtP.mk (lv := [(0, .ref mo), (1, .int a1)]) (by decide) (Nat.le_of_ble_eq_true rfl) rfl (fun x Q h hr => ?_)
  unfold pX6_isLetter
  refine v_aload_n (pc := 0) h dX6_isLetter_0 0 rfl rfl ?_
  refine v_iload_n (pc := 1) h dX6_isLetter_1 1 rfl rfl ?_
  refine v_bipush (pc := 2) h dX6_isLetter_2 (v := 97) rfl ?_
  refine v_bipush (pc := 4) h dX6_isLetter_4 (v := 122) rfl ?_
  refine v_callp (pc := 6) h dX6_isLetter_6 kX6_143 rfl hM.1 (tX6_isIn hM a1 (97 : Int32) (122 : Int32) I) (by decide) rfl rfl (Nat.le_of_ble_eq_true rfl) rfl (fun r1 => ?_)
  refine v_jn0 (V g x 2 (0, 0) 24 [] [] I r) (fun k2 hk2 => ?_) ?_
  · refine v_if_ne (pc := 9) (t := 24) h dX6_isLetter_9 rfl (fun _ => ?_) (fun _ => ?_)
    · refine v_sub [] rfl ?_
      exact hk2
    · refine v_aload_n (pc := 12) h dX6_isLetter_12 0 rfl rfl ?_
      refine v_iload_n (pc := 13) h dX6_isLetter_13 1 rfl rfl ?_
      refine v_bipush (pc := 14) h dX6_isLetter_14 (v := 65) rfl ?_
      refine v_bipush (pc := 16) h dX6_isLetter_16 (v := 90) rfl ?_
      refine v_callp (pc := 18) h dX6_isLetter_18 kX6_143 rfl hM.1 (tX6_isIn hM a1 (65 : Int32) (90 : Int32) I) (by decide) rfl rfl (Nat.le_of_ble_eq_true rfl) rfl (fun r3 => ?_)
      refine v_if_eq (pc := 21) (t := 28) h dX6_isLetter_21 rfl (fun _ => ?_) (fun _ => ?_)
      · refine v_iconst (pc := 28) h dX6_isLetter_28 (v := 0) rfl ?_
        exact v_zretP (pc := 29) h hr (Or.inl rfl) dX6_isLetter_29
      · refine v_sub [] rfl ?_
        exact hk2
  · refine v_iconst (pc := 24) h dX6_isLetter_24 (v := 1) rfl ?_
    refine v_goto (pc := 25) (t := 29) h dX6_isLetter_25 rfl ?_
    exact v_zretP (pc := 29) h hr (Or.inr rfl) dX6_isLetter_29
set_option maxHeartbeats 4000000 in
theorem tX6_wordAt {g : Gl} {mo : Nat} {r : Rh} (hM : MStr mo r) (a1 : Int32) (a2 : Int32) (I : MI) : CtP g yX6_wordAt cX6_wordAt 6 (some .int) 0 [.ref mo, .int a1, .int a2] I r (pX6_wordAt mo a1 a2 I) := by
  refine CtP.mk (lv := [(0, .ref mo), (1, .int a1), (2, .int a2)]) (by decide) (Nat.le_of_ble_eq_true rfl) rfl (fun x Q h hr => ?_)
  unfold pX6_wordAt
  refine v_iconst (pc := 0) h dX6_wordAt_0 (v := (-1)) rfl ?_
  refine v_istore_n (pc := 1) h dX6_wordAt_1 rfl (by decide) (lv' := [(3, .int (-1 : Int32)), (0, .ref mo), (1, .int a1), (2, .int a2)]) rfl ?_
  refine v_iconst (pc := 2) h dX6_wordAt_2 (v := 0) rfl ?_
  refine v_istore (pc := 3) h dX6_wordAt_3 (by decide) (lv' := [(4, .int (0 : Int32)), (3, .int (-1 : Int32)), (0, .ref mo), (1, .int a1), (2, .int a2)]) rfl ?_
  refine v_sub [2, 3, 4, 1, 0] rfl ?_
  refine L2.run (lv := fun i3_1 i4_2 => [(0, .ref mo), (1, .int a1), (2, .int a2), (3, .int i3_1), (4, .int i4_2)]) (st := fun i3_1 i4_2 => []) (Im := fun i3_1 i4_2 => I) (r := fun i3_1 i4_2 => r) (fun X3 hX3 i3_1 i4_2 => ?_) (-1 : Int32) (0 : Int32)
  refine v_iload (pc := 5) h dX6_wordAt_5 4 rfl ?_
  refine v_sipush (pc := 7) h dX6_wordAt_7 (v := 152) rfl ?_
  refine v_icmp_ge (pc := 10) (t := 118) h dX6_wordAt_10 rfl (fun _ => ?_) (fun _ => ?_)
  · refine v_iconst (pc := 118) h dX6_wordAt_118 (v := (-1)) rfl ?_
    exact v_iretP (pc := 119) h hr dX6_wordAt_119
  · refine v_iconst (pc := 13) h dX6_wordAt_13 (v := 0) rfl ?_
    refine v_istore (pc := 14) h dX6_wordAt_14 (by decide) (lv' := [(5, .int (0 : Int32)), (0, .ref mo), (1, .int a1), (2, .int a2), (3, .int i3_1), (4, .int i4_2)]) rfl ?_
    refine v_iload_n (pc := 16) h dX6_wordAt_16 4 rfl rfl ?_
    refine v_iconst (pc := 17) h dX6_wordAt_17 (v := 1) rfl ?_
    refine v_iadd (pc := 18) h dX6_wordAt_18 ?_
    refine v_nmi (fun v4 => ?_)
    refine v_istore_n (pc := 19) h dX6_wordAt_19 rfl (by decide) (lv' := [(3, .int v4), (5, .int (0 : Int32)), (0, .ref mo), (1, .int a1), (2, .int a2), (4, .int i4_2)]) rfl ?_
    refine v_sub [2, 3, 4, 0, 5, 1] rfl ?_
    refine L1.run (lv := fun i5_5 => [(0, .ref mo), (1, .int a1), (2, .int a2), (3, .int v4), (4, .int i4_2), (5, .int i5_5)]) (st := fun i5_5 => []) (Im := fun i5_5 => I) (r := fun i5_5 => r) (fun X6 hX6 i5_5 => ?_) (0 : Int32)
    refine v_iload_n (pc := 20) h dX6_wordAt_20 1 rfl rfl ?_
    refine v_iload (pc := 21) h dX6_wordAt_21 5 rfl ?_
    refine v_iadd (pc := 23) h dX6_wordAt_23 ?_
    refine v_iload_n (pc := 24) h dX6_wordAt_24 2 rfl rfl ?_
    refine v_jn0 (V g x 6 (0, 0) 61 [(0, .ref mo), (1, .int a1), (2, .int a2), (3, .int v4), (4, .int i4_2), (5, .int i5_5)] [] I r) (fun k7 hk7 => ?_) ?_
    · refine v_icmp_ge (pc := 25) (t := 61) h dX6_wordAt_25 rfl (fun _ => ?_) (fun _ => ?_)
      · exact hk7
      · refine v_aload_n (pc := 28) h dX6_wordAt_28 0 rfl rfl ?_
        refine v_getp (pc := 29) h dX6_wordAt_29 fX6_28 rfl hM.1 (mA_15 hM).1 ?_
        refine v_iload (pc := 32) h dX6_wordAt_32 4 rfl ?_
        refine v_iconst (pc := 34) h dX6_wordAt_34 (v := 1) rfl ?_
        refine v_iadd (pc := 35) h dX6_wordAt_35 ?_
        refine v_iload (pc := 36) h dX6_wordAt_36 5 rfl ?_
        refine v_iadd (pc := 38) h dX6_wordAt_38 ?_
        refine v_iald (pc := 39) h dX6_wordAt_39 (mA_15 hM).2.1 (mA_15 hM).2.2 ?_
        refine v_aload_n (pc := 40) h dX6_wordAt_40 0 rfl rfl ?_
        refine v_getp (pc := 41) h dX6_wordAt_41 fX6_25 rfl hM.1 (mA_9 hM).1 ?_
        refine v_iload_n (pc := 44) h dX6_wordAt_44 1 rfl rfl ?_
        refine v_iload (pc := 45) h dX6_wordAt_45 5 rfl ?_
        refine v_iadd (pc := 47) h dX6_wordAt_47 ?_
        refine v_iald (pc := 48) h dX6_wordAt_48 (mA_9 hM).2.1 (mA_9 hM).2.2 ?_
        refine v_icmp_ne (pc := 49) (t := 61) h dX6_wordAt_49 rfl (fun _ => ?_) (fun _ => ?_)
        · exact hk7
        · refine v_iload (pc := 52) h dX6_wordAt_52 5 rfl ?_
          refine v_iconst (pc := 54) h dX6_wordAt_54 (v := 1) rfl ?_
          refine v_iadd (pc := 55) h dX6_wordAt_55 ?_
          refine v_nmi (fun v8 => ?_)
          refine v_istore (pc := 56) h dX6_wordAt_56 (by decide) (lv' := [(5, .int v8), (0, .ref mo), (1, .int a1), (2, .int a2), (3, .int v4), (4, .int i4_2)]) rfl ?_
          refine v_goto (pc := 58) (t := 20) h dX6_wordAt_58 rfl ?_
          refine v_sub [1, 2, 3, 4, 5, 0] rfl ?_
          exact hX6 v8
    · refine v_iload_n (pc := 61) h dX6_wordAt_61 1 rfl rfl ?_
      refine v_iload (pc := 62) h dX6_wordAt_62 5 rfl ?_
      refine v_iadd (pc := 64) h dX6_wordAt_64 ?_
      refine v_iload_n (pc := 65) h dX6_wordAt_65 2 rfl rfl ?_
      refine v_jn0 (V g x 6 (0, 0) 88 [(0, .ref mo), (1, .int a1), (2, .int a2), (3, .int v4), (4, .int i4_2)] [] I r) (fun k9 hk9 => ?_) ?_
      · refine v_icmp_ne (pc := 66) (t := 88) h dX6_wordAt_66 rfl (fun _ => ?_) (fun _ => ?_)
        · refine v_sub [0, 1, 2, 3, 4] rfl ?_
          exact hk9
        · refine v_aload_n (pc := 69) h dX6_wordAt_69 0 rfl rfl ?_
          refine v_getp (pc := 70) h dX6_wordAt_70 fX6_28 rfl hM.1 (mA_15 hM).1 ?_
          refine v_iload (pc := 73) h dX6_wordAt_73 4 rfl ?_
          refine v_iconst (pc := 75) h dX6_wordAt_75 (v := 1) rfl ?_
          refine v_iadd (pc := 76) h dX6_wordAt_76 ?_
          refine v_iload (pc := 77) h dX6_wordAt_77 5 rfl ?_
          refine v_iadd (pc := 79) h dX6_wordAt_79 ?_
          refine v_iald (pc := 80) h dX6_wordAt_80 (mA_15 hM).2.1 (mA_15 hM).2.2 ?_
          refine v_bipush (pc := 81) h dX6_wordAt_81 (v := 32) rfl ?_
          refine v_icmp_ne (pc := 83) (t := 88) h dX6_wordAt_83 rfl (fun _ => ?_) (fun _ => ?_)
          · refine v_sub [0, 1, 2, 3, 4] rfl ?_
            exact hk9
          · refine v_iload_n (pc := 86) h dX6_wordAt_86 3 rfl rfl ?_
            exact v_iretP (pc := 87) h hr dX6_wordAt_87
      · refine v_iload (pc := 88) h dX6_wordAt_88 4 rfl ?_
        refine v_iconst (pc := 90) h dX6_wordAt_90 (v := 1) rfl ?_
        refine v_iadd (pc := 91) h dX6_wordAt_91 ?_
        refine v_nmi (fun v10 => ?_)
        refine v_istore (pc := 92) h dX6_wordAt_92 (by decide) (lv' := [(4, .int v10), (0, .ref mo), (1, .int a1), (2, .int a2), (3, .int v4)]) rfl ?_
        refine v_sub [1, 2, 3, 4, 0] rfl ?_
        refine L1.run (lv := fun i4_11 => [(0, .ref mo), (1, .int a1), (2, .int a2), (3, .int v4), (4, .int i4_11)]) (st := fun i4_11 => []) (Im := fun i4_11 => I) (r := fun i4_11 => r) (fun X12 hX12 i4_11 => ?_) v10
        refine v_aload_n (pc := 94) h dX6_wordAt_94 0 rfl rfl ?_
        refine v_getp (pc := 95) h dX6_wordAt_95 fX6_28 rfl hM.1 (mA_15 hM).1 ?_
        refine v_iload (pc := 98) h dX6_wordAt_98 4 rfl ?_
        refine v_iald (pc := 100) h dX6_wordAt_100 (mA_15 hM).2.1 (mA_15 hM).2.2 ?_
        refine v_bipush (pc := 101) h dX6_wordAt_101 (v := 32) rfl ?_
        refine v_icmp_eq (pc := 103) (t := 115) h dX6_wordAt_103 rfl (fun _ => ?_) (fun _ => ?_)
        · refine v_goto (pc := 115) (t := 5) h dX6_wordAt_115 rfl ?_
          exact hX3 v4 i4_11
        · refine v_iload (pc := 106) h dX6_wordAt_106 4 rfl ?_
          refine v_iconst (pc := 108) h dX6_wordAt_108 (v := 1) rfl ?_
          refine v_iadd (pc := 109) h dX6_wordAt_109 ?_
          refine v_nmi (fun v13 => ?_)
          refine v_istore (pc := 110) h dX6_wordAt_110 (by decide) (lv' := [(4, .int v13), (0, .ref mo), (1, .int a1), (2, .int a2), (3, .int v4)]) rfl ?_
          refine v_goto (pc := 112) (t := 94) h dX6_wordAt_112 rfl ?_
          refine v_sub [1, 2, 3, 4, 0] rfl ?_
          exact hX12 v13
set_option maxHeartbeats 4000000 in
theorem tX6_isDigit {g : Gl} {mo : Nat} {r : Rh} (hM : MStr mo r) (a1 : Int32) (I : MI) : CtP g yX6_isDigit cX6_isDigit 2 (some .boolean) 1 [.ref mo, .int a1] I r (pX6_isDigit mo a1 I) := by
  refine CtP.mk (lv := [(0, .ref mo), (1, .int a1)]) (by decide) (Nat.le_of_ble_eq_true rfl) rfl (fun x Q h hr => ?_)
  unfold pX6_isDigit
  refine v_aload_n (pc := 0) h dX6_isDigit_0 0 rfl rfl ?_
  refine v_iload_n (pc := 1) h dX6_isDigit_1 1 rfl rfl ?_
  refine v_bipush (pc := 2) h dX6_isDigit_2 (v := 48) rfl ?_
  refine v_bipush (pc := 4) h dX6_isDigit_4 (v := 57) rfl ?_
  refine v_callp (pc := 6) h dX6_isDigit_6 kX6_143 rfl hM.1 (tX6_isIn hM a1 (48 : Int32) (57 : Int32) I) (by decide) rfl rfl (Nat.le_of_ble_eq_true rfl) rfl (fun r1 => ?_)
  exact v_zretPE (pc := 9) h hr dX6_isDigit_9
set_option maxHeartbeats 4000000 in
theorem tX6_isMarkSign {g : Gl} {mo : Nat} {r : Rh} (hM : MStr mo r) (a1 : Int32) (I : MI) : CtP g yX6_isMarkSign cX6_isMarkSign 2 (some .boolean) 0 [.ref mo, .int a1] I r (pX6_isMarkSign mo a1 I) := by
  refine CtP.mk (lv := [(0, .ref mo), (1, .int a1)]) (by decide) (Nat.le_of_ble_eq_true rfl) rfl (fun x Q h hr => ?_)
  unfold pX6_isMarkSign
  refine v_iload_n (pc := 0) h dX6_isMarkSign_0 1 rfl rfl ?_
  refine v_bipush (pc := 1) h dX6_isMarkSign_1 (v := 59) rfl ?_
  refine v_jn0 (V g x 2 (0, 0) 60 [] [] I r) (fun k1 hk1 => ?_) ?_
  · refine v_icmp_eq (pc := 3) (t := 60) h dX6_isMarkSign_3 rfl (fun _ => ?_) (fun _ => ?_)
    · refine v_sub [] rfl ?_
      exact hk1
    · refine v_iload_n (pc := 6) h dX6_isMarkSign_6 1 rfl rfl ?_
      refine v_bipush (pc := 7) h dX6_isMarkSign_7 (v := 43) rfl ?_
      refine v_icmp_eq (pc := 9) (t := 60) h dX6_isMarkSign_9 rfl (fun _ => ?_) (fun _ => ?_)
      · refine v_sub [] rfl ?_
        exact hk1
      · refine v_iload_n (pc := 12) h dX6_isMarkSign_12 1 rfl rfl ?_
        refine v_bipush (pc := 13) h dX6_isMarkSign_13 (v := 45) rfl ?_
        refine v_icmp_eq (pc := 15) (t := 60) h dX6_isMarkSign_15 rfl (fun _ => ?_) (fun _ => ?_)
        · refine v_sub [] rfl ?_
          exact hk1
        · refine v_iload_n (pc := 18) h dX6_isMarkSign_18 1 rfl rfl ?_
          refine v_bipush (pc := 19) h dX6_isMarkSign_19 (v := 42) rfl ?_
          refine v_icmp_eq (pc := 21) (t := 60) h dX6_isMarkSign_21 rfl (fun _ => ?_) (fun _ => ?_)
          · refine v_sub [] rfl ?_
            exact hk1
          · refine v_iload_n (pc := 24) h dX6_isMarkSign_24 1 rfl rfl ?_
            refine v_bipush (pc := 25) h dX6_isMarkSign_25 (v := 47) rfl ?_
            refine v_icmp_eq (pc := 27) (t := 60) h dX6_isMarkSign_27 rfl (fun _ => ?_) (fun _ => ?_)
            · refine v_sub [] rfl ?_
              exact hk1
            · refine v_iload_n (pc := 30) h dX6_isMarkSign_30 1 rfl rfl ?_
              refine v_bipush (pc := 31) h dX6_isMarkSign_31 (v := 40) rfl ?_
              refine v_icmp_eq (pc := 33) (t := 60) h dX6_isMarkSign_33 rfl (fun _ => ?_) (fun _ => ?_)
              · refine v_sub [] rfl ?_
                exact hk1
              · refine v_iload_n (pc := 36) h dX6_isMarkSign_36 1 rfl rfl ?_
                refine v_bipush (pc := 37) h dX6_isMarkSign_37 (v := 41) rfl ?_
                refine v_icmp_eq (pc := 39) (t := 60) h dX6_isMarkSign_39 rfl (fun _ => ?_) (fun _ => ?_)
                · refine v_sub [] rfl ?_
                  exact hk1
                · refine v_iload_n (pc := 42) h dX6_isMarkSign_42 1 rfl rfl ?_
                  refine v_bipush (pc := 43) h dX6_isMarkSign_43 (v := 60) rfl ?_
                  refine v_icmp_eq (pc := 45) (t := 60) h dX6_isMarkSign_45 rfl (fun _ => ?_) (fun _ => ?_)
                  · refine v_sub [] rfl ?_
                    exact hk1
                  · refine v_iload_n (pc := 48) h dX6_isMarkSign_48 1 rfl rfl ?_
                    refine v_bipush (pc := 49) h dX6_isMarkSign_49 (v := 61) rfl ?_
                    refine v_icmp_eq (pc := 51) (t := 60) h dX6_isMarkSign_51 rfl (fun _ => ?_) (fun _ => ?_)
                    · refine v_sub [] rfl ?_
                      exact hk1
                    · refine v_iload_n (pc := 54) h dX6_isMarkSign_54 1 rfl rfl ?_
                      refine v_bipush (pc := 55) h dX6_isMarkSign_55 (v := 62) rfl ?_
                      refine v_icmp_ne (pc := 57) (t := 64) h dX6_isMarkSign_57 rfl (fun _ => ?_) (fun _ => ?_)
                      · refine v_iconst (pc := 64) h dX6_isMarkSign_64 (v := 0) rfl ?_
                        exact v_zretP (pc := 65) h hr (Or.inl rfl) dX6_isMarkSign_65
                      · refine v_sub [] rfl ?_
                        exact hk1
  · refine v_iconst (pc := 60) h dX6_isMarkSign_60 (v := 1) rfl ?_
    refine v_goto (pc := 61) (t := 65) h dX6_isMarkSign_61 rfl ?_
    exact v_zretP (pc := 65) h hr (Or.inr rfl) dX6_isMarkSign_65
set_option maxHeartbeats 4000000 in
theorem tX6_reads {g : Gl} {mo : Nat} {r : Rh} (hM : MStr mo r)  (I : MI) : CtV g yX6_reads cX6_reads 2 2 [.ref mo] I r (pX6_reads mo  I) := by
  refine CtV.mk (lv := [(0, .ref mo)]) (by decide) (Nat.le_of_ble_eq_true rfl) rfl (fun x Q h hr => ?_)
  unfold pX6_reads
  refine L1.run (lv := fun I1 => [(0, .ref mo)]) (st := fun I1 => []) (Im := fun I1 => I1) (r := fun I1 => r) (fun X2 hX2 I1 => ?_) I
  refine v_aload_n (pc := 0) h dX6_reads_0 0 rfl rfl ?_
  refine v_aload_n (pc := 1) h dX6_reads_1 0 rfl rfl ?_
  refine v_geti (pc := 2) h dX6_reads_2 fX6_164 rfl hM.1 ?_
  refine v_callp (pc := 5) h dX6_reads_5 kX6_167 rfl hM.1 (tX6_raw hM (I1 mo 11) I1) (by decide) rfl rfl (Nat.le_of_ble_eq_true rfl) rfl (fun r3 => ?_)
  refine v_bipush (pc := 8) h dX6_reads_8 (v := 32) rfl ?_
  refine v_jn0 (V g x 2 (0, 0) 26 [(0, .ref mo)] [] I1 r) (fun k4 hk4 => ?_) ?_
  · refine v_icmp_eq (pc := 10) (t := 26) h dX6_reads_10 rfl (fun _ => ?_) (fun _ => ?_)
    · exact hk4
    · refine v_aload_n (pc := 13) h dX6_reads_13 0 rfl rfl ?_
      refine v_aload_n (pc := 14) h dX6_reads_14 0 rfl rfl ?_
      refine v_geti (pc := 15) h dX6_reads_15 fX6_164 rfl hM.1 ?_
      refine v_callp (pc := 18) h dX6_reads_18 kX6_167 rfl hM.1 (tX6_raw hM (I1 mo 11) I1) (by decide) rfl rfl (Nat.le_of_ble_eq_true rfl) rfl (fun r5 => ?_)
      refine v_bipush (pc := 21) h dX6_reads_21 (v := 10) rfl ?_
      refine v_icmp_ne (pc := 23) (t := 39) h dX6_reads_23 rfl (fun _ => ?_) (fun _ => ?_)
      · refine v_aload_n (pc := 39) h dX6_reads_39 0 rfl rfl ?_
        refine v_aload_n (pc := 40) h dX6_reads_40 0 rfl rfl ?_
        refine v_geti (pc := 41) h dX6_reads_41 fX6_164 rfl hM.1 ?_
        refine v_puti (pc := 44) h dX6_reads_44 fX6_170 rfl hM.1 ?_
        refine v_nmI (fun I6 => ?_)
        refine v_aload_n (pc := 47) h dX6_reads_47 0 rfl rfl ?_
        refine v_iconst (pc := 48) h dX6_reads_48 (v := 1) rfl ?_
        refine v_puti (pc := 49) h dX6_reads_49 fX6_173 rfl hM.1 ?_
        refine v_nmI (fun I7 => ?_)
        refine v_aload_n (pc := 52) h dX6_reads_52 0 rfl rfl ?_
        refine v_aload_n (pc := 53) h dX6_reads_53 0 rfl rfl ?_
        refine v_geti (pc := 54) h dX6_reads_54 fX6_164 rfl hM.1 ?_
        refine v_callp (pc := 57) h dX6_reads_57 kX6_167 rfl hM.1 (tX6_raw hM (I7 mo 11) I7) (by decide) rfl rfl (Nat.le_of_ble_eq_true rfl) rfl (fun r8 => ?_)
        refine v_istore_n (pc := 60) h dX6_reads_60 rfl (by decide) (lv' := [(1, .int r8), (0, .ref mo)]) rfl ?_
        refine v_iload_n (pc := 61) h dX6_reads_61 0 rfl rfl ?_
        refine v_iconst (pc := 62) h dX6_reads_62 (v := (-1)) rfl ?_
        refine v_icmp_ne (pc := 63) (t := 72) h dX6_reads_63 rfl (fun _ => ?_) (fun _ => ?_)
        · refine v_aload_n (pc := 72) h dX6_reads_72 1 rfl rfl ?_
          refine v_aload_n (pc := 73) h dX6_reads_73 1 rfl rfl ?_
          refine v_geti (pc := 74) h dX6_reads_74 fX6_164 rfl hM.1 ?_
          refine v_iconst (pc := 77) h dX6_reads_77 (v := 1) rfl ?_
          refine v_iadd (pc := 78) h dX6_reads_78 ?_
          refine v_puti (pc := 79) h dX6_reads_79 fX6_164 rfl hM.1 ?_
          refine v_nmI (fun I9 => ?_)
          refine v_aload_n (pc := 82) h dX6_reads_82 1 rfl rfl ?_
          refine v_iload_n (pc := 83) h dX6_reads_83 0 rfl rfl ?_
          refine v_puti (pc := 84) h dX6_reads_84 fX6_176 rfl hM.1 ?_
          refine v_nmI (fun I10 => ?_)
          refine v_aload_n (pc := 87) h dX6_reads_87 1 rfl rfl ?_
          refine v_iload_n (pc := 88) h dX6_reads_88 0 rfl rfl ?_
          refine v_callp (pc := 89) h dX6_reads_89 kX6_179 rfl hM.1 (tX6_isLetter hM r8 I10) (by decide) rfl rfl (Nat.le_of_ble_eq_true rfl) rfl (fun r11 => ?_)
          refine v_if_eq (pc := 92) (t := 155) h dX6_reads_92 rfl (fun _ => ?_) (fun _ => ?_)
          · refine v_aload_n (pc := 155) h dX6_reads_155 1 rfl rfl ?_
            refine v_iload_n (pc := 156) h dX6_reads_156 0 rfl rfl ?_
            refine v_callp (pc := 157) h dX6_reads_157 kX6_186 rfl hM.1 (tX6_isDigit hM r8 I10) (by decide) rfl rfl (Nat.le_of_ble_eq_true rfl) rfl (fun r12 => ?_)
            refine v_if_eq (pc := 160) (t := 260) h dX6_reads_160 rfl (fun _ => ?_) (fun _ => ?_)
            · refine v_aload_n (pc := 260) h dX6_reads_260 1 rfl rfl ?_
              refine v_iload_n (pc := 261) h dX6_reads_261 0 rfl rfl ?_
              refine v_callp (pc := 262) h dX6_reads_262 kX6_189 rfl hM.1 (tX6_isMarkSign hM r8 I10) (by decide) rfl rfl (Nat.le_of_ble_eq_true rfl) rfl (fun r13 => ?_)
              refine v_if_eq (pc := 265) (t := 273) h dX6_reads_265 rfl (fun _ => ?_) (fun _ => ?_)
              · exact v_vret (pc := 273) h hr dX6_reads_273
              · refine v_aload_n (pc := 268) h dX6_reads_268 1 rfl rfl ?_
                refine v_iconst (pc := 269) h dX6_reads_269 (v := 4) rfl ?_
                refine v_puti (pc := 270) h dX6_reads_270 fX6_173 rfl hM.1 ?_
                refine v_nmI (fun I14 => ?_)
                exact v_vret (pc := 273) h hr dX6_reads_273
            · refine v_aload_n (pc := 163) h dX6_reads_163 1 rfl rfl ?_
              refine v_iload_n (pc := 164) h dX6_reads_164 0 rfl rfl ?_
              refine v_bipush (pc := 165) h dX6_reads_165 (v := 48) rfl ?_
              refine v_isub (pc := 167) h dX6_reads_167 ?_
              refine v_puti (pc := 168) h dX6_reads_168 fX6_176 rfl hM.1 ?_
              refine v_nmI (fun I15 => ?_)
              refine v_sub [1] rfl ?_
              refine L1.run (lv := fun I16 => [(0, .ref mo)]) (st := fun I16 => []) (Im := fun I16 => I16) (r := fun I16 => r) (fun X17 hX17 I16 => ?_) I15
              refine v_aload_n (pc := 171) h dX6_reads_171 0 rfl rfl ?_
              refine v_aload_n (pc := 172) h dX6_reads_172 0 rfl rfl ?_
              refine v_aload_n (pc := 173) h dX6_reads_173 0 rfl rfl ?_
              refine v_geti (pc := 174) h dX6_reads_174 fX6_164 rfl hM.1 ?_
              refine v_callp (pc := 177) h dX6_reads_177 kX6_167 rfl hM.1 (tX6_raw hM (I16 mo 11) I16) (by decide) rfl rfl (Nat.le_of_ble_eq_true rfl) rfl (fun r18 => ?_)
              refine v_callp (pc := 180) h dX6_reads_180 kX6_186 rfl hM.1 (tX6_isDigit hM r18 I16) (by decide) rfl rfl (Nat.le_of_ble_eq_true rfl) rfl (fun r19 => ?_)
              refine v_if_eq (pc := 183) (t := 239) h dX6_reads_183 rfl (fun _ => ?_) (fun _ => ?_)
              · refine v_aload_n (pc := 239) h dX6_reads_239 0 rfl rfl ?_
                refine v_geti (pc := 240) h dX6_reads_240 fX6_164 rfl hM.1 ?_
                refine v_aload_n (pc := 243) h dX6_reads_243 0 rfl rfl ?_
                refine v_geti (pc := 244) h dX6_reads_244 fX6_170 rfl hM.1 ?_
                refine v_isub (pc := 247) h dX6_reads_247 ?_
                refine v_iconst (pc := 248) h dX6_reads_248 (v := 5) rfl ?_
                refine v_icmp_ge (pc := 249) (t := 273) h dX6_reads_249 rfl (fun _ => ?_) (fun _ => ?_)
                · exact v_vret (pc := 273) h hr dX6_reads_273
                · refine v_aload_n (pc := 252) h dX6_reads_252 0 rfl rfl ?_
                  refine v_iconst (pc := 253) h dX6_reads_253 (v := 3) rfl ?_
                  refine v_puti (pc := 254) h dX6_reads_254 fX6_173 rfl hM.1 ?_
                  refine v_nmI (fun I20 => ?_)
                  refine v_goto (pc := 257) (t := 273) h dX6_reads_257 rfl ?_
                  exact v_vret (pc := 273) h hr dX6_reads_273
              · refine v_aload_n (pc := 186) h dX6_reads_186 0 rfl rfl ?_
                refine v_aload_n (pc := 187) h dX6_reads_187 0 rfl rfl ?_
                refine v_geti (pc := 188) h dX6_reads_188 fX6_176 rfl hM.1 ?_
                refine v_sipush (pc := 191) h dX6_reads_191 (v := 10000) rfl ?_
                refine v_jn1 (fun t21 => V g x 2 (0, 0) 223 [(0, .ref mo)] [.int t21, .ref mo] I16 r) (fun k22 hk22 => ?_) (fun t21 => ?_)
                · refine v_icmp_ge (pc := 194) (t := 219) h dX6_reads_194 rfl (fun _ => ?_) (fun _ => ?_)
                  · refine v_aload_n (pc := 219) h dX6_reads_219 0 rfl rfl ?_
                    refine v_geti (pc := 220) h dX6_reads_220 fX6_176 rfl hM.1 ?_
                    exact hk22 (I16 mo 14)
                  · refine v_bipush (pc := 197) h dX6_reads_197 (v := 10) rfl ?_
                    refine v_aload_n (pc := 199) h dX6_reads_199 0 rfl rfl ?_
                    refine v_geti (pc := 200) h dX6_reads_200 fX6_176 rfl hM.1 ?_
                    refine v_imul (pc := 203) h dX6_reads_203 ?_
                    refine v_aload_n (pc := 204) h dX6_reads_204 0 rfl rfl ?_
                    refine v_aload_n (pc := 205) h dX6_reads_205 0 rfl rfl ?_
                    refine v_geti (pc := 206) h dX6_reads_206 fX6_164 rfl hM.1 ?_
                    refine v_callp (pc := 209) h dX6_reads_209 kX6_167 rfl hM.1 (tX6_raw hM (I16 mo 11) I16) (by decide) rfl rfl (Nat.le_of_ble_eq_true rfl) rfl (fun r23 => ?_)
                    refine v_iadd (pc := 212) h dX6_reads_212 ?_
                    refine v_bipush (pc := 213) h dX6_reads_213 (v := 48) rfl ?_
                    refine v_isub (pc := 215) h dX6_reads_215 ?_
                    refine v_goto (pc := 216) (t := 223) h dX6_reads_216 rfl ?_
                    exact hk22 ((((10 : Int32) * (I16 mo 14)) + r23) - (48 : Int32))
                · refine v_puti (pc := 223) h dX6_reads_223 fX6_176 rfl hM.1 ?_
                  refine v_nmI (fun I24 => ?_)
                  refine v_aload_n (pc := 226) h dX6_reads_226 0 rfl rfl ?_
                  refine v_aload_n (pc := 227) h dX6_reads_227 0 rfl rfl ?_
                  refine v_geti (pc := 228) h dX6_reads_228 fX6_164 rfl hM.1 ?_
                  refine v_iconst (pc := 231) h dX6_reads_231 (v := 1) rfl ?_
                  refine v_iadd (pc := 232) h dX6_reads_232 ?_
                  refine v_puti (pc := 233) h dX6_reads_233 fX6_164 rfl hM.1 ?_
                  refine v_nmI (fun I25 => ?_)
                  refine v_goto (pc := 236) (t := 171) h dX6_reads_236 rfl ?_
                  exact hX17 I25
          · refine v_sub [1] rfl ?_
            refine L1.run (lv := fun I26 => [(0, .ref mo)]) (st := fun I26 => []) (Im := fun I26 => I26) (r := fun I26 => r) (fun X27 hX27 I26 => ?_) I10
            refine v_aload_n (pc := 95) h dX6_reads_95 0 rfl rfl ?_
            refine v_aload_n (pc := 96) h dX6_reads_96 0 rfl rfl ?_
            refine v_aload_n (pc := 97) h dX6_reads_97 0 rfl rfl ?_
            refine v_geti (pc := 98) h dX6_reads_98 fX6_164 rfl hM.1 ?_
            refine v_callp (pc := 101) h dX6_reads_101 kX6_167 rfl hM.1 (tX6_raw hM (I26 mo 11) I26) (by decide) rfl rfl (Nat.le_of_ble_eq_true rfl) rfl (fun r28 => ?_)
            refine v_callp (pc := 104) h dX6_reads_104 kX6_179 rfl hM.1 (tX6_isLetter hM r28 I26) (by decide) rfl rfl (Nat.le_of_ble_eq_true rfl) rfl (fun r29 => ?_)
            refine v_if_eq (pc := 107) (t := 123) h dX6_reads_107 rfl (fun _ => ?_) (fun _ => ?_)
            · refine v_aload_n (pc := 123) h dX6_reads_123 0 rfl rfl ?_
              refine v_aload_n (pc := 124) h dX6_reads_124 0 rfl rfl ?_
              refine v_aload_n (pc := 125) h dX6_reads_125 0 rfl rfl ?_
              refine v_geti (pc := 126) h dX6_reads_126 fX6_170 rfl hM.1 ?_
              refine v_aload_n (pc := 129) h dX6_reads_129 0 rfl rfl ?_
              refine v_geti (pc := 130) h dX6_reads_130 fX6_164 rfl hM.1 ?_
              refine v_callp (pc := 133) h dX6_reads_133 kX6_182 rfl hM.1 (tX6_wordAt hM (I26 mo 12) (I26 mo 11) I26) (by decide) rfl rfl (Nat.le_of_ble_eq_true rfl) rfl (fun r30 => ?_)
              refine v_puti (pc := 136) h dX6_reads_136 fX6_176 rfl hM.1 ?_
              refine v_nmI (fun I31 => ?_)
              refine v_aload_n (pc := 139) h dX6_reads_139 0 rfl rfl ?_
              refine v_geti (pc := 140) h dX6_reads_140 fX6_176 rfl hM.1 ?_
              refine v_iconst (pc := 143) h dX6_reads_143 (v := (-1)) rfl ?_
              refine v_icmp_eq (pc := 144) (t := 273) h dX6_reads_144 rfl (fun _ => ?_) (fun _ => ?_)
              · exact v_vret (pc := 273) h hr dX6_reads_273
              · refine v_aload_n (pc := 147) h dX6_reads_147 0 rfl rfl ?_
                refine v_iconst (pc := 148) h dX6_reads_148 (v := 2) rfl ?_
                refine v_puti (pc := 149) h dX6_reads_149 fX6_173 rfl hM.1 ?_
                refine v_nmI (fun I32 => ?_)
                refine v_goto (pc := 152) (t := 273) h dX6_reads_152 rfl ?_
                exact v_vret (pc := 273) h hr dX6_reads_273
            · refine v_aload_n (pc := 110) h dX6_reads_110 0 rfl rfl ?_
              refine v_aload_n (pc := 111) h dX6_reads_111 0 rfl rfl ?_
              refine v_geti (pc := 112) h dX6_reads_112 fX6_164 rfl hM.1 ?_
              refine v_iconst (pc := 115) h dX6_reads_115 (v := 1) rfl ?_
              refine v_iadd (pc := 116) h dX6_reads_116 ?_
              refine v_puti (pc := 117) h dX6_reads_117 fX6_164 rfl hM.1 ?_
              refine v_nmI (fun I33 => ?_)
              refine v_goto (pc := 120) (t := 95) h dX6_reads_120 rfl ?_
              exact hX27 I33
        · refine v_aload_n (pc := 66) h dX6_reads_66 1 rfl rfl ?_
          refine v_iconst (pc := 67) h dX6_reads_67 (v := 0) rfl ?_
          refine v_puti (pc := 68) h dX6_reads_68 fX6_173 rfl hM.1 ?_
          refine v_nmI (fun I34 => ?_)
          exact v_vret (pc := 71) h hr dX6_reads_71
      · exact hk4
  · refine v_aload_n (pc := 26) h dX6_reads_26 0 rfl rfl ?_
    refine v_aload_n (pc := 27) h dX6_reads_27 0 rfl rfl ?_
    refine v_geti (pc := 28) h dX6_reads_28 fX6_164 rfl hM.1 ?_
    refine v_iconst (pc := 31) h dX6_reads_31 (v := 1) rfl ?_
    refine v_iadd (pc := 32) h dX6_reads_32 ?_
    refine v_puti (pc := 33) h dX6_reads_33 fX6_164 rfl hM.1 ?_
    refine v_nmI (fun I35 => ?_)
    refine v_goto (pc := 36) (t := 0) h dX6_reads_36 rfl ?_
    exact hX2 I35
set_option maxHeartbeats 4000000 in
theorem tX6_isWord {g : Gl} {mo : Nat} {r : Rh} (hM : MStr mo r) (a1 : Int32) (I : MI) : CtP g yX6_isWord cX6_isWord 2 (some .boolean) 0 [.ref mo, .int a1] I r (pX6_isWord mo a1 I) := by
  refine CtP.mk (lv := [(0, .ref mo), (1, .int a1)]) (by decide) (Nat.le_of_ble_eq_true rfl) rfl (fun x Q h hr => ?_)
  unfold pX6_isWord
  refine v_aload_n (pc := 0) h dX6_isWord_0 0 rfl rfl ?_
  refine v_geti (pc := 1) h dX6_isWord_1 fX6_173 rfl hM.1 ?_
  refine v_iconst (pc := 4) h dX6_isWord_4 (v := 2) rfl ?_
  refine v_jn0 (V g x 2 (0, 0) 20 [] [] I r) (fun k1 hk1 => ?_) ?_
  · refine v_icmp_ne (pc := 5) (t := 20) h dX6_isWord_5 rfl (fun _ => ?_) (fun _ => ?_)
    · refine v_sub [] rfl ?_
      exact hk1
    · refine v_aload_n (pc := 8) h dX6_isWord_8 0 rfl rfl ?_
      refine v_geti (pc := 9) h dX6_isWord_9 fX6_176 rfl hM.1 ?_
      refine v_iload_n (pc := 12) h dX6_isWord_12 1 rfl rfl ?_
      refine v_icmp_ne (pc := 13) (t := 20) h dX6_isWord_13 rfl (fun _ => ?_) (fun _ => ?_)
      · refine v_sub [] rfl ?_
        exact hk1
      · refine v_iconst (pc := 16) h dX6_isWord_16 (v := 1) rfl ?_
        refine v_goto (pc := 17) (t := 21) h dX6_isWord_17 rfl ?_
        exact v_zretP (pc := 21) h hr (Or.inr rfl) dX6_isWord_21
  · refine v_iconst (pc := 20) h dX6_isWord_20 (v := 0) rfl ?_
    exact v_zretP (pc := 21) h hr (Or.inl rfl) dX6_isWord_21
set_option maxHeartbeats 4000000 in
theorem tX6_errs {g : Gl} {mo : Nat} {r : Rh} (hM : MStr mo r) (a1 : Int32) (I : MI) : CtI g yX6_errs cX6_errs 2 (some .int) 0 [.ref mo, .int a1] I r (pX6_errs mo a1 I) := by
  refine CtI.mk (lv := [(0, .ref mo), (1, .int a1)]) (by decide) (Nat.le_of_ble_eq_true rfl) rfl (fun x Q h hr => ?_)
  unfold pX6_errs
  refine v_aload_n (pc := 0) h dX6_errs_0 0 rfl rfl ?_
  refine v_iload_n (pc := 1) h dX6_errs_1 1 rfl rfl ?_
  refine v_puti (pc := 2) h dX6_errs_2 fX6_192 rfl hM.1 ?_
  refine v_nmI (fun I1 => ?_)
  refine v_aload_n (pc := 5) h dX6_errs_5 0 rfl rfl ?_
  refine v_aload_n (pc := 6) h dX6_errs_6 0 rfl rfl ?_
  refine v_geti (pc := 7) h dX6_errs_7 fX6_170 rfl hM.1 ?_
  refine v_puti (pc := 10) h dX6_errs_10 fX6_195 rfl hM.1 ?_
  refine v_nmI (fun I2 => ?_)
  refine v_iconst (pc := 13) h dX6_errs_13 (v := (-1)) rfl ?_
  exact v_iret (pc := 14) h hr dX6_errs_14
set_option maxHeartbeats 4000000 in
theorem tX6_readNumber {g : Gl} {mo : Nat} {r : Rh} (hM : MStr mo r) (a1 : Int32) (a2 : Int32) (I : MI) : CtI g yX6_readNumber cX6_readNumber 4 (some .int) 3 [.ref mo, .int a1, .int a2] I r (pX6_readNumber mo a1 a2 I) := by
  refine CtI.mk (lv := [(0, .ref mo), (1, .int a1), (2, .int a2)]) (by decide) (Nat.le_of_ble_eq_true rfl) rfl (fun x Q h hr => ?_)
  unfold pX6_readNumber
  refine v_aload_n (pc := 0) h dX6_readNumber_0 0 rfl rfl ?_
  refine v_geti (pc := 1) h dX6_readNumber_1 fX6_173 rfl hM.1 ?_
  refine v_iconst (pc := 4) h dX6_readNumber_4 (v := 3) rfl ?_
  refine v_icmp_eq (pc := 5) (t := 14) h dX6_readNumber_5 rfl (fun _ => ?_) (fun _ => ?_)
  · refine v_aload_n (pc := 14) h dX6_readNumber_14 0 rfl rfl ?_
    refine v_aload_n (pc := 15) h dX6_readNumber_15 0 rfl rfl ?_
    refine v_geti (pc := 16) h dX6_readNumber_16 fX6_176 rfl hM.1 ?_
    refine v_iload_n (pc := 19) h dX6_readNumber_19 1 rfl rfl ?_
    refine v_iload_n (pc := 20) h dX6_readNumber_20 2 rfl rfl ?_
    refine v_callp (pc := 21) h dX6_readNumber_21 kX6_143 rfl hM.1 (tX6_isIn hM (I mo 14) a1 a2 I) (by decide) rfl rfl (Nat.le_of_ble_eq_true rfl) rfl (fun r1 => ?_)
    refine v_if_ne (pc := 24) (t := 33) h dX6_readNumber_24 rfl (fun _ => ?_) (fun _ => ?_)
    · refine v_aload_n (pc := 33) h dX6_readNumber_33 0 rfl rfl ?_
      refine v_geti (pc := 34) h dX6_readNumber_34 fX6_176 rfl hM.1 ?_
      refine v_nmi (fun v2 => ?_)
      refine v_istore_n (pc := 37) h dX6_readNumber_37 rfl (by decide) (lv' := [(3, .int v2), (0, .ref mo), (1, .int a1), (2, .int a2)]) rfl ?_
      refine v_aload_n (pc := 38) h dX6_readNumber_38 1 rfl rfl ?_
      refine v_callv (pc := 39) h dX6_readNumber_39 kX6_211 rfl hM.1 (tX6_reads hM I) (by decide) rfl rfl (Nat.le_of_ble_eq_true rfl) rfl (fun I3 => ?_)
      refine v_iload_n (pc := 42) h dX6_readNumber_42 0 rfl rfl ?_
      exact v_iret (pc := 43) h hr dX6_readNumber_43
    · refine v_aload_n (pc := 27) h dX6_readNumber_27 0 rfl rfl ?_
      refine v_iconst (pc := 28) h dX6_readNumber_28 (v := 2) rfl ?_
      refine v_calli (pc := 29) h dX6_readNumber_29 kX6_204 rfl hM.1 (tX6_errs hM (2 : Int32) I) (by decide) rfl rfl (Nat.le_of_ble_eq_true rfl) rfl (fun r4 I5 => ?_)
      exact v_iret (pc := 32) h hr dX6_readNumber_32
  · refine v_aload_n (pc := 8) h dX6_readNumber_8 0 rfl rfl ?_
    refine v_iconst (pc := 9) h dX6_readNumber_9 (v := 1) rfl ?_
    refine v_calli (pc := 10) h dX6_readNumber_10 kX6_204 rfl hM.1 (tX6_errs hM (1 : Int32) I) (by decide) rfl rfl (Nat.le_of_ble_eq_true rfl) rfl (fun r6 I7 => ?_)
    exact v_iret (pc := 13) h hr dX6_readNumber_13
set_option maxHeartbeats 4000000 in
theorem tX6_readTold {g : Gl} {mo : Nat} {r : Rh} (hM : MStr mo r) (a1 : Int32) (a2 : Int32) (a3 : Int32) (I : MI) : CtI g yX6_readTold cX6_readTold 4 (some .int) 4 [.ref mo, .int a1, .int a2, .int a3] I r (pX6_readTold mo a1 a2 a3 I) := by
  refine CtI.mk (lv := [(0, .ref mo), (1, .int a1), (2, .int a2), (3, .int a3)]) (by decide) (Nat.le_of_ble_eq_true rfl) rfl (fun x Q h hr => ?_)
  unfold pX6_readTold
  refine v_aload_n (pc := 0) h dX6_readTold_0 0 rfl rfl ?_
  refine v_iload_n (pc := 1) h dX6_readTold_1 1 rfl rfl ?_
  refine v_callp (pc := 2) h dX6_readTold_2 kX6_233 rfl hM.1 (tX6_isWord hM a1 I) (by decide) rfl rfl (Nat.le_of_ble_eq_true rfl) rfl (fun r1 => ?_)
  refine v_if_ne (pc := 5) (t := 14) h dX6_readTold_5 rfl (fun _ => ?_) (fun _ => ?_)
  · refine v_aload_n (pc := 14) h dX6_readTold_14 0 rfl rfl ?_
    refine v_callv (pc := 15) h dX6_readTold_15 kX6_211 rfl hM.1 (tX6_reads hM I) (by decide) rfl rfl (Nat.le_of_ble_eq_true rfl) rfl (fun I2 => ?_)
    refine v_aload_n (pc := 18) h dX6_readTold_18 0 rfl rfl ?_
    refine v_iload_n (pc := 19) h dX6_readTold_19 2 rfl rfl ?_
    refine v_iload_n (pc := 20) h dX6_readTold_20 3 rfl rfl ?_
    refine v_calli (pc := 21) h dX6_readTold_21 kX6_255 rfl hM.1 (tX6_readNumber hM a2 a3 I2) (by decide) rfl rfl (Nat.le_of_ble_eq_true rfl) rfl (fun r3 I4 => ?_)
    exact v_iret (pc := 24) h hr dX6_readTold_24
  · refine v_aload_n (pc := 8) h dX6_readTold_8 0 rfl rfl ?_
    refine v_iconst (pc := 9) h dX6_readTold_9 (v := 1) rfl ?_
    refine v_calli (pc := 10) h dX6_readTold_10 kX6_204 rfl hM.1 (tX6_errs hM (1 : Int32) I) (by decide) rfl rfl (Nat.le_of_ble_eq_true rfl) rfl (fun r5 I6 => ?_)
    exact v_iret (pc := 13) h hr dX6_readTold_13
set_option maxHeartbeats 4000000 in
theorem tX6_isSign {g : Gl} {mo : Nat} {r : Rh} (hM : MStr mo r) (a1 : Int32) (I : MI) : CtP g yX6_isSign cX6_isSign 2 (some .boolean) 0 [.ref mo, .int a1] I r (pX6_isSign mo a1 I) := by
  refine CtP.mk (lv := [(0, .ref mo), (1, .int a1)]) (by decide) (Nat.le_of_ble_eq_true rfl) rfl (fun x Q h hr => ?_)
  unfold pX6_isSign
  refine v_aload_n (pc := 0) h dX6_isSign_0 0 rfl rfl ?_
  refine v_geti (pc := 1) h dX6_isSign_1 fX6_173 rfl hM.1 ?_
  refine v_iconst (pc := 4) h dX6_isSign_4 (v := 4) rfl ?_
  refine v_jn0 (V g x 2 (0, 0) 20 [] [] I r) (fun k1 hk1 => ?_) ?_
  · refine v_icmp_ne (pc := 5) (t := 20) h dX6_isSign_5 rfl (fun _ => ?_) (fun _ => ?_)
    · refine v_sub [] rfl ?_
      exact hk1
    · refine v_aload_n (pc := 8) h dX6_isSign_8 0 rfl rfl ?_
      refine v_geti (pc := 9) h dX6_isSign_9 fX6_176 rfl hM.1 ?_
      refine v_iload_n (pc := 12) h dX6_isSign_12 1 rfl rfl ?_
      refine v_icmp_ne (pc := 13) (t := 20) h dX6_isSign_13 rfl (fun _ => ?_) (fun _ => ?_)
      · refine v_sub [] rfl ?_
        exact hk1
      · refine v_iconst (pc := 16) h dX6_isSign_16 (v := 1) rfl ?_
        refine v_goto (pc := 17) (t := 21) h dX6_isSign_17 rfl ?_
        exact v_zretP (pc := 21) h hr (Or.inr rfl) dX6_isSign_21
  · refine v_iconst (pc := 20) h dX6_isSign_20 (v := 0) rfl ?_
    exact v_zretP (pc := 21) h hr (Or.inl rfl) dX6_isSign_21
set_option maxHeartbeats 4000000 in
theorem tX6_readMark {g : Gl} {mo : Nat} {r : Rh} (hM : MStr mo r) (a1 : Int32) (I : MI) : CtI g yX6_readMark cX6_readMark 2 (some .int) 3 [.ref mo, .int a1] I r (pX6_readMark mo a1 I) := by
  refine CtI.mk (lv := [(0, .ref mo), (1, .int a1)]) (by decide) (Nat.le_of_ble_eq_true rfl) rfl (fun x Q h hr => ?_)
  unfold pX6_readMark
  refine v_aload_n (pc := 0) h dX6_readMark_0 0 rfl rfl ?_
  refine v_iload_n (pc := 1) h dX6_readMark_1 1 rfl rfl ?_
  refine v_callp (pc := 2) h dX6_readMark_2 kX6_218 rfl hM.1 (tX6_isSign hM a1 I) (by decide) rfl rfl (Nat.le_of_ble_eq_true rfl) rfl (fun r1 => ?_)
  refine v_if_ne (pc := 5) (t := 14) h dX6_readMark_5 rfl (fun _ => ?_) (fun _ => ?_)
  · refine v_aload_n (pc := 14) h dX6_readMark_14 0 rfl rfl ?_
    refine v_callv (pc := 15) h dX6_readMark_15 kX6_211 rfl hM.1 (tX6_reads hM I) (by decide) rfl rfl (Nat.le_of_ble_eq_true rfl) rfl (fun I2 => ?_)
    refine v_iconst (pc := 18) h dX6_readMark_18 (v := 0) rfl ?_
    exact v_iret (pc := 19) h hr dX6_readMark_19
  · refine v_aload_n (pc := 8) h dX6_readMark_8 0 rfl rfl ?_
    refine v_iconst (pc := 9) h dX6_readMark_9 (v := 1) rfl ?_
    refine v_calli (pc := 10) h dX6_readMark_10 kX6_204 rfl hM.1 (tX6_errs hM (1 : Int32) I) (by decide) rfl rfl (Nat.le_of_ble_eq_true rfl) rfl (fun r3 I4 => ?_)
    exact v_iret (pc := 13) h hr dX6_readMark_13
set_option maxHeartbeats 4000000 in
theorem tX6_readPostLine {g : Gl} {mo : Nat} {r : Rh} (hM : MStr mo r) (a1 : Int32) (I : MI) : CtI g yX6_readPostLine cX6_readPostLine 2 (some .int) 5 [.ref mo, .int a1] I r (pX6_readPostLine mo a1 I) := by
  refine CtI.mk (lv := [(0, .ref mo), (1, .int a1)]) (by decide) (Nat.le_of_ble_eq_true rfl) rfl (fun x Q h hr => ?_)
  unfold pX6_readPostLine
  refine v_aload_n (pc := 0) h dX6_readPostLine_0 0 rfl rfl ?_
  refine v_getp (pc := 1) h dX6_readPostLine_1 fX6_59 rfl hM.1 (mA_33 hM).1 ?_
  refine v_iload_n (pc := 4) h dX6_readPostLine_4 1 rfl rfl ?_
  refine v_aload_n (pc := 5) h dX6_readPostLine_5 0 rfl rfl ?_
  refine v_bipush (pc := 6) h dX6_readPostLine_6 (v := 18) rfl ?_
  refine v_iconst (pc := 8) h dX6_readPostLine_8 (v := 0) rfl ?_
  refine v_sipush (pc := 9) h dX6_readPostLine_9 (v := 999) rfl ?_
  refine v_calli (pc := 12) h dX6_readPostLine_12 kX6_258 rfl hM.1 (tX6_readTold hM (18 : Int32) (0 : Int32) (999 : Int32) I) (by decide) rfl rfl (Nat.le_of_ble_eq_true rfl) rfl (fun r1 I2 => ?_)
  refine v_iast (pc := 15) h dX6_readPostLine_15 (mA_33 hM).2.1 (mA_33 hM).2.2 ?_
  refine v_nmI (fun I3 => ?_)
  refine v_aload_n (pc := 16) h dX6_readPostLine_16 0 rfl rfl ?_
  refine v_getp (pc := 17) h dX6_readPostLine_17 fX6_59 rfl hM.1 (mA_33 hM).1 ?_
  refine v_iload_n (pc := 20) h dX6_readPostLine_20 1 rfl rfl ?_
  refine v_iald (pc := 21) h dX6_readPostLine_21 (mA_33 hM).2.1 (mA_33 hM).2.2 ?_
  refine v_iconst (pc := 22) h dX6_readPostLine_22 (v := (-1)) rfl ?_
  refine v_icmp_ne (pc := 23) (t := 28) h dX6_readPostLine_23 rfl (fun _ => ?_) (fun _ => ?_)
  · refine v_aload_n (pc := 28) h dX6_readPostLine_28 0 rfl rfl ?_
    refine v_getp (pc := 29) h dX6_readPostLine_29 fX6_59 rfl hM.1 (mA_33 hM).1 ?_
    refine v_iload_n (pc := 32) h dX6_readPostLine_32 1 rfl rfl ?_
    refine v_iconst (pc := 33) h dX6_readPostLine_33 (v := 1) rfl ?_
    refine v_iadd (pc := 34) h dX6_readPostLine_34 ?_
    refine v_aload_n (pc := 35) h dX6_readPostLine_35 0 rfl rfl ?_
    refine v_bipush (pc := 36) h dX6_readPostLine_36 (v := 19) rfl ?_
    refine v_iconst (pc := 38) h dX6_readPostLine_38 (v := 0) rfl ?_
    refine v_aload_n (pc := 39) h dX6_readPostLine_39 0 rfl rfl ?_
    refine v_geti (pc := 40) h dX6_readPostLine_40 fX6_129 rfl hM.1 ?_
    refine v_iconst (pc := 43) h dX6_readPostLine_43 (v := 1) rfl ?_
    refine v_isub (pc := 44) h dX6_readPostLine_44 ?_
    refine v_calli (pc := 45) h dX6_readPostLine_45 kX6_258 rfl hM.1 (tX6_readTold hM (19 : Int32) (0 : Int32) ((I3 mo 6) - (1 : Int32)) I3) (by decide) rfl rfl (Nat.le_of_ble_eq_true rfl) rfl (fun r4 I5 => ?_)
    refine v_iast (pc := 48) h dX6_readPostLine_48 (mA_33 hM).2.1 (mA_33 hM).2.2 ?_
    refine v_nmI (fun I6 => ?_)
    refine v_aload_n (pc := 49) h dX6_readPostLine_49 0 rfl rfl ?_
    refine v_getp (pc := 50) h dX6_readPostLine_50 fX6_59 rfl hM.1 (mA_33 hM).1 ?_
    refine v_iload_n (pc := 53) h dX6_readPostLine_53 1 rfl rfl ?_
    refine v_iconst (pc := 54) h dX6_readPostLine_54 (v := 1) rfl ?_
    refine v_iadd (pc := 55) h dX6_readPostLine_55 ?_
    refine v_iald (pc := 56) h dX6_readPostLine_56 (mA_33 hM).2.1 (mA_33 hM).2.2 ?_
    refine v_iconst (pc := 57) h dX6_readPostLine_57 (v := (-1)) rfl ?_
    refine v_icmp_ne (pc := 58) (t := 63) h dX6_readPostLine_58 rfl (fun _ => ?_) (fun _ => ?_)
    · refine v_aload_n (pc := 63) h dX6_readPostLine_63 0 rfl rfl ?_
      refine v_geti (pc := 64) h dX6_readPostLine_64 fX6_173 rfl hM.1 ?_
      refine v_iconst (pc := 67) h dX6_readPostLine_67 (v := 2) rfl ?_
      refine v_jn0 (V g x 2 (0, 0) 86 [(0, .ref mo)] [] I6 r) (fun k7 hk7 => ?_) ?_
      · refine v_icmp_ne (pc := 68) (t := 86) h dX6_readPostLine_68 rfl (fun _ => ?_) (fun _ => ?_)
        · refine v_sub [0] rfl ?_
          exact hk7
        · refine v_aload_n (pc := 71) h dX6_readPostLine_71 0 rfl rfl ?_
          refine v_aload_n (pc := 72) h dX6_readPostLine_72 0 rfl rfl ?_
          refine v_geti (pc := 73) h dX6_readPostLine_73 fX6_176 rfl hM.1 ?_
          refine v_bipush (pc := 76) h dX6_readPostLine_76 (v := 22) rfl ?_
          refine v_bipush (pc := 78) h dX6_readPostLine_78 (v := 28) rfl ?_
          refine v_callp (pc := 80) h dX6_readPostLine_80 kX6_143 rfl hM.1 (tX6_isIn hM (I6 mo 14) (22 : Int32) (28 : Int32) I6) (by decide) rfl rfl (Nat.le_of_ble_eq_true rfl) rfl (fun r8 => ?_)
          refine v_if_ne (pc := 83) (t := 92) h dX6_readPostLine_83 rfl (fun _ => ?_) (fun _ => ?_)
          · refine v_aload_n (pc := 92) h dX6_readPostLine_92 0 rfl rfl ?_
            refine v_getp (pc := 93) h dX6_readPostLine_93 fX6_59 rfl hM.1 (mA_33 hM).1 ?_
            refine v_iload_n (pc := 96) h dX6_readPostLine_96 1 rfl rfl ?_
            refine v_iconst (pc := 97) h dX6_readPostLine_97 (v := 2) rfl ?_
            refine v_iadd (pc := 98) h dX6_readPostLine_98 ?_
            refine v_aload_n (pc := 99) h dX6_readPostLine_99 0 rfl rfl ?_
            refine v_geti (pc := 100) h dX6_readPostLine_100 fX6_176 rfl hM.1 ?_
            refine v_bipush (pc := 103) h dX6_readPostLine_103 (v := 22) rfl ?_
            refine v_isub (pc := 105) h dX6_readPostLine_105 ?_
            refine v_iast (pc := 106) h dX6_readPostLine_106 (mA_33 hM).2.1 (mA_33 hM).2.2 ?_
            refine v_nmI (fun I9 => ?_)
            refine v_aload_n (pc := 107) h dX6_readPostLine_107 0 rfl rfl ?_
            refine v_callv (pc := 108) h dX6_readPostLine_108 kX6_211 rfl hM.1 (tX6_reads hM I9) (by decide) rfl rfl (Nat.le_of_ble_eq_true rfl) rfl (fun I10 => ?_)
            refine v_aload_n (pc := 111) h dX6_readPostLine_111 0 rfl rfl ?_
            refine v_getp (pc := 112) h dX6_readPostLine_112 fX6_59 rfl hM.1 (mA_33 hM).1 ?_
            refine v_iload_n (pc := 115) h dX6_readPostLine_115 1 rfl rfl ?_
            refine v_iconst (pc := 116) h dX6_readPostLine_116 (v := 3) rfl ?_
            refine v_iadd (pc := 117) h dX6_readPostLine_117 ?_
            refine v_aload_n (pc := 118) h dX6_readPostLine_118 0 rfl rfl ?_
            refine v_iconst (pc := 119) h dX6_readPostLine_119 (v := 1) rfl ?_
            refine v_bipush (pc := 120) h dX6_readPostLine_120 (v := 99) rfl ?_
            refine v_calli (pc := 122) h dX6_readPostLine_122 kX6_255 rfl hM.1 (tX6_readNumber hM (1 : Int32) (99 : Int32) I10) (by decide) rfl rfl (Nat.le_of_ble_eq_true rfl) rfl (fun r11 I12 => ?_)
            refine v_iast (pc := 125) h dX6_readPostLine_125 (mA_33 hM).2.1 (mA_33 hM).2.2 ?_
            refine v_nmI (fun I13 => ?_)
            refine v_aload_n (pc := 126) h dX6_readPostLine_126 0 rfl rfl ?_
            refine v_getp (pc := 127) h dX6_readPostLine_127 fX6_59 rfl hM.1 (mA_33 hM).1 ?_
            refine v_iload_n (pc := 130) h dX6_readPostLine_130 1 rfl rfl ?_
            refine v_iconst (pc := 131) h dX6_readPostLine_131 (v := 3) rfl ?_
            refine v_iadd (pc := 132) h dX6_readPostLine_132 ?_
            refine v_iald (pc := 133) h dX6_readPostLine_133 (mA_33 hM).2.1 (mA_33 hM).2.2 ?_
            refine v_iconst (pc := 134) h dX6_readPostLine_134 (v := (-1)) rfl ?_
            refine v_icmp_ne (pc := 135) (t := 142) h dX6_readPostLine_135 rfl (fun _ => ?_) (fun _ => ?_)
            · refine v_aload_n (pc := 142) h dX6_readPostLine_142 0 rfl rfl ?_
              refine v_bipush (pc := 143) h dX6_readPostLine_143 (v := 59) rfl ?_
              refine v_calli (pc := 145) h dX6_readPostLine_145 kX6_261 rfl hM.1 (tX6_readMark hM (59 : Int32) I13) (by decide) rfl rfl (Nat.le_of_ble_eq_true rfl) rfl (fun r14 I15 => ?_)
              exact v_iret (pc := 148) h hr dX6_readPostLine_148
            · refine v_iconst (pc := 138) h dX6_readPostLine_138 (v := (-1)) rfl ?_
              refine v_goto (pc := 139) (t := 148) h dX6_readPostLine_139 rfl ?_
              exact v_iret (pc := 148) h hr dX6_readPostLine_148
          · refine v_sub [0] rfl ?_
            exact hk7
      · refine v_aload_n (pc := 86) h dX6_readPostLine_86 0 rfl rfl ?_
        refine v_iconst (pc := 87) h dX6_readPostLine_87 (v := 1) rfl ?_
        refine v_calli (pc := 88) h dX6_readPostLine_88 kX6_204 rfl hM.1 (tX6_errs hM (1 : Int32) I6) (by decide) rfl rfl (Nat.le_of_ble_eq_true rfl) rfl (fun r16 I17 => ?_)
        exact v_iret (pc := 91) h hr dX6_readPostLine_91
    · refine v_iconst (pc := 61) h dX6_readPostLine_61 (v := (-1)) rfl ?_
      exact v_iret (pc := 62) h hr dX6_readPostLine_62
  · refine v_iconst (pc := 26) h dX6_readPostLine_26 (v := (-1)) rfl ?_
    exact v_iret (pc := 27) h hr dX6_readPostLine_27
set_option maxHeartbeats 4000000 in
theorem tX6_readPost {g : Gl} {mo : Nat} {r : Rh} (hM : MStr mo r)  (I : MI) : CtI g yX6_readPost cX6_readPost 2 (some .int) 6 [.ref mo] I r (pX6_readPost mo  I) := by
  refine CtI.mk (lv := [(0, .ref mo)]) (by decide) (Nat.le_of_ble_eq_true rfl) rfl (fun x Q h hr => ?_)
  unfold pX6_readPost
  refine v_iconst (pc := 0) h dX6_readPost_0 (v := 0) rfl ?_
  refine v_istore_n (pc := 1) h dX6_readPost_1 rfl (by decide) (lv' := [(1, .int (0 : Int32)), (0, .ref mo)]) rfl ?_
  refine v_sub [1, 0] rfl ?_
  refine L2.run (lv := fun i1_1 I2 => [(0, .ref mo), (1, .int i1_1)]) (st := fun i1_1 I2 => []) (Im := fun i1_1 I2 => I2) (r := fun i1_1 I2 => r) (fun X3 hX3 i1_1 I2 => ?_) (0 : Int32) I
  refine v_aload_n (pc := 2) h dX6_readPost_2 0 rfl rfl ?_
  refine v_bipush (pc := 3) h dX6_readPost_3 (v := 18) rfl ?_
  refine v_callp (pc := 5) h dX6_readPost_5 kX6_233 rfl hM.1 (tX6_isWord hM (18 : Int32) I2) (by decide) rfl rfl (Nat.le_of_ble_eq_true rfl) rfl (fun r4 => ?_)
  refine v_if_eq (pc := 8) (t := 46) h dX6_readPost_8 rfl (fun _ => ?_) (fun _ => ?_)
  · refine v_aload_n (pc := 46) h dX6_readPost_46 0 rfl rfl ?_
    refine v_geti (pc := 47) h dX6_readPost_47 fX6_173 rfl hM.1 ?_
    refine v_if_ne (pc := 50) (t := 57) h dX6_readPost_50 rfl (fun _ => ?_) (fun _ => ?_)
    · refine v_aload_n (pc := 57) h dX6_readPost_57 0 rfl rfl ?_
      refine v_iconst (pc := 58) h dX6_readPost_58 (v := 1) rfl ?_
      refine v_calli (pc := 59) h dX6_readPost_59 kX6_204 rfl hM.1 (tX6_errs hM (1 : Int32) I2) (by decide) rfl rfl (Nat.le_of_ble_eq_true rfl) rfl (fun r5 I6 => ?_)
      exact v_iret (pc := 62) h hr dX6_readPost_62
    · refine v_iload_n (pc := 53) h dX6_readPost_53 1 rfl rfl ?_
      refine v_goto (pc := 54) (t := 62) h dX6_readPost_54 rfl ?_
      exact v_iret (pc := 62) h hr dX6_readPost_62
  · refine v_iload_n (pc := 11) h dX6_readPost_11 1 rfl rfl ?_
    refine v_bipush (pc := 12) h dX6_readPost_12 (v := 16) rfl ?_
    refine v_icmp_ne (pc := 14) (t := 23) h dX6_readPost_14 rfl (fun _ => ?_) (fun _ => ?_)
    · refine v_aload_n (pc := 23) h dX6_readPost_23 0 rfl rfl ?_
      refine v_bipush (pc := 24) h dX6_readPost_24 (v := 64) rfl ?_
      refine v_iconst (pc := 26) h dX6_readPost_26 (v := 4) rfl ?_
      refine v_iload_n (pc := 27) h dX6_readPost_27 1 rfl rfl ?_
      refine v_imul (pc := 28) h dX6_readPost_28 ?_
      refine v_iadd (pc := 29) h dX6_readPost_29 ?_
      refine v_calli (pc := 30) h dX6_readPost_30 kX6_264 rfl hM.1 (tX6_readPostLine hM ((64 : Int32) + ((4 : Int32) * i1_1)) I2) (by decide) rfl rfl (Nat.le_of_ble_eq_true rfl) rfl (fun r7 I8 => ?_)
      refine v_iconst (pc := 33) h dX6_readPost_33 (v := (-1)) rfl ?_
      refine v_icmp_ne (pc := 34) (t := 39) h dX6_readPost_34 rfl (fun _ => ?_) (fun _ => ?_)
      · refine v_iload_n (pc := 39) h dX6_readPost_39 1 rfl rfl ?_
        refine v_iconst (pc := 40) h dX6_readPost_40 (v := 1) rfl ?_
        refine v_iadd (pc := 41) h dX6_readPost_41 ?_
        refine v_nmi (fun v9 => ?_)
        refine v_istore_n (pc := 42) h dX6_readPost_42 rfl (by decide) (lv' := [(1, .int v9), (0, .ref mo)]) rfl ?_
        refine v_goto (pc := 43) (t := 2) h dX6_readPost_43 rfl ?_
        refine v_sub [1, 0] rfl ?_
        exact hX3 v9 I8
      · refine v_iconst (pc := 37) h dX6_readPost_37 (v := (-1)) rfl ?_
        exact v_iret (pc := 38) h hr dX6_readPost_38
    · refine v_aload_n (pc := 17) h dX6_readPost_17 0 rfl rfl ?_
      refine v_iconst (pc := 18) h dX6_readPost_18 (v := 3) rfl ?_
      refine v_calli (pc := 19) h dX6_readPost_19 kX6_204 rfl hM.1 (tX6_errs hM (3 : Int32) I2) (by decide) rfl rfl (Nat.le_of_ble_eq_true rfl) rfl (fun r10 I11 => ?_)
      exact v_iret (pc := 22) h hr dX6_readPost_22
set_option maxHeartbeats 4000000 in
theorem tX6_readRound {g : Gl} {mo : Nat} {r : Rh} (hM : MStr mo r)  (I : MI) : CtI g yX6_readRound cX6_readRound 2 (some .int) 5 [.ref mo] I r (pX6_readRound mo  I) := by
  refine CtI.mk (lv := [(0, .ref mo)]) (by decide) (Nat.le_of_ble_eq_true rfl) rfl (fun x Q h hr => ?_)
  unfold pX6_readRound
  refine v_iconst (pc := 0) h dX6_readRound_0 (v := 0) rfl ?_
  refine v_istore_n (pc := 1) h dX6_readRound_1 rfl (by decide) (lv' := [(1, .int (0 : Int32)), (0, .ref mo)]) rfl ?_
  refine v_sub [1, 0] rfl ?_
  refine L2.run (lv := fun i1_1 I2 => [(0, .ref mo), (1, .int i1_1)]) (st := fun i1_1 I2 => []) (Im := fun i1_1 I2 => I2) (r := fun i1_1 I2 => r) (fun X3 hX3 i1_1 I2 => ?_) (0 : Int32) I
  refine v_aload_n (pc := 2) h dX6_readRound_2 0 rfl rfl ?_
  refine v_bipush (pc := 3) h dX6_readRound_3 (v := 20) rfl ?_
  refine v_callp (pc := 5) h dX6_readRound_5 kX6_233 rfl hM.1 (tX6_isWord hM (20 : Int32) I2) (by decide) rfl rfl (Nat.le_of_ble_eq_true rfl) rfl (fun r4 => ?_)
  refine v_if_eq (pc := 8) (t := 77) h dX6_readRound_8 rfl (fun _ => ?_) (fun _ => ?_)
  · refine v_aload_n (pc := 77) h dX6_readRound_77 0 rfl rfl ?_
    refine v_geti (pc := 78) h dX6_readRound_78 fX6_173 rfl hM.1 ?_
    refine v_if_ne (pc := 81) (t := 88) h dX6_readRound_81 rfl (fun _ => ?_) (fun _ => ?_)
    · refine v_aload_n (pc := 88) h dX6_readRound_88 0 rfl rfl ?_
      refine v_iconst (pc := 89) h dX6_readRound_89 (v := 1) rfl ?_
      refine v_calli (pc := 90) h dX6_readRound_90 kX6_204 rfl hM.1 (tX6_errs hM (1 : Int32) I2) (by decide) rfl rfl (Nat.le_of_ble_eq_true rfl) rfl (fun r5 I6 => ?_)
      exact v_iret (pc := 93) h hr dX6_readRound_93
    · refine v_iload_n (pc := 84) h dX6_readRound_84 1 rfl rfl ?_
      refine v_goto (pc := 85) (t := 93) h dX6_readRound_85 rfl ?_
      exact v_iret (pc := 93) h hr dX6_readRound_93
  · refine v_iload_n (pc := 11) h dX6_readRound_11 1 rfl rfl ?_
    refine v_bipush (pc := 12) h dX6_readRound_12 (v := 16) rfl ?_
    refine v_icmp_ne (pc := 14) (t := 23) h dX6_readRound_14 rfl (fun _ => ?_) (fun _ => ?_)
    · refine v_aload_n (pc := 23) h dX6_readRound_23 0 rfl rfl ?_
      refine v_getp (pc := 24) h dX6_readRound_24 fX6_62 rfl hM.1 (mA_35 hM).1 ?_
      refine v_bipush (pc := 27) h dX6_readRound_27 (v := 16) rfl ?_
      refine v_iload_n (pc := 29) h dX6_readRound_29 1 rfl rfl ?_
      refine v_iadd (pc := 30) h dX6_readRound_30 ?_
      refine v_aload_n (pc := 31) h dX6_readRound_31 0 rfl rfl ?_
      refine v_bipush (pc := 32) h dX6_readRound_32 (v := 20) rfl ?_
      refine v_iconst (pc := 34) h dX6_readRound_34 (v := 0) rfl ?_
      refine v_aload_n (pc := 35) h dX6_readRound_35 0 rfl rfl ?_
      refine v_geti (pc := 36) h dX6_readRound_36 fX6_129 rfl hM.1 ?_
      refine v_iconst (pc := 39) h dX6_readRound_39 (v := 1) rfl ?_
      refine v_isub (pc := 40) h dX6_readRound_40 ?_
      refine v_calli (pc := 41) h dX6_readRound_41 kX6_258 rfl hM.1 (tX6_readTold hM (20 : Int32) (0 : Int32) ((I2 mo 6) - (1 : Int32)) I2) (by decide) rfl rfl (Nat.le_of_ble_eq_true rfl) rfl (fun r7 I8 => ?_)
      refine v_iast (pc := 44) h dX6_readRound_44 (mA_35 hM).2.1 (mA_35 hM).2.2 ?_
      refine v_nmI (fun I9 => ?_)
      refine v_aload_n (pc := 45) h dX6_readRound_45 0 rfl rfl ?_
      refine v_getp (pc := 46) h dX6_readRound_46 fX6_62 rfl hM.1 (mA_35 hM).1 ?_
      refine v_bipush (pc := 49) h dX6_readRound_49 (v := 16) rfl ?_
      refine v_iload_n (pc := 51) h dX6_readRound_51 1 rfl rfl ?_
      refine v_iadd (pc := 52) h dX6_readRound_52 ?_
      refine v_iald (pc := 53) h dX6_readRound_53 (mA_35 hM).2.1 (mA_35 hM).2.2 ?_
      refine v_iconst (pc := 54) h dX6_readRound_54 (v := (-1)) rfl ?_
      refine v_icmp_eq (pc := 55) (t := 68) h dX6_readRound_55 rfl (fun _ => ?_) (fun _ => ?_)
      · refine v_iconst (pc := 68) h dX6_readRound_68 (v := (-1)) rfl ?_
        exact v_iret (pc := 69) h hr dX6_readRound_69
      · refine v_aload_n (pc := 58) h dX6_readRound_58 0 rfl rfl ?_
        refine v_bipush (pc := 59) h dX6_readRound_59 (v := 59) rfl ?_
        refine v_calli (pc := 61) h dX6_readRound_61 kX6_261 rfl hM.1 (tX6_readMark hM (59 : Int32) I9) (by decide) rfl rfl (Nat.le_of_ble_eq_true rfl) rfl (fun r10 I11 => ?_)
        refine v_iconst (pc := 64) h dX6_readRound_64 (v := (-1)) rfl ?_
        refine v_icmp_ne (pc := 65) (t := 70) h dX6_readRound_65 rfl (fun _ => ?_) (fun _ => ?_)
        · refine v_iload_n (pc := 70) h dX6_readRound_70 1 rfl rfl ?_
          refine v_iconst (pc := 71) h dX6_readRound_71 (v := 1) rfl ?_
          refine v_iadd (pc := 72) h dX6_readRound_72 ?_
          refine v_nmi (fun v12 => ?_)
          refine v_istore_n (pc := 73) h dX6_readRound_73 rfl (by decide) (lv' := [(1, .int v12), (0, .ref mo)]) rfl ?_
          refine v_goto (pc := 74) (t := 2) h dX6_readRound_74 rfl ?_
          refine v_sub [1, 0] rfl ?_
          exact hX3 v12 I11
        · refine v_iconst (pc := 68) h dX6_readRound_68 (v := (-1)) rfl ?_
          exact v_iret (pc := 69) h hr dX6_readRound_69
    · refine v_aload_n (pc := 17) h dX6_readRound_17 0 rfl rfl ?_
      refine v_iconst (pc := 18) h dX6_readRound_18 (v := 3) rfl ?_
      refine v_calli (pc := 19) h dX6_readRound_19 kX6_204 rfl hM.1 (tX6_errs hM (3 : Int32) I2) (by decide) rfl rfl (Nat.le_of_ble_eq_true rfl) rfl (fun r13 I14 => ?_)
      exact v_iret (pc := 22) h hr dX6_readRound_22
set_option maxHeartbeats 4000000 in
theorem tX6_takesStreet {g : Gl} {mo : Nat} {r : Rh} (hM : MStr mo r) (a1 : Int32) (a2 : Int32) (I : MI) : CtV g yX6_takesStreet cX6_takesStreet 3 0 [.ref mo, .int a1, .int a2] I r (pX6_takesStreet mo a1 a2 I) := by
  refine CtV.mk (lv := [(0, .ref mo), (1, .int a1), (2, .int a2)]) (by decide) (Nat.le_of_ble_eq_true rfl) rfl (fun x Q h hr => ?_)
  unfold pX6_takesStreet
  refine v_aload_n (pc := 0) h dX6_takesStreet_0 0 rfl rfl ?_
  refine v_getp (pc := 1) h dX6_takesStreet_1 fX6_65 rfl hM.1 (mA_37 hM).1 ?_
  refine v_iload_n (pc := 4) h dX6_takesStreet_4 1 rfl rfl ?_
  refine v_iald (pc := 5) h dX6_takesStreet_5 (mA_37 hM).2.1 (mA_37 hM).2.2 ?_
  refine v_jn0 (V g x 3 (0, 0) 19 [(0, .ref mo), (1, .int a1), (2, .int a2)] [] I r) (fun k1 hk1 => ?_) ?_
  · refine v_if_eq (pc := 6) (t := 19) h dX6_takesStreet_6 rfl (fun _ => ?_) (fun _ => ?_)
    · exact hk1
    · refine v_iload_n (pc := 9) h dX6_takesStreet_9 2 rfl rfl ?_
      refine v_aload_n (pc := 10) h dX6_takesStreet_10 0 rfl rfl ?_
      refine v_getp (pc := 11) h dX6_takesStreet_11 fX6_65 rfl hM.1 (mA_37 hM).1 ?_
      refine v_iload_n (pc := 14) h dX6_takesStreet_14 1 rfl rfl ?_
      refine v_iald (pc := 15) h dX6_takesStreet_15 (mA_37 hM).2.1 (mA_37 hM).2.2 ?_
      refine v_icmp_ge (pc := 16) (t := 26) h dX6_takesStreet_16 rfl (fun _ => ?_) (fun _ => ?_)
      · exact v_vret (pc := 26) h hr dX6_takesStreet_26
      · exact hk1
  · refine v_aload_n (pc := 19) h dX6_takesStreet_19 0 rfl rfl ?_
    refine v_getp (pc := 20) h dX6_takesStreet_20 fX6_65 rfl hM.1 (mA_37 hM).1 ?_
    refine v_iload_n (pc := 23) h dX6_takesStreet_23 1 rfl rfl ?_
    refine v_iload_n (pc := 24) h dX6_takesStreet_24 2 rfl rfl ?_
    refine v_iast (pc := 25) h dX6_takesStreet_25 (mA_37 hM).2.1 (mA_37 hM).2.2 ?_
    refine v_nmI (fun I2 => ?_)
    exact v_vret (pc := 26) h hr dX6_takesStreet_26
set_option maxHeartbeats 4000000 in
theorem tX6_readStreet {g : Gl} {mo : Nat} {r : Rh} (hM : MStr mo r)  (I : MI) : CtI g yX6_readStreet cX6_readStreet 4 (some .int) 5 [.ref mo] I r (pX6_readStreet mo  I) := by
  refine CtI.mk (lv := [(0, .ref mo)]) (by decide) (Nat.le_of_ble_eq_true rfl) rfl (fun x Q h hr => ?_)
  unfold pX6_readStreet
  refine v_aload_n (pc := 0) h dX6_readStreet_0 0 rfl rfl ?_
  refine v_bipush (pc := 1) h dX6_readStreet_1 (v := 21) rfl ?_
  refine v_iconst (pc := 3) h dX6_readStreet_3 (v := 0) rfl ?_
  refine v_aload_n (pc := 4) h dX6_readStreet_4 0 rfl rfl ?_
  refine v_geti (pc := 5) h dX6_readStreet_5 fX6_129 rfl hM.1 ?_
  refine v_iconst (pc := 8) h dX6_readStreet_8 (v := 1) rfl ?_
  refine v_isub (pc := 9) h dX6_readStreet_9 ?_
  refine v_calli (pc := 10) h dX6_readStreet_10 kX6_258 rfl hM.1 (tX6_readTold hM (21 : Int32) (0 : Int32) ((I mo 6) - (1 : Int32)) I) (by decide) rfl rfl (Nat.le_of_ble_eq_true rfl) rfl (fun r1 I2 => ?_)
  refine v_istore_n (pc := 13) h dX6_readStreet_13 rfl (by decide) (lv' := [(1, .int r1), (0, .ref mo)]) rfl ?_
  refine v_iload_n (pc := 14) h dX6_readStreet_14 0 rfl rfl ?_
  refine v_iconst (pc := 15) h dX6_readStreet_15 (v := (-1)) rfl ?_
  refine v_icmp_ne (pc := 16) (t := 21) h dX6_readStreet_16 rfl (fun _ => ?_) (fun _ => ?_)
  · refine v_aload_n (pc := 21) h dX6_readStreet_21 1 rfl rfl ?_
    refine v_geti (pc := 22) h dX6_readStreet_22 fX6_173 rfl hM.1 ?_
    refine v_iconst (pc := 25) h dX6_readStreet_25 (v := 3) rfl ?_
    refine v_jn0 (V g x 4 (0, 0) 43 [(0, .ref mo), (1, .int r1)] [] I2 r) (fun k3 hk3 => ?_) ?_
    · refine v_icmp_ne (pc := 26) (t := 43) h dX6_readStreet_26 rfl (fun _ => ?_) (fun _ => ?_)
      · refine v_sub [1, 0] rfl ?_
        exact hk3
      · refine v_aload_n (pc := 29) h dX6_readStreet_29 1 rfl rfl ?_
        refine v_geti (pc := 30) h dX6_readStreet_30 fX6_176 rfl hM.1 ?_
        refine v_iload_n (pc := 33) h dX6_readStreet_33 0 rfl rfl ?_
        refine v_icmp_ne (pc := 34) (t := 43) h dX6_readStreet_34 rfl (fun _ => ?_) (fun _ => ?_)
        · refine v_sub [1, 0] rfl ?_
          exact hk3
        · refine v_aload_n (pc := 37) h dX6_readStreet_37 1 rfl rfl ?_
          refine v_iconst (pc := 38) h dX6_readStreet_38 (v := 2) rfl ?_
          refine v_calli (pc := 39) h dX6_readStreet_39 kX6_204 rfl hM.1 (tX6_errs hM (2 : Int32) I2) (by decide) rfl rfl (Nat.le_of_ble_eq_true rfl) rfl (fun r4 I5 => ?_)
          exact v_iret (pc := 42) h hr dX6_readStreet_42
    · refine v_aload_n (pc := 43) h dX6_readStreet_43 0 rfl rfl ?_
      refine v_iconst (pc := 44) h dX6_readStreet_44 (v := 0) rfl ?_
      refine v_aload_n (pc := 45) h dX6_readStreet_45 0 rfl rfl ?_
      refine v_geti (pc := 46) h dX6_readStreet_46 fX6_129 rfl hM.1 ?_
      refine v_iconst (pc := 49) h dX6_readStreet_49 (v := 1) rfl ?_
      refine v_isub (pc := 50) h dX6_readStreet_50 ?_
      refine v_calli (pc := 51) h dX6_readStreet_51 kX6_255 rfl hM.1 (tX6_readNumber hM (0 : Int32) ((I2 mo 6) - (1 : Int32)) I2) (by decide) rfl rfl (Nat.le_of_ble_eq_true rfl) rfl (fun r6 I7 => ?_)
      refine v_istore_n (pc := 54) h dX6_readStreet_54 rfl (by decide) (lv' := [(2, .int r6), (0, .ref mo), (1, .int r1)]) rfl ?_
      refine v_iload_n (pc := 55) h dX6_readStreet_55 0 rfl rfl ?_
      refine v_iconst (pc := 56) h dX6_readStreet_56 (v := (-1)) rfl ?_
      refine v_icmp_ne (pc := 57) (t := 62) h dX6_readStreet_57 rfl (fun _ => ?_) (fun _ => ?_)
      · refine v_aload_n (pc := 62) h dX6_readStreet_62 1 rfl rfl ?_
        refine v_iconst (pc := 63) h dX6_readStreet_63 (v := 1) rfl ?_
        refine v_bipush (pc := 64) h dX6_readStreet_64 (v := 99) rfl ?_
        refine v_calli (pc := 66) h dX6_readStreet_66 kX6_255 rfl hM.1 (tX6_readNumber hM (1 : Int32) (99 : Int32) I7) (by decide) rfl rfl (Nat.le_of_ble_eq_true rfl) rfl (fun r8 I9 => ?_)
        refine v_istore_n (pc := 69) h dX6_readStreet_69 rfl (by decide) (lv' := [(3, .int r8), (2, .int r6), (0, .ref mo), (1, .int r1)]) rfl ?_
        refine v_iload_n (pc := 70) h dX6_readStreet_70 0 rfl rfl ?_
        refine v_iconst (pc := 71) h dX6_readStreet_71 (v := (-1)) rfl ?_
        refine v_icmp_ne (pc := 72) (t := 77) h dX6_readStreet_72 rfl (fun _ => ?_) (fun _ => ?_)
        · refine v_aload_n (pc := 77) h dX6_readStreet_77 2 rfl rfl ?_
          refine v_sipush (pc := 78) h dX6_readStreet_78 (v := 144) rfl ?_
          refine v_bipush (pc := 81) h dX6_readStreet_81 (v := 12) rfl ?_
          refine v_iload_n (pc := 83) h dX6_readStreet_83 3 rfl rfl ?_
          refine v_imul (pc := 84) h dX6_readStreet_84 ?_
          refine v_iadd (pc := 85) h dX6_readStreet_85 ?_
          refine v_iload_n (pc := 86) h dX6_readStreet_86 1 rfl rfl ?_
          refine v_iadd (pc := 87) h dX6_readStreet_87 ?_
          refine v_iload_n (pc := 88) h dX6_readStreet_88 0 rfl rfl ?_
          refine v_callv (pc := 89) h dX6_readStreet_89 kX6_267 rfl hM.1 (tX6_takesStreet hM (((144 : Int32) + ((12 : Int32) * r1)) + r6) r8 I9) (by decide) rfl rfl (Nat.le_of_ble_eq_true rfl) rfl (fun I10 => ?_)
          refine v_aload_n (pc := 92) h dX6_readStreet_92 2 rfl rfl ?_
          refine v_sipush (pc := 93) h dX6_readStreet_93 (v := 144) rfl ?_
          refine v_bipush (pc := 96) h dX6_readStreet_96 (v := 12) rfl ?_
          refine v_iload_n (pc := 98) h dX6_readStreet_98 1 rfl rfl ?_
          refine v_imul (pc := 99) h dX6_readStreet_99 ?_
          refine v_iadd (pc := 100) h dX6_readStreet_100 ?_
          refine v_iload_n (pc := 101) h dX6_readStreet_101 3 rfl rfl ?_
          refine v_iadd (pc := 102) h dX6_readStreet_102 ?_
          refine v_iload_n (pc := 103) h dX6_readStreet_103 0 rfl rfl ?_
          refine v_callv (pc := 104) h dX6_readStreet_104 kX6_267 rfl hM.1 (tX6_takesStreet hM (((144 : Int32) + ((12 : Int32) * r6)) + r1) r8 I10) (by decide) rfl rfl (Nat.le_of_ble_eq_true rfl) rfl (fun I11 => ?_)
          refine v_aload_n (pc := 107) h dX6_readStreet_107 2 rfl rfl ?_
          refine v_bipush (pc := 108) h dX6_readStreet_108 (v := 59) rfl ?_
          refine v_calli (pc := 110) h dX6_readStreet_110 kX6_261 rfl hM.1 (tX6_readMark hM (59 : Int32) I11) (by decide) rfl rfl (Nat.le_of_ble_eq_true rfl) rfl (fun r12 I13 => ?_)
          exact v_iret (pc := 113) h hr dX6_readStreet_113
        · refine v_iconst (pc := 75) h dX6_readStreet_75 (v := (-1)) rfl ?_
          exact v_iret (pc := 76) h hr dX6_readStreet_76
      · refine v_iconst (pc := 60) h dX6_readStreet_60 (v := (-1)) rfl ?_
        exact v_iret (pc := 61) h hr dX6_readStreet_61
  · refine v_iconst (pc := 19) h dX6_readStreet_19 (v := (-1)) rfl ?_
    exact v_iret (pc := 20) h hr dX6_readStreet_20
set_option maxHeartbeats 4000000 in
theorem tX6_readStreets {g : Gl} {mo : Nat} {r : Rh} (hM : MStr mo r)  (I : MI) : CtI g yX6_readStreets cX6_readStreets 2 (some .int) 6 [.ref mo] I r (pX6_readStreets mo  I) := by
  refine CtI.mk (lv := [(0, .ref mo)]) (by decide) (Nat.le_of_ble_eq_true rfl) rfl (fun x Q h hr => ?_)
  unfold pX6_readStreets
  refine v_iconst (pc := 0) h dX6_readStreets_0 (v := 0) rfl ?_
  refine v_istore_n (pc := 1) h dX6_readStreets_1 rfl (by decide) (lv' := [(1, .int (0 : Int32)), (0, .ref mo)]) rfl ?_
  refine v_sub [1, 0] rfl ?_
  refine L2.run (lv := fun i1_1 I2 => [(0, .ref mo), (1, .int i1_1)]) (st := fun i1_1 I2 => []) (Im := fun i1_1 I2 => I2) (r := fun i1_1 I2 => r) (fun X3 hX3 i1_1 I2 => ?_) (0 : Int32) I
  refine v_iload_n (pc := 2) h dX6_readStreets_2 1 rfl rfl ?_
  refine v_sipush (pc := 3) h dX6_readStreets_3 (v := 144) rfl ?_
  refine v_icmp_ge (pc := 6) (t := 26) h dX6_readStreets_6 rfl (fun _ => ?_) (fun _ => ?_)
  · refine v_iconst (pc := 26) h dX6_readStreets_26 (v := 0) rfl ?_
    refine v_istore_n (pc := 27) h dX6_readStreets_27 rfl (by decide) (lv' := [(1, .int (0 : Int32)), (0, .ref mo)]) rfl ?_
    refine v_sub [1, 0] rfl ?_
    refine L2.run (lv := fun i1_4 I5 => [(0, .ref mo), (1, .int i1_4)]) (st := fun i1_4 I5 => []) (Im := fun i1_4 I5 => I5) (r := fun i1_4 I5 => r) (fun X6 hX6 i1_4 I5 => ?_) (0 : Int32) I2
    refine v_aload_n (pc := 28) h dX6_readStreets_28 0 rfl rfl ?_
    refine v_bipush (pc := 29) h dX6_readStreets_29 (v := 21) rfl ?_
    refine v_callp (pc := 31) h dX6_readStreets_31 kX6_233 rfl hM.1 (tX6_isWord hM (21 : Int32) I5) (by decide) rfl rfl (Nat.le_of_ble_eq_true rfl) rfl (fun r7 => ?_)
    refine v_if_eq (pc := 34) (t := 66) h dX6_readStreets_34 rfl (fun _ => ?_) (fun _ => ?_)
    · refine v_aload_n (pc := 66) h dX6_readStreets_66 0 rfl rfl ?_
      refine v_geti (pc := 67) h dX6_readStreets_67 fX6_173 rfl hM.1 ?_
      refine v_if_ne (pc := 70) (t := 77) h dX6_readStreets_70 rfl (fun _ => ?_) (fun _ => ?_)
      · refine v_aload_n (pc := 77) h dX6_readStreets_77 0 rfl rfl ?_
        refine v_iconst (pc := 78) h dX6_readStreets_78 (v := 1) rfl ?_
        refine v_calli (pc := 79) h dX6_readStreets_79 kX6_204 rfl hM.1 (tX6_errs hM (1 : Int32) I5) (by decide) rfl rfl (Nat.le_of_ble_eq_true rfl) rfl (fun r8 I9 => ?_)
        exact v_iret (pc := 82) h hr dX6_readStreets_82
      · refine v_iload_n (pc := 73) h dX6_readStreets_73 1 rfl rfl ?_
        refine v_goto (pc := 74) (t := 82) h dX6_readStreets_74 rfl ?_
        exact v_iret (pc := 82) h hr dX6_readStreets_82
    · refine v_iload_n (pc := 37) h dX6_readStreets_37 1 rfl rfl ?_
      refine v_bipush (pc := 38) h dX6_readStreets_38 (v := 16) rfl ?_
      refine v_icmp_ne (pc := 40) (t := 49) h dX6_readStreets_40 rfl (fun _ => ?_) (fun _ => ?_)
      · refine v_aload_n (pc := 49) h dX6_readStreets_49 0 rfl rfl ?_
        refine v_calli (pc := 50) h dX6_readStreets_50 kX6_270 rfl hM.1 (tX6_readStreet hM I5) (by decide) rfl rfl (Nat.le_of_ble_eq_true rfl) rfl (fun r10 I11 => ?_)
        refine v_iconst (pc := 53) h dX6_readStreets_53 (v := (-1)) rfl ?_
        refine v_icmp_ne (pc := 54) (t := 59) h dX6_readStreets_54 rfl (fun _ => ?_) (fun _ => ?_)
        · refine v_iload_n (pc := 59) h dX6_readStreets_59 1 rfl rfl ?_
          refine v_iconst (pc := 60) h dX6_readStreets_60 (v := 1) rfl ?_
          refine v_iadd (pc := 61) h dX6_readStreets_61 ?_
          refine v_nmi (fun v12 => ?_)
          refine v_istore_n (pc := 62) h dX6_readStreets_62 rfl (by decide) (lv' := [(1, .int v12), (0, .ref mo)]) rfl ?_
          refine v_goto (pc := 63) (t := 28) h dX6_readStreets_63 rfl ?_
          refine v_sub [1, 0] rfl ?_
          exact hX6 v12 I11
        · refine v_iconst (pc := 57) h dX6_readStreets_57 (v := (-1)) rfl ?_
          exact v_iret (pc := 58) h hr dX6_readStreets_58
      · refine v_aload_n (pc := 43) h dX6_readStreets_43 0 rfl rfl ?_
        refine v_iconst (pc := 44) h dX6_readStreets_44 (v := 3) rfl ?_
        refine v_calli (pc := 45) h dX6_readStreets_45 kX6_204 rfl hM.1 (tX6_errs hM (3 : Int32) I5) (by decide) rfl rfl (Nat.le_of_ble_eq_true rfl) rfl (fun r13 I14 => ?_)
        exact v_iret (pc := 48) h hr dX6_readStreets_48
  · refine v_aload_n (pc := 9) h dX6_readStreets_9 0 rfl rfl ?_
    refine v_getp (pc := 10) h dX6_readStreets_10 fX6_65 rfl hM.1 (mA_37 hM).1 ?_
    refine v_sipush (pc := 13) h dX6_readStreets_13 (v := 144) rfl ?_
    refine v_iload_n (pc := 16) h dX6_readStreets_16 1 rfl rfl ?_
    refine v_iadd (pc := 17) h dX6_readStreets_17 ?_
    refine v_iconst (pc := 18) h dX6_readStreets_18 (v := 0) rfl ?_
    refine v_iast (pc := 19) h dX6_readStreets_19 (mA_37 hM).2.1 (mA_37 hM).2.2 ?_
    refine v_nmI (fun I15 => ?_)
    refine v_iinc (pc := 20) h dX6_readStreets_20 1 rfl (w := (i1_1 + (1 : Int32))) rfl (by decide) (lv' := [(1, .int (i1_1 + (1 : Int32))), (0, .ref mo)]) rfl ?_
    refine v_goto (pc := 23) (t := 2) h dX6_readStreets_23 rfl ?_
    refine v_sub [1, 0] rfl ?_
    exact hX3 (i1_1 + (1 : Int32)) I15
set_option maxHeartbeats 4000000 in
theorem tX6_isLineWord {g : Gl} {mo : Nat} {r : Rh} (hM : MStr mo r)  (I : MI) : CtP g yX6_isLineWord cX6_isLineWord 1 (some .boolean) 1 [.ref mo] I r (pX6_isLineWord mo  I) := by
  refine CtP.mk (lv := [(0, .ref mo)]) (by decide) (Nat.le_of_ble_eq_true rfl) rfl (fun x Q h hr => ?_)
  unfold pX6_isLineWord
  refine v_aload_n (pc := 0) h dX6_isLineWord_0 0 rfl rfl ?_
  refine v_geti (pc := 1) h dX6_isLineWord_1 fX6_173 rfl hM.1 ?_
  refine v_iconst (pc := 4) h dX6_isLineWord_4 (v := 2) rfl ?_
  refine v_jn0 (V g x 1 (0, 0) 25 [] [] I r) (fun k1 hk1 => ?_) ?_
  · refine v_icmp_ne (pc := 5) (t := 25) h dX6_isLineWord_5 rfl (fun _ => ?_) (fun _ => ?_)
    · refine v_sub [] rfl ?_
      exact hk1
    · refine v_aload_n (pc := 8) h dX6_isLineWord_8 0 rfl rfl ?_
      refine v_aload_n (pc := 9) h dX6_isLineWord_9 0 rfl rfl ?_
      refine v_geti (pc := 10) h dX6_isLineWord_10 fX6_176 rfl hM.1 ?_
      refine v_iconst (pc := 13) h dX6_isLineWord_13 (v := 0) rfl ?_
      refine v_iconst (pc := 14) h dX6_isLineWord_14 (v := 2) rfl ?_
      refine v_callp (pc := 15) h dX6_isLineWord_15 kX6_143 rfl hM.1 (tX6_isIn hM (I mo 14) (0 : Int32) (2 : Int32) I) (by decide) rfl rfl (Nat.le_of_ble_eq_true rfl) rfl (fun r2 => ?_)
      refine v_if_eq (pc := 18) (t := 25) h dX6_isLineWord_18 rfl (fun _ => ?_) (fun _ => ?_)
      · refine v_sub [] rfl ?_
        exact hk1
      · refine v_iconst (pc := 21) h dX6_isLineWord_21 (v := 1) rfl ?_
        refine v_goto (pc := 22) (t := 26) h dX6_isLineWord_22 rfl ?_
        exact v_zretP (pc := 26) h hr (Or.inr rfl) dX6_isLineWord_26
  · refine v_iconst (pc := 25) h dX6_isLineWord_25 (v := 0) rfl ?_
    exact v_zretP (pc := 26) h hr (Or.inl rfl) dX6_isLineWord_26
set_option maxHeartbeats 4000000 in
theorem tX6_canAsk {g : Gl} {mo : Nat} {r : Rh} (hM : MStr mo r) (a1 : Int32) (I : MI) : CtP g yX6_canAsk cX6_canAsk 2 (some .boolean) 1 [.ref mo, .int a1] I r (pX6_canAsk mo a1 I) := by
  refine CtP.mk (lv := [(0, .ref mo), (1, .int a1)]) (by decide) (Nat.le_of_ble_eq_true rfl) rfl (fun x Q h hr => ?_)
  unfold pX6_canAsk
  refine v_aload_n (pc := 0) h dX6_canAsk_0 0 rfl rfl ?_
  refine v_iload_n (pc := 1) h dX6_canAsk_1 1 rfl rfl ?_
  refine v_bipush (pc := 2) h dX6_canAsk_2 (v := 7) rfl ?_
  refine v_bipush (pc := 4) h dX6_canAsk_4 (v := 17) rfl ?_
  refine v_callp (pc := 6) h dX6_canAsk_6 kX6_143 rfl hM.1 (tX6_isIn hM a1 (7 : Int32) (17 : Int32) I) (by decide) rfl rfl (Nat.le_of_ble_eq_true rfl) rfl (fun r1 => ?_)
  exact v_zretPE (pc := 9) h hr dX6_canAsk_9
set_option maxHeartbeats 4000000 in
theorem tX6_emits {g : Gl} {mo : Nat} {r : Rh} (hM : MStr mo r) (a1 : Int32) (a2 : Int32) (I : MI) : CtV g yX6_emits cX6_emits 3 0 [.ref mo, .int a1, .int a2] I r (pX6_emits mo a1 a2 I) := by
  refine CtV.mk (lv := [(0, .ref mo), (1, .int a1), (2, .int a2)]) (by decide) (Nat.le_of_ble_eq_true rfl) rfl (fun x Q h hr => ?_)
  unfold pX6_emits
  refine v_aload_n (pc := 0) h dX6_emits_0 0 rfl rfl ?_
  refine v_getp (pc := 1) h dX6_emits_1 fX6_46 rfl hM.1 (mA_21 hM).1 ?_
  refine v_sipush (pc := 4) h dX6_emits_4 (v := 800) rfl ?_
  refine v_aload_n (pc := 7) h dX6_emits_7 0 rfl rfl ?_
  refine v_geti (pc := 8) h dX6_emits_8 fX6_198 rfl hM.1 ?_
  refine v_iadd (pc := 11) h dX6_emits_11 ?_
  refine v_iload_n (pc := 12) h dX6_emits_12 1 rfl rfl ?_
  refine v_iast (pc := 13) h dX6_emits_13 (mA_21 hM).2.1 (mA_21 hM).2.2 ?_
  refine v_nmI (fun I1 => ?_)
  refine v_aload_n (pc := 14) h dX6_emits_14 0 rfl rfl ?_
  refine v_getp (pc := 15) h dX6_emits_15 fX6_49 rfl hM.1 (mA_22 hM).1 ?_
  refine v_sipush (pc := 18) h dX6_emits_18 (v := 800) rfl ?_
  refine v_aload_n (pc := 21) h dX6_emits_21 0 rfl rfl ?_
  refine v_geti (pc := 22) h dX6_emits_22 fX6_198 rfl hM.1 ?_
  refine v_iadd (pc := 25) h dX6_emits_25 ?_
  refine v_iload_n (pc := 26) h dX6_emits_26 2 rfl rfl ?_
  refine v_iast (pc := 27) h dX6_emits_27 (mA_22 hM).2.1 (mA_22 hM).2.2 ?_
  refine v_nmI (fun I2 => ?_)
  refine v_aload_n (pc := 28) h dX6_emits_28 0 rfl rfl ?_
  refine v_aload_n (pc := 29) h dX6_emits_29 0 rfl rfl ?_
  refine v_geti (pc := 30) h dX6_emits_30 fX6_198 rfl hM.1 ?_
  refine v_iconst (pc := 33) h dX6_emits_33 (v := 1) rfl ?_
  refine v_iadd (pc := 34) h dX6_emits_34 ?_
  refine v_puti (pc := 35) h dX6_emits_35 fX6_198 rfl hM.1 ?_
  refine v_nmI (fun I3 => ?_)
  exact v_vret (pc := 38) h hr dX6_emits_38
set_option maxHeartbeats 4000000 in
theorem tX6_readUnit {g : Gl} {mo : Nat} {r : Rh} (hM : MStr mo r)  (I : MI) : CtI g yX6_readUnit cX6_readUnit 2 (some .int) 3 [.ref mo] I r (pX6_readUnit mo  I) := by
  refine CtI.mk (lv := [(0, .ref mo)]) (by decide) (Nat.le_of_ble_eq_true rfl) rfl (fun x Q h hr => ?_)
  unfold pX6_readUnit
  refine v_aload_n (pc := 0) h dX6_readUnit_0 0 rfl rfl ?_
  refine v_geti (pc := 1) h dX6_readUnit_1 fX6_173 rfl hM.1 ?_
  refine v_iconst (pc := 4) h dX6_readUnit_4 (v := 2) rfl ?_
  refine v_jn1 (fun t1 => V g x 2 (0, 0) 24 [(0, .ref mo)] [.int t1] I r) (fun k2 hk2 => ?_) (fun t1 => ?_)
  · refine v_jn0 (V g x 2 (0, 0) 23 [(0, .ref mo)] [] I r) (fun k3 hk3 => ?_) ?_
    · refine v_icmp_ne (pc := 5) (t := 23) h dX6_readUnit_5 rfl (fun _ => ?_) (fun _ => ?_)
      · exact hk3
      · refine v_aload_n (pc := 8) h dX6_readUnit_8 0 rfl rfl ?_
        refine v_aload_n (pc := 9) h dX6_readUnit_9 0 rfl rfl ?_
        refine v_geti (pc := 10) h dX6_readUnit_10 fX6_176 rfl hM.1 ?_
        refine v_callp (pc := 13) h dX6_readUnit_13 kX6_201 rfl hM.1 (tX6_canAsk hM (I mo 14) I) (by decide) rfl rfl (Nat.le_of_ble_eq_true rfl) rfl (fun r4 => ?_)
        refine v_if_eq (pc := 16) (t := 23) h dX6_readUnit_16 rfl (fun _ => ?_) (fun _ => ?_)
        · exact hk3
        · refine v_iconst (pc := 19) h dX6_readUnit_19 (v := 1) rfl ?_
          refine v_goto (pc := 20) (t := 24) h dX6_readUnit_20 rfl ?_
          exact hk2 (1 : Int32)
    · refine v_iconst (pc := 23) h dX6_readUnit_23 (v := 0) rfl ?_
      exact hk2 (0 : Int32)
  · refine v_istore_n (pc := 24) h dX6_readUnit_24 rfl (by decide) (lv' := [(1, .int t1), (0, .ref mo)]) rfl ?_
    refine v_iload_n (pc := 25) h dX6_readUnit_25 0 rfl rfl ?_
    refine v_jn0 (V g x 2 (0, 0) 43 [(0, .ref mo), (1, .int t1)] [] I r) (fun k5 hk5 => ?_) ?_
    · refine v_if_ne (pc := 26) (t := 43) h dX6_readUnit_26 rfl (fun _ => ?_) (fun _ => ?_)
      · refine v_sub [1, 0] rfl ?_
        exact hk5
      · refine v_aload_n (pc := 29) h dX6_readUnit_29 1 rfl rfl ?_
        refine v_geti (pc := 30) h dX6_readUnit_30 fX6_173 rfl hM.1 ?_
        refine v_iconst (pc := 33) h dX6_readUnit_33 (v := 3) rfl ?_
        refine v_icmp_eq (pc := 34) (t := 43) h dX6_readUnit_34 rfl (fun _ => ?_) (fun _ => ?_)
        · refine v_sub [1, 0] rfl ?_
          exact hk5
        · refine v_aload_n (pc := 37) h dX6_readUnit_37 1 rfl rfl ?_
          refine v_iconst (pc := 38) h dX6_readUnit_38 (v := 1) rfl ?_
          refine v_calli (pc := 39) h dX6_readUnit_39 kX6_204 rfl hM.1 (tX6_errs hM (1 : Int32) I) (by decide) rfl rfl (Nat.le_of_ble_eq_true rfl) rfl (fun r6 I7 => ?_)
          exact v_iret (pc := 42) h hr dX6_readUnit_42
    · refine v_aload_n (pc := 43) h dX6_readUnit_43 0 rfl rfl ?_
      refine v_iload_n (pc := 44) h dX6_readUnit_44 1 rfl rfl ?_
      refine v_jn1 (fun t8 => V g x 2 (0, 0) 53 [(0, .ref mo), (1, .int t1)] [.int t8, .ref mo] I r) (fun k9 hk9 => ?_) (fun t8 => ?_)
      · refine v_if_eq (pc := 45) (t := 52) h dX6_readUnit_45 rfl (fun _ => ?_) (fun _ => ?_)
        · refine v_iconst (pc := 52) h dX6_readUnit_52 (v := 0) rfl ?_
          exact hk9 (0 : Int32)
        · refine v_iconst (pc := 48) h dX6_readUnit_48 (v := 1) rfl ?_
          refine v_goto (pc := 49) (t := 53) h dX6_readUnit_49 rfl ?_
          exact hk9 (1 : Int32)
      · refine v_iload_n (pc := 53) h dX6_readUnit_53 1 rfl rfl ?_
        refine v_jn1 (fun t10 => V g x 2 (0, 0) 71 [(0, .ref mo)] [.int t10, .int t8, .ref mo] I r) (fun k11 hk11 => ?_) (fun t10 => ?_)
        · refine v_if_eq (pc := 54) (t := 67) h dX6_readUnit_54 rfl (fun _ => ?_) (fun _ => ?_)
          · refine v_aload_n (pc := 67) h dX6_readUnit_67 0 rfl rfl ?_
            refine v_geti (pc := 68) h dX6_readUnit_68 fX6_176 rfl hM.1 ?_
            refine v_sub [0] rfl ?_
            exact hk11 (I mo 14)
          · refine v_aload_n (pc := 57) h dX6_readUnit_57 0 rfl rfl ?_
            refine v_geti (pc := 58) h dX6_readUnit_58 fX6_176 rfl hM.1 ?_
            refine v_bipush (pc := 61) h dX6_readUnit_61 (v := 7) rfl ?_
            refine v_isub (pc := 63) h dX6_readUnit_63 ?_
            refine v_goto (pc := 64) (t := 71) h dX6_readUnit_64 rfl ?_
            refine v_sub [0] rfl ?_
            exact hk11 ((I mo 14) - (7 : Int32))
        · refine v_callv (pc := 71) h dX6_readUnit_71 kX6_207 rfl hM.1 (tX6_emits hM t8 t10 I) (by decide) rfl rfl (Nat.le_of_ble_eq_true rfl) rfl (fun I12 => ?_)
          refine v_aload_n (pc := 74) h dX6_readUnit_74 0 rfl rfl ?_
          refine v_callv (pc := 75) h dX6_readUnit_75 kX6_211 rfl hM.1 (tX6_reads hM I12) (by decide) rfl rfl (Nat.le_of_ble_eq_true rfl) rfl (fun I13 => ?_)
          refine v_iconst (pc := 78) h dX6_readUnit_78 (v := 0) rfl ?_
          exact v_iret (pc := 79) h hr dX6_readUnit_79
set_option maxHeartbeats 4000000 in
theorem tX6_readProduct {g : Gl} {mo : Nat} {r : Rh} (hM : MStr mo r)  (I : MI) : CtI g yX6_readProduct cX6_readProduct 2 (some .int) 4 [.ref mo] I r (pX6_readProduct mo  I) := by
  refine CtI.mk (lv := [(0, .ref mo)]) (by decide) (Nat.le_of_ble_eq_true rfl) rfl (fun x Q h hr => ?_)
  unfold pX6_readProduct
  refine v_aload_n (pc := 0) h dX6_readProduct_0 0 rfl rfl ?_
  refine v_calli (pc := 1) h dX6_readProduct_1 kX6_214 rfl hM.1 (tX6_readUnit hM I) (by decide) rfl rfl (Nat.le_of_ble_eq_true rfl) rfl (fun r1 I2 => ?_)
  refine v_iconst (pc := 4) h dX6_readProduct_4 (v := (-1)) rfl ?_
  refine v_icmp_ne (pc := 5) (t := 10) h dX6_readProduct_5 rfl (fun _ => ?_) (fun _ => ?_)
  · refine L1.run (lv := fun I3 => [(0, .ref mo)]) (st := fun I3 => []) (Im := fun I3 => I3) (r := fun I3 => r) (fun X4 hX4 I3 => ?_) I2
    refine v_aload_n (pc := 10) h dX6_readProduct_10 0 rfl rfl ?_
    refine v_bipush (pc := 11) h dX6_readProduct_11 (v := 42) rfl ?_
    refine v_callp (pc := 13) h dX6_readProduct_13 kX6_218 rfl hM.1 (tX6_isSign hM (42 : Int32) I3) (by decide) rfl rfl (Nat.le_of_ble_eq_true rfl) rfl (fun r5 => ?_)
    refine v_jn0 (V g x 2 (0, 0) 28 [(0, .ref mo)] [] I3 r) (fun k6 hk6 => ?_) ?_
    · refine v_if_ne (pc := 16) (t := 28) h dX6_readProduct_16 rfl (fun _ => ?_) (fun _ => ?_)
      · exact hk6
      · refine v_aload_n (pc := 19) h dX6_readProduct_19 0 rfl rfl ?_
        refine v_bipush (pc := 20) h dX6_readProduct_20 (v := 47) rfl ?_
        refine v_callp (pc := 22) h dX6_readProduct_22 kX6_218 rfl hM.1 (tX6_isSign hM (47 : Int32) I3) (by decide) rfl rfl (Nat.le_of_ble_eq_true rfl) rfl (fun r7 => ?_)
        refine v_if_eq (pc := 25) (t := 101) h dX6_readProduct_25 rfl (fun _ => ?_) (fun _ => ?_)
        · refine v_iconst (pc := 101) h dX6_readProduct_101 (v := 0) rfl ?_
          exact v_iret (pc := 102) h hr dX6_readProduct_102
        · exact hk6
    · refine v_aload_n (pc := 28) h dX6_readProduct_28 0 rfl rfl ?_
      refine v_bipush (pc := 29) h dX6_readProduct_29 (v := 42) rfl ?_
      refine v_callp (pc := 31) h dX6_readProduct_31 kX6_218 rfl hM.1 (tX6_isSign hM (42 : Int32) I3) (by decide) rfl rfl (Nat.le_of_ble_eq_true rfl) rfl (fun r8 => ?_)
      refine v_istore_n (pc := 34) h dX6_readProduct_34 rfl (by decide) (lv' := [(1, .int r8), (0, .ref mo)]) rfl ?_
      refine v_aload_n (pc := 35) h dX6_readProduct_35 1 rfl rfl ?_
      refine v_callv (pc := 36) h dX6_readProduct_36 kX6_211 rfl hM.1 (tX6_reads hM I3) (by decide) rfl rfl (Nat.le_of_ble_eq_true rfl) rfl (fun I9 => ?_)
      refine v_iload_n (pc := 39) h dX6_readProduct_39 0 rfl rfl ?_
      refine v_jn0 (V g x 2 (0, 0) 57 [(0, .ref mo), (1, .int r8)] [] I9 r) (fun k10 hk10 => ?_) ?_
      · refine v_if_ne (pc := 40) (t := 57) h dX6_readProduct_40 rfl (fun _ => ?_) (fun _ => ?_)
        · refine v_sub [1, 0] rfl ?_
          exact hk10
        · refine v_aload_n (pc := 43) h dX6_readProduct_43 1 rfl rfl ?_
          refine v_geti (pc := 44) h dX6_readProduct_44 fX6_173 rfl hM.1 ?_
          refine v_iconst (pc := 47) h dX6_readProduct_47 (v := 3) rfl ?_
          refine v_icmp_eq (pc := 48) (t := 57) h dX6_readProduct_48 rfl (fun _ => ?_) (fun _ => ?_)
          · refine v_sub [1, 0] rfl ?_
            exact hk10
          · refine v_aload_n (pc := 51) h dX6_readProduct_51 1 rfl rfl ?_
            refine v_iconst (pc := 52) h dX6_readProduct_52 (v := 1) rfl ?_
            refine v_calli (pc := 53) h dX6_readProduct_53 kX6_204 rfl hM.1 (tX6_errs hM (1 : Int32) I9) (by decide) rfl rfl (Nat.le_of_ble_eq_true rfl) rfl (fun r11 I12 => ?_)
            exact v_iret (pc := 56) h hr dX6_readProduct_56
      · refine v_iload_n (pc := 57) h dX6_readProduct_57 1 rfl rfl ?_
        refine v_jn0 (V g x 2 (0, 0) 74 [(0, .ref mo), (1, .int r8)] [] I9 r) (fun k13 hk13 => ?_) ?_
        · refine v_if_ne (pc := 58) (t := 74) h dX6_readProduct_58 rfl (fun _ => ?_) (fun _ => ?_)
          · exact hk13
          · refine v_aload_n (pc := 61) h dX6_readProduct_61 0 rfl rfl ?_
            refine v_geti (pc := 62) h dX6_readProduct_62 fX6_176 rfl hM.1 ?_
            refine v_if_ne (pc := 65) (t := 74) h dX6_readProduct_65 rfl (fun _ => ?_) (fun _ => ?_)
            · exact hk13
            · refine v_aload_n (pc := 68) h dX6_readProduct_68 0 rfl rfl ?_
              refine v_iconst (pc := 69) h dX6_readProduct_69 (v := 2) rfl ?_
              refine v_calli (pc := 70) h dX6_readProduct_70 kX6_204 rfl hM.1 (tX6_errs hM (2 : Int32) I9) (by decide) rfl rfl (Nat.le_of_ble_eq_true rfl) rfl (fun r14 I15 => ?_)
              exact v_iret (pc := 73) h hr dX6_readProduct_73
        · refine v_aload_n (pc := 74) h dX6_readProduct_74 0 rfl rfl ?_
          refine v_calli (pc := 75) h dX6_readProduct_75 kX6_214 rfl hM.1 (tX6_readUnit hM I9) (by decide) rfl rfl (Nat.le_of_ble_eq_true rfl) rfl (fun r16 I17 => ?_)
          refine v_iconst (pc := 78) h dX6_readProduct_78 (v := (-1)) rfl ?_
          refine v_icmp_ne (pc := 79) (t := 84) h dX6_readProduct_79 rfl (fun _ => ?_) (fun _ => ?_)
          · refine v_aload_n (pc := 84) h dX6_readProduct_84 0 rfl rfl ?_
            refine v_iload_n (pc := 85) h dX6_readProduct_85 1 rfl rfl ?_
            refine v_jn1 (fun t18 => V g x 2 (0, 0) 94 [(0, .ref mo)] [.int t18, .ref mo] I17 r) (fun k19 hk19 => ?_) (fun t18 => ?_)
            · refine v_if_eq (pc := 86) (t := 93) h dX6_readProduct_86 rfl (fun _ => ?_) (fun _ => ?_)
              · refine v_iconst (pc := 93) h dX6_readProduct_93 (v := 5) rfl ?_
                refine v_sub [0] rfl ?_
                exact hk19 (5 : Int32)
              · refine v_iconst (pc := 89) h dX6_readProduct_89 (v := 4) rfl ?_
                refine v_goto (pc := 90) (t := 94) h dX6_readProduct_90 rfl ?_
                refine v_sub [0] rfl ?_
                exact hk19 (4 : Int32)
            · refine v_iconst (pc := 94) h dX6_readProduct_94 (v := 0) rfl ?_
              refine v_callv (pc := 95) h dX6_readProduct_95 kX6_207 rfl hM.1 (tX6_emits hM t18 (0 : Int32) I17) (by decide) rfl rfl (Nat.le_of_ble_eq_true rfl) rfl (fun I20 => ?_)
              refine v_goto (pc := 98) (t := 10) h dX6_readProduct_98 rfl ?_
              exact hX4 I20
          · refine v_iconst (pc := 82) h dX6_readProduct_82 (v := (-1)) rfl ?_
            exact v_iret (pc := 83) h hr dX6_readProduct_83
  · refine v_iconst (pc := 8) h dX6_readProduct_8 (v := (-1)) rfl ?_
    exact v_iret (pc := 9) h hr dX6_readProduct_9
set_option maxHeartbeats 4000000 in
theorem tX6_readSum {g : Gl} {mo : Nat} {r : Rh} (hM : MStr mo r)  (I : MI) : CtI g yX6_readSum cX6_readSum 2 (some .int) 5 [.ref mo] I r (pX6_readSum mo  I) := by
  refine CtI.mk (lv := [(0, .ref mo)]) (by decide) (Nat.le_of_ble_eq_true rfl) rfl (fun x Q h hr => ?_)
  unfold pX6_readSum
  refine v_aload_n (pc := 0) h dX6_readSum_0 0 rfl rfl ?_
  refine v_calli (pc := 1) h dX6_readSum_1 kX6_221 rfl hM.1 (tX6_readProduct hM I) (by decide) rfl rfl (Nat.le_of_ble_eq_true rfl) rfl (fun r1 I2 => ?_)
  refine v_iconst (pc := 4) h dX6_readSum_4 (v := (-1)) rfl ?_
  refine v_icmp_ne (pc := 5) (t := 10) h dX6_readSum_5 rfl (fun _ => ?_) (fun _ => ?_)
  · refine L1.run (lv := fun I3 => [(0, .ref mo)]) (st := fun I3 => []) (Im := fun I3 => I3) (r := fun I3 => r) (fun X4 hX4 I3 => ?_) I2
    refine v_aload_n (pc := 10) h dX6_readSum_10 0 rfl rfl ?_
    refine v_bipush (pc := 11) h dX6_readSum_11 (v := 43) rfl ?_
    refine v_callp (pc := 13) h dX6_readSum_13 kX6_218 rfl hM.1 (tX6_isSign hM (43 : Int32) I3) (by decide) rfl rfl (Nat.le_of_ble_eq_true rfl) rfl (fun r5 => ?_)
    refine v_jn0 (V g x 2 (0, 0) 28 [(0, .ref mo)] [] I3 r) (fun k6 hk6 => ?_) ?_
    · refine v_if_ne (pc := 16) (t := 28) h dX6_readSum_16 rfl (fun _ => ?_) (fun _ => ?_)
      · exact hk6
      · refine v_aload_n (pc := 19) h dX6_readSum_19 0 rfl rfl ?_
        refine v_bipush (pc := 20) h dX6_readSum_20 (v := 45) rfl ?_
        refine v_callp (pc := 22) h dX6_readSum_22 kX6_218 rfl hM.1 (tX6_isSign hM (45 : Int32) I3) (by decide) rfl rfl (Nat.le_of_ble_eq_true rfl) rfl (fun r7 => ?_)
        refine v_if_eq (pc := 25) (t := 66) h dX6_readSum_25 rfl (fun _ => ?_) (fun _ => ?_)
        · refine v_iconst (pc := 66) h dX6_readSum_66 (v := 0) rfl ?_
          exact v_iret (pc := 67) h hr dX6_readSum_67
        · exact hk6
    · refine v_aload_n (pc := 28) h dX6_readSum_28 0 rfl rfl ?_
      refine v_geti (pc := 29) h dX6_readSum_29 fX6_176 rfl hM.1 ?_
      refine v_bipush (pc := 32) h dX6_readSum_32 (v := 43) rfl ?_
      refine v_jn1 (fun t8 => V g x 2 (0, 0) 42 [(0, .ref mo)] [.int t8] I3 r) (fun k9 hk9 => ?_) (fun t8 => ?_)
      · refine v_icmp_ne (pc := 34) (t := 41) h dX6_readSum_34 rfl (fun _ => ?_) (fun _ => ?_)
        · refine v_iconst (pc := 41) h dX6_readSum_41 (v := 3) rfl ?_
          exact hk9 (3 : Int32)
        · refine v_iconst (pc := 37) h dX6_readSum_37 (v := 2) rfl ?_
          refine v_goto (pc := 38) (t := 42) h dX6_readSum_38 rfl ?_
          exact hk9 (2 : Int32)
      · refine v_istore_n (pc := 42) h dX6_readSum_42 rfl (by decide) (lv' := [(1, .int t8), (0, .ref mo)]) rfl ?_
        refine v_aload_n (pc := 43) h dX6_readSum_43 1 rfl rfl ?_
        refine v_callv (pc := 44) h dX6_readSum_44 kX6_211 rfl hM.1 (tX6_reads hM I3) (by decide) rfl rfl (Nat.le_of_ble_eq_true rfl) rfl (fun I10 => ?_)
        refine v_aload_n (pc := 47) h dX6_readSum_47 1 rfl rfl ?_
        refine v_calli (pc := 48) h dX6_readSum_48 kX6_221 rfl hM.1 (tX6_readProduct hM I10) (by decide) rfl rfl (Nat.le_of_ble_eq_true rfl) rfl (fun r11 I12 => ?_)
        refine v_iconst (pc := 51) h dX6_readSum_51 (v := (-1)) rfl ?_
        refine v_icmp_ne (pc := 52) (t := 57) h dX6_readSum_52 rfl (fun _ => ?_) (fun _ => ?_)
        · refine v_aload_n (pc := 57) h dX6_readSum_57 1 rfl rfl ?_
          refine v_iload_n (pc := 58) h dX6_readSum_58 0 rfl rfl ?_
          refine v_iconst (pc := 59) h dX6_readSum_59 (v := 0) rfl ?_
          refine v_callv (pc := 60) h dX6_readSum_60 kX6_207 rfl hM.1 (tX6_emits hM t8 (0 : Int32) I12) (by decide) rfl rfl (Nat.le_of_ble_eq_true rfl) rfl (fun I13 => ?_)
          refine v_goto (pc := 63) (t := 10) h dX6_readSum_63 rfl ?_
          refine v_sub [1] rfl ?_
          exact hX4 I13
        · refine v_iconst (pc := 55) h dX6_readSum_55 (v := (-1)) rfl ?_
          exact v_iret (pc := 56) h hr dX6_readSum_56
  · refine v_iconst (pc := 8) h dX6_readSum_8 (v := (-1)) rfl ?_
    exact v_iret (pc := 9) h hr dX6_readSum_9
set_option maxHeartbeats 4000000 in
theorem tX6_waits {g : Gl} {mo : Nat} {r : Rh} (hM : MStr mo r) (a1 : Int32) (I : MI) : CtV g yX6_waits cX6_waits 2 0 [.ref mo, .int a1] I r (pX6_waits mo a1 I) := by
  refine CtV.mk (lv := [(0, .ref mo), (1, .int a1)]) (by decide) (Nat.le_of_ble_eq_true rfl) rfl (fun x Q h hr => ?_)
  unfold pX6_waits
  refine v_aload_n (pc := 0) h dX6_waits_0 0 rfl rfl ?_
  refine v_getp (pc := 1) h dX6_waits_1 fX6_52 rfl hM.1 (mA_26 hM).1 ?_
  refine v_aload_n (pc := 4) h dX6_waits_4 0 rfl rfl ?_
  refine v_geti (pc := 5) h dX6_waits_5 fX6_227 rfl hM.1 ?_
  refine v_iload_n (pc := 8) h dX6_waits_8 1 rfl rfl ?_
  refine v_iast (pc := 9) h dX6_waits_9 (mA_26 hM).2.1 (mA_26 hM).2.2 ?_
  refine v_nmI (fun I1 => ?_)
  refine v_aload_n (pc := 10) h dX6_waits_10 0 rfl rfl ?_
  refine v_aload_n (pc := 11) h dX6_waits_11 0 rfl rfl ?_
  refine v_geti (pc := 12) h dX6_waits_12 fX6_227 rfl hM.1 ?_
  refine v_iconst (pc := 15) h dX6_waits_15 (v := 1) rfl ?_
  refine v_iadd (pc := 16) h dX6_waits_16 ?_
  refine v_puti (pc := 17) h dX6_waits_17 fX6_227 rfl hM.1 ?_
  refine v_nmI (fun I2 => ?_)
  exact v_vret (pc := 20) h hr dX6_waits_20
set_option maxHeartbeats 4000000 in
theorem tX6_readCompared {g : Gl} {mo : Nat} {r : Rh} (hM : MStr mo r)  (I : MI) : CtI g yX6_readCompared cX6_readCompared 2 (some .int) 6 [.ref mo] I r (pX6_readCompared mo  I) := by
  refine CtI.mk (lv := [(0, .ref mo)]) (by decide) (Nat.le_of_ble_eq_true rfl) rfl (fun x Q h hr => ?_)
  unfold pX6_readCompared
  refine v_aload_n (pc := 0) h dX6_readCompared_0 0 rfl rfl ?_
  refine v_calli (pc := 1) h dX6_readCompared_1 kX6_224 rfl hM.1 (tX6_readSum hM I) (by decide) rfl rfl (Nat.le_of_ble_eq_true rfl) rfl (fun r1 I2 => ?_)
  refine v_iconst (pc := 4) h dX6_readCompared_4 (v := (-1)) rfl ?_
  refine v_icmp_ne (pc := 5) (t := 10) h dX6_readCompared_5 rfl (fun _ => ?_) (fun _ => ?_)
  · refine v_aload_n (pc := 10) h dX6_readCompared_10 0 rfl rfl ?_
    refine v_bipush (pc := 11) h dX6_readCompared_11 (v := 60) rfl ?_
    refine v_callp (pc := 13) h dX6_readCompared_13 kX6_218 rfl hM.1 (tX6_isSign hM (60 : Int32) I2) (by decide) rfl rfl (Nat.le_of_ble_eq_true rfl) rfl (fun r3 => ?_)
    refine v_jn0 (V g x 2 (0, 0) 43 [(0, .ref mo)] [] I2 r) (fun k4 hk4 => ?_) ?_
    · refine v_if_ne (pc := 16) (t := 43) h dX6_readCompared_16 rfl (fun _ => ?_) (fun _ => ?_)
      · exact hk4
      · refine v_aload_n (pc := 19) h dX6_readCompared_19 0 rfl rfl ?_
        refine v_bipush (pc := 20) h dX6_readCompared_20 (v := 61) rfl ?_
        refine v_callp (pc := 22) h dX6_readCompared_22 kX6_218 rfl hM.1 (tX6_isSign hM (61 : Int32) I2) (by decide) rfl rfl (Nat.le_of_ble_eq_true rfl) rfl (fun r5 => ?_)
        refine v_if_ne (pc := 25) (t := 43) h dX6_readCompared_25 rfl (fun _ => ?_) (fun _ => ?_)
        · exact hk4
        · refine v_aload_n (pc := 28) h dX6_readCompared_28 0 rfl rfl ?_
          refine v_bipush (pc := 29) h dX6_readCompared_29 (v := 62) rfl ?_
          refine v_callp (pc := 31) h dX6_readCompared_31 kX6_218 rfl hM.1 (tX6_isSign hM (62 : Int32) I2) (by decide) rfl rfl (Nat.le_of_ble_eq_true rfl) rfl (fun r6 => ?_)
          refine v_if_ne (pc := 34) (t := 43) h dX6_readCompared_34 rfl (fun _ => ?_) (fun _ => ?_)
          · exact hk4
          · refine v_aload_n (pc := 37) h dX6_readCompared_37 0 rfl rfl ?_
            refine v_iconst (pc := 38) h dX6_readCompared_38 (v := 1) rfl ?_
            refine v_calli (pc := 39) h dX6_readCompared_39 kX6_204 rfl hM.1 (tX6_errs hM (1 : Int32) I2) (by decide) rfl rfl (Nat.le_of_ble_eq_true rfl) rfl (fun r7 I8 => ?_)
            exact v_iret (pc := 42) h hr dX6_readCompared_42
    · refine v_aload_n (pc := 43) h dX6_readCompared_43 0 rfl rfl ?_
      refine v_geti (pc := 44) h dX6_readCompared_44 fX6_176 rfl hM.1 ?_
      refine v_bipush (pc := 47) h dX6_readCompared_47 (v := 60) rfl ?_
      refine v_jn1 (fun t9 => V g x 2 (0, 0) 73 [(0, .ref mo)] [.int t9] I2 r) (fun k10 hk10 => ?_) (fun t9 => ?_)
      · refine v_icmp_ne (pc := 49) (t := 57) h dX6_readCompared_49 rfl (fun _ => ?_) (fun _ => ?_)
        · refine v_aload_n (pc := 57) h dX6_readCompared_57 0 rfl rfl ?_
          refine v_geti (pc := 58) h dX6_readCompared_58 fX6_176 rfl hM.1 ?_
          refine v_bipush (pc := 61) h dX6_readCompared_61 (v := 61) rfl ?_
          refine v_icmp_ne (pc := 63) (t := 71) h dX6_readCompared_63 rfl (fun _ => ?_) (fun _ => ?_)
          · refine v_bipush (pc := 71) h dX6_readCompared_71 (v := 8) rfl ?_
            exact hk10 (8 : Int32)
          · refine v_bipush (pc := 66) h dX6_readCompared_66 (v := 7) rfl ?_
            refine v_goto (pc := 68) (t := 73) h dX6_readCompared_68 rfl ?_
            exact hk10 (7 : Int32)
        · refine v_bipush (pc := 52) h dX6_readCompared_52 (v := 6) rfl ?_
          refine v_goto (pc := 54) (t := 73) h dX6_readCompared_54 rfl ?_
          exact hk10 (6 : Int32)
      · refine v_istore_n (pc := 73) h dX6_readCompared_73 rfl (by decide) (lv' := [(1, .int t9), (0, .ref mo)]) rfl ?_
        refine v_aload_n (pc := 74) h dX6_readCompared_74 1 rfl rfl ?_
        refine v_callv (pc := 75) h dX6_readCompared_75 kX6_211 rfl hM.1 (tX6_reads hM I2) (by decide) rfl rfl (Nat.le_of_ble_eq_true rfl) rfl (fun I11 => ?_)
        refine v_aload_n (pc := 78) h dX6_readCompared_78 1 rfl rfl ?_
        refine v_calli (pc := 79) h dX6_readCompared_79 kX6_224 rfl hM.1 (tX6_readSum hM I11) (by decide) rfl rfl (Nat.le_of_ble_eq_true rfl) rfl (fun r12 I13 => ?_)
        refine v_iconst (pc := 82) h dX6_readCompared_82 (v := (-1)) rfl ?_
        refine v_icmp_ne (pc := 83) (t := 88) h dX6_readCompared_83 rfl (fun _ => ?_) (fun _ => ?_)
        · refine v_aload_n (pc := 88) h dX6_readCompared_88 1 rfl rfl ?_
          refine v_iload_n (pc := 89) h dX6_readCompared_89 0 rfl rfl ?_
          refine v_iconst (pc := 90) h dX6_readCompared_90 (v := 0) rfl ?_
          refine v_callv (pc := 91) h dX6_readCompared_91 kX6_207 rfl hM.1 (tX6_emits hM t9 (0 : Int32) I13) (by decide) rfl rfl (Nat.le_of_ble_eq_true rfl) rfl (fun I14 => ?_)
          refine v_iconst (pc := 94) h dX6_readCompared_94 (v := 0) rfl ?_
          exact v_iret (pc := 95) h hr dX6_readCompared_95
        · refine v_iconst (pc := 86) h dX6_readCompared_86 (v := (-1)) rfl ?_
          exact v_iret (pc := 87) h hr dX6_readCompared_87
  · refine v_iconst (pc := 8) h dX6_readCompared_8 (v := (-1)) rfl ?_
    exact v_iret (pc := 9) h hr dX6_readCompared_9
set_option maxHeartbeats 4000000 in
theorem tX6_settles {g : Gl} {mo : Nat} {r : Rh} (hM : MStr mo r) (a1 : Int32) (I : MI) : CtV g yX6_settles cX6_settles 2 1 [.ref mo, .int a1] I r (pX6_settles mo a1 I) := by
  refine CtV.mk (lv := [(0, .ref mo), (1, .int a1)]) (by decide) (Nat.le_of_ble_eq_true rfl) rfl (fun x Q h hr => ?_)
  unfold pX6_settles
  refine L1.run (lv := fun I1 => [(0, .ref mo), (1, .int a1)]) (st := fun I1 => []) (Im := fun I1 => I1) (r := fun I1 => r) (fun X2 hX2 I1 => ?_) I
  refine v_aload_n (pc := 0) h dX6_settles_0 0 rfl rfl ?_
  refine v_geti (pc := 1) h dX6_settles_1 fX6_227 rfl hM.1 ?_
  refine v_if_le (pc := 4) (t := 57) h dX6_settles_4 rfl (fun _ => ?_) (fun _ => ?_)
  · exact v_vret (pc := 57) h hr dX6_settles_57
  · refine v_aload_n (pc := 7) h dX6_settles_7 0 rfl rfl ?_
    refine v_getp (pc := 8) h dX6_settles_8 fX6_52 rfl hM.1 (mA_26 hM).1 ?_
    refine v_aload_n (pc := 11) h dX6_settles_11 0 rfl rfl ?_
    refine v_geti (pc := 12) h dX6_settles_12 fX6_227 rfl hM.1 ?_
    refine v_iconst (pc := 15) h dX6_settles_15 (v := 1) rfl ?_
    refine v_isub (pc := 16) h dX6_settles_16 ?_
    refine v_iald (pc := 17) h dX6_settles_17 (mA_26 hM).2.1 (mA_26 hM).2.2 ?_
    refine v_iload_n (pc := 18) h dX6_settles_18 1 rfl rfl ?_
    refine v_icmp_ne (pc := 19) (t := 57) h dX6_settles_19 rfl (fun _ => ?_) (fun _ => ?_)
    · exact v_vret (pc := 57) h hr dX6_settles_57
    · refine v_aload_n (pc := 22) h dX6_settles_22 0 rfl rfl ?_
      refine v_aload_n (pc := 23) h dX6_settles_23 0 rfl rfl ?_
      refine v_geti (pc := 24) h dX6_settles_24 fX6_227 rfl hM.1 ?_
      refine v_iconst (pc := 27) h dX6_settles_27 (v := 1) rfl ?_
      refine v_isub (pc := 28) h dX6_settles_28 ?_
      refine v_puti (pc := 29) h dX6_settles_29 fX6_227 rfl hM.1 ?_
      refine v_nmI (fun I3 => ?_)
      refine v_aload_n (pc := 32) h dX6_settles_32 0 rfl rfl ?_
      refine v_iload_n (pc := 33) h dX6_settles_33 1 rfl rfl ?_
      refine v_iconst (pc := 34) h dX6_settles_34 (v := 0) rfl ?_
      refine v_callv (pc := 35) h dX6_settles_35 kX6_207 rfl hM.1 (tX6_emits hM a1 (0 : Int32) I3) (by decide) rfl rfl (Nat.le_of_ble_eq_true rfl) rfl (fun I4 => ?_)
      refine v_iload_n (pc := 38) h dX6_settles_38 1 rfl rfl ?_
      refine v_bipush (pc := 39) h dX6_settles_39 (v := 9) rfl ?_
      refine v_icmp_ne (pc := 41) (t := 0) h dX6_settles_41 rfl (fun _ => ?_) (fun _ => ?_)
      · exact hX2 I4
      · refine v_aload_n (pc := 44) h dX6_settles_44 0 rfl rfl ?_
        refine v_aload_n (pc := 45) h dX6_settles_45 0 rfl rfl ?_
        refine v_geti (pc := 46) h dX6_settles_46 fX6_230 rfl hM.1 ?_
        refine v_iconst (pc := 49) h dX6_settles_49 (v := 1) rfl ?_
        refine v_isub (pc := 50) h dX6_settles_50 ?_
        refine v_puti (pc := 51) h dX6_settles_51 fX6_230 rfl hM.1 ?_
        refine v_nmI (fun I5 => ?_)
        refine v_goto (pc := 54) (t := 0) h dX6_settles_54 rfl ?_
        exact hX2 I5
set_option maxHeartbeats 4000000 in
theorem tX6_readAny {g : Gl} {mo : Nat} {r : Rh} (hM : MStr mo r)  (I : MI) : CtI g yX6_readAny cX6_readAny 4 (some .int) 7 [.ref mo] I r (pX6_readAny mo  I) := by
  refine CtI.mk (lv := [(0, .ref mo)]) (by decide) (Nat.le_of_ble_eq_true rfl) rfl (fun x Q h hr => ?_)
  unfold pX6_readAny
  refine v_iconst (pc := 0) h dX6_readAny_0 (v := 0) rfl ?_
  refine v_istore_n (pc := 1) h dX6_readAny_1 rfl (by decide) (lv' := [(1, .int (0 : Int32)), (0, .ref mo)]) rfl ?_
  refine v_aload_n (pc := 2) h dX6_readAny_2 1 rfl rfl ?_
  refine v_iconst (pc := 3) h dX6_readAny_3 (v := 0) rfl ?_
  refine v_puti (pc := 4) h dX6_readAny_4 fX6_227 rfl hM.1 ?_
  refine v_nmI (fun I1 => ?_)
  refine v_iconst (pc := 7) h dX6_readAny_7 (v := 1) rfl ?_
  refine v_istore_n (pc := 8) h dX6_readAny_8 rfl (by decide) (lv' := [(2, .int (1 : Int32)), (1, .int (0 : Int32)), (0, .ref mo)]) rfl ?_
  refine v_sub [2, 1, 0] rfl ?_
  refine L3.run (lv := fun i1_2 i2_3 I4 => [(0, .ref mo), (1, .int i1_2), (2, .int i2_3)]) (st := fun i1_2 i2_3 I4 => []) (Im := fun i1_2 i2_3 I4 => I4) (r := fun i1_2 i2_3 I4 => r) (fun X5 hX5 i1_2 i2_3 I4 => ?_) (0 : Int32) (1 : Int32) I1
  refine v_iload_n (pc := 9) h dX6_readAny_9 2 rfl rfl ?_
  refine v_if_eq (pc := 10) (t := 109) h dX6_readAny_10 rfl (fun _ => ?_) (fun _ => ?_)
  · refine v_aload_n (pc := 109) h dX6_readAny_109 0 rfl rfl ?_
    refine v_iconst (pc := 110) h dX6_readAny_110 (v := 5) rfl ?_
    refine v_callp (pc := 111) h dX6_readAny_111 kX6_233 rfl hM.1 (tX6_isWord hM (5 : Int32) I4) (by decide) rfl rfl (Nat.le_of_ble_eq_true rfl) rfl (fun r6 => ?_)
    refine v_if_eq (pc := 114) (t := 138) h dX6_readAny_114 rfl (fun _ => ?_) (fun _ => ?_)
    · refine v_aload_n (pc := 138) h dX6_readAny_138 0 rfl rfl ?_
      refine v_iconst (pc := 139) h dX6_readAny_139 (v := 4) rfl ?_
      refine v_callp (pc := 140) h dX6_readAny_140 kX6_233 rfl hM.1 (tX6_isWord hM (4 : Int32) I4) (by decide) rfl rfl (Nat.le_of_ble_eq_true rfl) rfl (fun r7 => ?_)
      refine v_if_eq (pc := 143) (t := 173) h dX6_readAny_143 rfl (fun _ => ?_) (fun _ => ?_)
      · refine v_aload_n (pc := 173) h dX6_readAny_173 0 rfl rfl ?_
        refine v_bipush (pc := 174) h dX6_readAny_174 (v := 10) rfl ?_
        refine v_callv (pc := 176) h dX6_readAny_176 kX6_242 rfl hM.1 (tX6_settles hM (10 : Int32) I4) (by decide) rfl rfl (Nat.le_of_ble_eq_true rfl) rfl (fun I8 => ?_)
        refine v_aload_n (pc := 179) h dX6_readAny_179 0 rfl rfl ?_
        refine v_bipush (pc := 180) h dX6_readAny_180 (v := 11) rfl ?_
        refine v_callv (pc := 182) h dX6_readAny_182 kX6_242 rfl hM.1 (tX6_settles hM (11 : Int32) I8) (by decide) rfl rfl (Nat.le_of_ble_eq_true rfl) rfl (fun I9 => ?_)
        refine v_iload_n (pc := 185) h dX6_readAny_185 1 rfl rfl ?_
        refine v_if_ne (pc := 186) (t := 191) h dX6_readAny_186 rfl (fun _ => ?_) (fun _ => ?_)
        · refine v_aload_n (pc := 191) h dX6_readAny_191 0 rfl rfl ?_
          refine v_bipush (pc := 192) h dX6_readAny_192 (v := 41) rfl ?_
          refine v_callp (pc := 194) h dX6_readAny_194 kX6_218 rfl hM.1 (tX6_isSign hM (41 : Int32) I9) (by decide) rfl rfl (Nat.le_of_ble_eq_true rfl) rfl (fun r10 => ?_)
          refine v_if_ne (pc := 197) (t := 206) h dX6_readAny_197 rfl (fun _ => ?_) (fun _ => ?_)
          · refine v_aload_n (pc := 206) h dX6_readAny_206 0 rfl rfl ?_
            refine v_aload_n (pc := 207) h dX6_readAny_207 0 rfl rfl ?_
            refine v_geti (pc := 208) h dX6_readAny_208 fX6_227 rfl hM.1 ?_
            refine v_iconst (pc := 211) h dX6_readAny_211 (v := 1) rfl ?_
            refine v_isub (pc := 212) h dX6_readAny_212 ?_
            refine v_puti (pc := 213) h dX6_readAny_213 fX6_227 rfl hM.1 ?_
            refine v_nmI (fun I11 => ?_)
            refine v_iload_n (pc := 216) h dX6_readAny_216 1 rfl rfl ?_
            refine v_iconst (pc := 217) h dX6_readAny_217 (v := 1) rfl ?_
            refine v_isub (pc := 218) h dX6_readAny_218 ?_
            refine v_nmi (fun v12 => ?_)
            refine v_istore_n (pc := 219) h dX6_readAny_219 rfl (by decide) (lv' := [(1, .int v12), (0, .ref mo), (2, .int i2_3)]) rfl ?_
            refine v_aload_n (pc := 220) h dX6_readAny_220 1 rfl rfl ?_
            refine v_aload_n (pc := 221) h dX6_readAny_221 1 rfl rfl ?_
            refine v_geti (pc := 222) h dX6_readAny_222 fX6_230 rfl hM.1 ?_
            refine v_iconst (pc := 225) h dX6_readAny_225 (v := 1) rfl ?_
            refine v_isub (pc := 226) h dX6_readAny_226 ?_
            refine v_puti (pc := 227) h dX6_readAny_227 fX6_230 rfl hM.1 ?_
            refine v_nmI (fun I13 => ?_)
            refine v_aload_n (pc := 230) h dX6_readAny_230 1 rfl rfl ?_
            refine v_bipush (pc := 231) h dX6_readAny_231 (v := 9) rfl ?_
            refine v_callv (pc := 233) h dX6_readAny_233 kX6_242 rfl hM.1 (tX6_settles hM (9 : Int32) I13) (by decide) rfl rfl (Nat.le_of_ble_eq_true rfl) rfl (fun I14 => ?_)
            refine v_aload_n (pc := 236) h dX6_readAny_236 1 rfl rfl ?_
            refine v_callv (pc := 237) h dX6_readAny_237 kX6_211 rfl hM.1 (tX6_reads hM I14) (by decide) rfl rfl (Nat.le_of_ble_eq_true rfl) rfl (fun I15 => ?_)
            refine v_goto (pc := 240) (t := 9) h dX6_readAny_240 rfl ?_
            refine v_sub [1, 0, 2] rfl ?_
            exact hX5 v12 i2_3 I15
          · refine v_aload_n (pc := 200) h dX6_readAny_200 0 rfl rfl ?_
            refine v_iconst (pc := 201) h dX6_readAny_201 (v := 1) rfl ?_
            refine v_calli (pc := 202) h dX6_readAny_202 kX6_204 rfl hM.1 (tX6_errs hM (1 : Int32) I9) (by decide) rfl rfl (Nat.le_of_ble_eq_true rfl) rfl (fun r16 I17 => ?_)
            exact v_iret (pc := 205) h hr dX6_readAny_205
        · refine v_iconst (pc := 189) h dX6_readAny_189 (v := 0) rfl ?_
          exact v_iret (pc := 190) h hr dX6_readAny_190
      · refine v_aload_n (pc := 146) h dX6_readAny_146 0 rfl rfl ?_
        refine v_bipush (pc := 147) h dX6_readAny_147 (v := 10) rfl ?_
        refine v_callv (pc := 149) h dX6_readAny_149 kX6_242 rfl hM.1 (tX6_settles hM (10 : Int32) I4) (by decide) rfl rfl (Nat.le_of_ble_eq_true rfl) rfl (fun I18 => ?_)
        refine v_aload_n (pc := 152) h dX6_readAny_152 0 rfl rfl ?_
        refine v_bipush (pc := 153) h dX6_readAny_153 (v := 11) rfl ?_
        refine v_callv (pc := 155) h dX6_readAny_155 kX6_242 rfl hM.1 (tX6_settles hM (11 : Int32) I18) (by decide) rfl rfl (Nat.le_of_ble_eq_true rfl) rfl (fun I19 => ?_)
        refine v_aload_n (pc := 158) h dX6_readAny_158 0 rfl rfl ?_
        refine v_bipush (pc := 159) h dX6_readAny_159 (v := 11) rfl ?_
        refine v_callv (pc := 161) h dX6_readAny_161 kX6_236 rfl hM.1 (tX6_waits hM (11 : Int32) I19) (by decide) rfl rfl (Nat.le_of_ble_eq_true rfl) rfl (fun I20 => ?_)
        refine v_aload_n (pc := 164) h dX6_readAny_164 0 rfl rfl ?_
        refine v_callv (pc := 165) h dX6_readAny_165 kX6_211 rfl hM.1 (tX6_reads hM I20) (by decide) rfl rfl (Nat.le_of_ble_eq_true rfl) rfl (fun I21 => ?_)
        refine v_iconst (pc := 168) h dX6_readAny_168 (v := 1) rfl ?_
        refine v_istore_n (pc := 169) h dX6_readAny_169 rfl (by decide) (lv' := [(2, .int (1 : Int32)), (0, .ref mo), (1, .int i1_2)]) rfl ?_
        refine v_goto (pc := 170) (t := 9) h dX6_readAny_170 rfl ?_
        refine v_sub [1, 2, 0] rfl ?_
        exact hX5 i1_2 (1 : Int32) I21
    · refine v_aload_n (pc := 117) h dX6_readAny_117 0 rfl rfl ?_
      refine v_bipush (pc := 118) h dX6_readAny_118 (v := 10) rfl ?_
      refine v_callv (pc := 120) h dX6_readAny_120 kX6_242 rfl hM.1 (tX6_settles hM (10 : Int32) I4) (by decide) rfl rfl (Nat.le_of_ble_eq_true rfl) rfl (fun I22 => ?_)
      refine v_aload_n (pc := 123) h dX6_readAny_123 0 rfl rfl ?_
      refine v_bipush (pc := 124) h dX6_readAny_124 (v := 10) rfl ?_
      refine v_callv (pc := 126) h dX6_readAny_126 kX6_236 rfl hM.1 (tX6_waits hM (10 : Int32) I22) (by decide) rfl rfl (Nat.le_of_ble_eq_true rfl) rfl (fun I23 => ?_)
      refine v_aload_n (pc := 129) h dX6_readAny_129 0 rfl rfl ?_
      refine v_callv (pc := 130) h dX6_readAny_130 kX6_211 rfl hM.1 (tX6_reads hM I23) (by decide) rfl rfl (Nat.le_of_ble_eq_true rfl) rfl (fun I24 => ?_)
      refine v_iconst (pc := 133) h dX6_readAny_133 (v := 1) rfl ?_
      refine v_istore_n (pc := 134) h dX6_readAny_134 rfl (by decide) (lv' := [(2, .int (1 : Int32)), (0, .ref mo), (1, .int i1_2)]) rfl ?_
      refine v_goto (pc := 135) (t := 9) h dX6_readAny_135 rfl ?_
      refine v_sub [1, 2, 0] rfl ?_
      exact hX5 i1_2 (1 : Int32) I24
  · refine v_aload_n (pc := 13) h dX6_readAny_13 0 rfl rfl ?_
    refine v_bipush (pc := 14) h dX6_readAny_14 (v := 6) rfl ?_
    refine v_callp (pc := 16) h dX6_readAny_16 kX6_233 rfl hM.1 (tX6_isWord hM (6 : Int32) I4) (by decide) rfl rfl (Nat.le_of_ble_eq_true rfl) rfl (fun r25 => ?_)
    refine v_istore_n (pc := 19) h dX6_readAny_19 rfl (by decide) (lv' := [(3, .int r25), (0, .ref mo), (1, .int i1_2), (2, .int i2_3)]) rfl ?_
    refine v_iload_n (pc := 20) h dX6_readAny_20 0 rfl rfl ?_
    refine v_jn0 (V g x 4 (0, 0) 33 [(0, .ref mo), (1, .int i1_2), (2, .int i2_3), (3, .int r25)] [] I4 r) (fun k26 hk26 => ?_) ?_
    · refine v_if_ne (pc := 21) (t := 33) h dX6_readAny_21 rfl (fun _ => ?_) (fun _ => ?_)
      · refine v_sub [1, 2, 3, 0] rfl ?_
        exact hk26
      · refine v_aload_n (pc := 24) h dX6_readAny_24 1 rfl rfl ?_
        refine v_bipush (pc := 25) h dX6_readAny_25 (v := 40) rfl ?_
        refine v_callp (pc := 27) h dX6_readAny_27 kX6_218 rfl hM.1 (tX6_isSign hM (40 : Int32) I4) (by decide) rfl rfl (Nat.le_of_ble_eq_true rfl) rfl (fun r27 => ?_)
        refine v_if_eq (pc := 30) (t := 88) h dX6_readAny_30 rfl (fun _ => ?_) (fun _ => ?_)
        · refine v_aload_n (pc := 88) h dX6_readAny_88 1 rfl rfl ?_
          refine v_calli (pc := 89) h dX6_readAny_89 kX6_239 rfl hM.1 (tX6_readCompared hM I4) (by decide) rfl rfl (Nat.le_of_ble_eq_true rfl) rfl (fun r28 I29 => ?_)
          refine v_iconst (pc := 92) h dX6_readAny_92 (v := (-1)) rfl ?_
          refine v_icmp_ne (pc := 93) (t := 98) h dX6_readAny_93 rfl (fun _ => ?_) (fun _ => ?_)
          · refine v_aload_n (pc := 98) h dX6_readAny_98 1 rfl rfl ?_
            refine v_bipush (pc := 99) h dX6_readAny_99 (v := 9) rfl ?_
            refine v_callv (pc := 101) h dX6_readAny_101 kX6_242 rfl hM.1 (tX6_settles hM (9 : Int32) I29) (by decide) rfl rfl (Nat.le_of_ble_eq_true rfl) rfl (fun I30 => ?_)
            refine v_iconst (pc := 104) h dX6_readAny_104 (v := 0) rfl ?_
            refine v_istore_n (pc := 105) h dX6_readAny_105 rfl (by decide) (lv' := [(2, .int (0 : Int32)), (3, .int r25), (0, .ref mo), (1, .int i1_2)]) rfl ?_
            refine v_goto (pc := 106) (t := 9) h dX6_readAny_106 rfl ?_
            refine v_sub [2, 3, 0] rfl ?_
            exact hX5 i1_2 (0 : Int32) I30
          · refine v_iconst (pc := 96) h dX6_readAny_96 (v := (-1)) rfl ?_
            exact v_iret (pc := 97) h hr dX6_readAny_97
        · refine v_sub [1, 2, 3, 0] rfl ?_
          exact hk26
    · refine v_aload_n (pc := 33) h dX6_readAny_33 0 rfl rfl ?_
      refine v_geti (pc := 34) h dX6_readAny_34 fX6_230 rfl hM.1 ?_
      refine v_bipush (pc := 37) h dX6_readAny_37 (v := 8) rfl ?_
      refine v_icmp_ne (pc := 39) (t := 48) h dX6_readAny_39 rfl (fun _ => ?_) (fun _ => ?_)
      · refine v_aload_n (pc := 48) h dX6_readAny_48 0 rfl rfl ?_
        refine v_aload_n (pc := 49) h dX6_readAny_49 0 rfl rfl ?_
        refine v_geti (pc := 50) h dX6_readAny_50 fX6_230 rfl hM.1 ?_
        refine v_iconst (pc := 53) h dX6_readAny_53 (v := 1) rfl ?_
        refine v_iadd (pc := 54) h dX6_readAny_54 ?_
        refine v_puti (pc := 55) h dX6_readAny_55 fX6_230 rfl hM.1 ?_
        refine v_nmI (fun I31 => ?_)
        refine v_iload_n (pc := 58) h dX6_readAny_58 3 rfl rfl ?_
        refine v_jn1 (fun v1_32 => V g x 4 (0, 0) 66 [(0, .ref mo), (1, .int v1_32), (2, .int i2_3), (3, .int r25)] [] I31 r) (fun k33 hk33 => ?_) (fun v1_32 => ?_)
        · refine v_if_ne (pc := 59) (t := 66) h dX6_readAny_59 rfl (fun _ => ?_) (fun _ => ?_)
          · exact hk33 i1_2
          · refine v_iload_n (pc := 62) h dX6_readAny_62 1 rfl rfl ?_
            refine v_iconst (pc := 63) h dX6_readAny_63 (v := 1) rfl ?_
            refine v_iadd (pc := 64) h dX6_readAny_64 ?_
            refine v_nmi (fun v34 => ?_)
            refine v_istore_n (pc := 65) h dX6_readAny_65 rfl (by decide) (lv' := [(1, .int v34), (0, .ref mo), (2, .int i2_3), (3, .int r25)]) rfl ?_
            refine v_sub [1, 0, 2, 3] rfl ?_
            exact hk33 v34
        · refine v_aload_n (pc := 66) h dX6_readAny_66 0 rfl rfl ?_
          refine v_iload_n (pc := 67) h dX6_readAny_67 3 rfl rfl ?_
          refine v_jn1 (fun t35 => V g x 4 (0, 0) 78 [(0, .ref mo), (1, .int v1_32), (2, .int i2_3)] [.int t35, .ref mo] I31 r) (fun k36 hk36 => ?_) (fun t35 => ?_)
          · refine v_if_eq (pc := 68) (t := 76) h dX6_readAny_68 rfl (fun _ => ?_) (fun _ => ?_)
            · refine v_bipush (pc := 76) h dX6_readAny_76 (v := 12) rfl ?_
              refine v_sub [0, 1, 2] rfl ?_
              exact hk36 (12 : Int32)
            · refine v_bipush (pc := 71) h dX6_readAny_71 (v := 9) rfl ?_
              refine v_goto (pc := 73) (t := 78) h dX6_readAny_73 rfl ?_
              refine v_sub [0, 1, 2] rfl ?_
              exact hk36 (9 : Int32)
          · refine v_callv (pc := 78) h dX6_readAny_78 kX6_236 rfl hM.1 (tX6_waits hM t35 I31) (by decide) rfl rfl (Nat.le_of_ble_eq_true rfl) rfl (fun I37 => ?_)
            refine v_aload_n (pc := 81) h dX6_readAny_81 0 rfl rfl ?_
            refine v_callv (pc := 82) h dX6_readAny_82 kX6_211 rfl hM.1 (tX6_reads hM I37) (by decide) rfl rfl (Nat.le_of_ble_eq_true rfl) rfl (fun I38 => ?_)
            refine v_goto (pc := 85) (t := 9) h dX6_readAny_85 rfl ?_
            exact hX5 v1_32 i2_3 I38
      · refine v_aload_n (pc := 42) h dX6_readAny_42 0 rfl rfl ?_
        refine v_iconst (pc := 43) h dX6_readAny_43 (v := 3) rfl ?_
        refine v_calli (pc := 44) h dX6_readAny_44 kX6_204 rfl hM.1 (tX6_errs hM (3 : Int32) I4) (by decide) rfl rfl (Nat.le_of_ble_eq_true rfl) rfl (fun r39 I40 => ?_)
        exact v_iret (pc := 47) h hr dX6_readAny_47
set_option maxHeartbeats 4000000 in
theorem tX6_readLaw {g : Gl} {mo : Nat} {r : Rh} (hM : MStr mo r)  (I : MI) : CtI g yX6_readLaw cX6_readLaw 3 (some .int) 8 [.ref mo] I r (pX6_readLaw mo  I) := by
  refine CtI.mk (lv := [(0, .ref mo)]) (by decide) (Nat.le_of_ble_eq_true rfl) rfl (fun x Q h hr => ?_)
  unfold pX6_readLaw
  refine v_iconst (pc := 0) h dX6_readLaw_0 (v := 0) rfl ?_
  refine v_istore_n (pc := 1) h dX6_readLaw_1 rfl (by decide) (lv' := [(1, .int (0 : Int32)), (0, .ref mo)]) rfl ?_
  refine v_sub [1, 0] rfl ?_
  refine L2.run (lv := fun i1_1 I2 => [(0, .ref mo), (1, .int i1_1)]) (st := fun i1_1 I2 => []) (Im := fun i1_1 I2 => I2) (r := fun i1_1 I2 => r) (fun X3 hX3 i1_1 I2 => ?_) (0 : Int32) I
  refine v_aload_n (pc := 2) h dX6_readLaw_2 0 rfl rfl ?_
  refine v_callp (pc := 3) h dX6_readLaw_3 kX6_245 rfl hM.1 (tX6_isLineWord hM I2) (by decide) rfl rfl (Nat.le_of_ble_eq_true rfl) rfl (fun r4 => ?_)
  refine v_if_eq (pc := 6) (t := 128) h dX6_readLaw_6 rfl (fun _ => ?_) (fun _ => ?_)
  · refine v_aload_n (pc := 128) h dX6_readLaw_128 0 rfl rfl ?_
    refine v_geti (pc := 129) h dX6_readLaw_129 fX6_173 rfl hM.1 ?_
    refine v_if_ne (pc := 132) (t := 139) h dX6_readLaw_132 rfl (fun _ => ?_) (fun _ => ?_)
    · refine v_aload_n (pc := 139) h dX6_readLaw_139 0 rfl rfl ?_
      refine v_iconst (pc := 140) h dX6_readLaw_140 (v := 1) rfl ?_
      refine v_calli (pc := 141) h dX6_readLaw_141 kX6_204 rfl hM.1 (tX6_errs hM (1 : Int32) I2) (by decide) rfl rfl (Nat.le_of_ble_eq_true rfl) rfl (fun r5 I6 => ?_)
      exact v_iret (pc := 144) h hr dX6_readLaw_144
    · refine v_iload_n (pc := 135) h dX6_readLaw_135 1 rfl rfl ?_
      refine v_goto (pc := 136) (t := 144) h dX6_readLaw_136 rfl ?_
      exact v_iret (pc := 144) h hr dX6_readLaw_144
  · refine v_iload_n (pc := 9) h dX6_readLaw_9 1 rfl rfl ?_
    refine v_bipush (pc := 10) h dX6_readLaw_10 (v := 16) rfl ?_
    refine v_icmp_ne (pc := 12) (t := 21) h dX6_readLaw_12 rfl (fun _ => ?_) (fun _ => ?_)
    · refine v_bipush (pc := 21) h dX6_readLaw_21 (v := 32) rfl ?_
      refine v_iload_n (pc := 23) h dX6_readLaw_23 1 rfl rfl ?_
      refine v_iadd (pc := 24) h dX6_readLaw_24 ?_
      refine v_nmi (fun v7 => ?_)
      refine v_istore_n (pc := 25) h dX6_readLaw_25 rfl (by decide) (lv' := [(2, .int v7), (0, .ref mo), (1, .int i1_1)]) rfl ?_
      refine v_aload_n (pc := 26) h dX6_readLaw_26 1 rfl rfl ?_
      refine v_getp (pc := 27) h dX6_readLaw_27 fX6_34 rfl hM.1 (mA_17 hM).1 ?_
      refine v_iload_n (pc := 30) h dX6_readLaw_30 0 rfl rfl ?_
      refine v_aload_n (pc := 31) h dX6_readLaw_31 1 rfl rfl ?_
      refine v_geti (pc := 32) h dX6_readLaw_32 fX6_176 rfl hM.1 ?_
      refine v_iast (pc := 35) h dX6_readLaw_35 (mA_17 hM).2.1 (mA_17 hM).2.2 ?_
      refine v_nmI (fun I8 => ?_)
      refine v_aload_n (pc := 36) h dX6_readLaw_36 1 rfl rfl ?_
      refine v_callv (pc := 37) h dX6_readLaw_37 kX6_211 rfl hM.1 (tX6_reads hM I8) (by decide) rfl rfl (Nat.le_of_ble_eq_true rfl) rfl (fun I9 => ?_)
      refine v_aload_n (pc := 40) h dX6_readLaw_40 1 rfl rfl ?_
      refine v_getp (pc := 41) h dX6_readLaw_41 fX6_37 rfl hM.1 (mA_18 hM).1 ?_
      refine v_iload_n (pc := 44) h dX6_readLaw_44 0 rfl rfl ?_
      refine v_aload_n (pc := 45) h dX6_readLaw_45 1 rfl rfl ?_
      refine v_geti (pc := 46) h dX6_readLaw_46 fX6_198 rfl hM.1 ?_
      refine v_iast (pc := 49) h dX6_readLaw_49 (mA_18 hM).2.1 (mA_18 hM).2.2 ?_
      refine v_nmI (fun I10 => ?_)
      refine v_aload_n (pc := 50) h dX6_readLaw_50 1 rfl rfl ?_
      refine v_calli (pc := 51) h dX6_readLaw_51 kX6_224 rfl hM.1 (tX6_readSum hM I10) (by decide) rfl rfl (Nat.le_of_ble_eq_true rfl) rfl (fun r11 I12 => ?_)
      refine v_iconst (pc := 54) h dX6_readLaw_54 (v := (-1)) rfl ?_
      refine v_icmp_ne (pc := 55) (t := 60) h dX6_readLaw_55 rfl (fun _ => ?_) (fun _ => ?_)
      · refine v_aload_n (pc := 60) h dX6_readLaw_60 1 rfl rfl ?_
        refine v_getp (pc := 61) h dX6_readLaw_61 fX6_40 rfl hM.1 (mA_19 hM).1 ?_
        refine v_iload_n (pc := 64) h dX6_readLaw_64 0 rfl rfl ?_
        refine v_aload_n (pc := 65) h dX6_readLaw_65 1 rfl rfl ?_
        refine v_geti (pc := 66) h dX6_readLaw_66 fX6_198 rfl hM.1 ?_
        refine v_iast (pc := 69) h dX6_readLaw_69 (mA_19 hM).2.1 (mA_19 hM).2.2 ?_
        refine v_nmI (fun I13 => ?_)
        refine v_aload_n (pc := 70) h dX6_readLaw_70 1 rfl rfl ?_
        refine v_iconst (pc := 71) h dX6_readLaw_71 (v := 3) rfl ?_
        refine v_callp (pc := 72) h dX6_readLaw_72 kX6_233 rfl hM.1 (tX6_isWord hM (3 : Int32) I13) (by decide) rfl rfl (Nat.le_of_ble_eq_true rfl) rfl (fun r14 => ?_)
        refine v_jn1 (fun I15 => V g x 3 (0, 0) 92 [(0, .ref mo), (1, .int i1_1), (2, .int v7)] [] I15 r) (fun k16 hk16 => ?_) (fun I15 => ?_)
        · refine v_if_eq (pc := 75) (t := 92) h dX6_readLaw_75 rfl (fun _ => ?_) (fun _ => ?_)
          · refine v_sub [1, 2, 0] rfl ?_
            exact hk16 I13
          · refine v_aload_n (pc := 78) h dX6_readLaw_78 1 rfl rfl ?_
            refine v_callv (pc := 79) h dX6_readLaw_79 kX6_211 rfl hM.1 (tX6_reads hM I13) (by decide) rfl rfl (Nat.le_of_ble_eq_true rfl) rfl (fun I17 => ?_)
            refine v_aload_n (pc := 82) h dX6_readLaw_82 1 rfl rfl ?_
            refine v_calli (pc := 83) h dX6_readLaw_83 kX6_249 rfl hM.1 (tX6_readAny hM I17) (by decide) rfl rfl (Nat.le_of_ble_eq_true rfl) rfl (fun r18 I19 => ?_)
            refine v_iconst (pc := 86) h dX6_readLaw_86 (v := (-1)) rfl ?_
            refine v_icmp_ne (pc := 87) (t := 92) h dX6_readLaw_87 rfl (fun _ => ?_) (fun _ => ?_)
            · refine v_sub [1, 2, 0] rfl ?_
              exact hk16 I19
            · refine v_iconst (pc := 90) h dX6_readLaw_90 (v := (-1)) rfl ?_
              exact v_iret (pc := 91) h hr dX6_readLaw_91
        · refine v_aload_n (pc := 92) h dX6_readLaw_92 0 rfl rfl ?_
          refine v_getp (pc := 93) h dX6_readLaw_93 fX6_43 rfl hM.1 (mA_20 hM).1 ?_
          refine v_iload_n (pc := 96) h dX6_readLaw_96 2 rfl rfl ?_
          refine v_aload_n (pc := 97) h dX6_readLaw_97 0 rfl rfl ?_
          refine v_geti (pc := 98) h dX6_readLaw_98 fX6_198 rfl hM.1 ?_
          refine v_iast (pc := 101) h dX6_readLaw_101 (mA_20 hM).2.1 (mA_20 hM).2.2 ?_
          refine v_nmI (fun I20 => ?_)
          refine v_aload_n (pc := 102) h dX6_readLaw_102 0 rfl rfl ?_
          refine v_bipush (pc := 103) h dX6_readLaw_103 (v := 59) rfl ?_
          refine v_callp (pc := 105) h dX6_readLaw_105 kX6_218 rfl hM.1 (tX6_isSign hM (59 : Int32) I20) (by decide) rfl rfl (Nat.le_of_ble_eq_true rfl) rfl (fun r21 => ?_)
          refine v_if_ne (pc := 108) (t := 117) h dX6_readLaw_108 rfl (fun _ => ?_) (fun _ => ?_)
          · refine v_aload_n (pc := 117) h dX6_readLaw_117 0 rfl rfl ?_
            refine v_callv (pc := 118) h dX6_readLaw_118 kX6_211 rfl hM.1 (tX6_reads hM I20) (by decide) rfl rfl (Nat.le_of_ble_eq_true rfl) rfl (fun I22 => ?_)
            refine v_iload_n (pc := 121) h dX6_readLaw_121 1 rfl rfl ?_
            refine v_iconst (pc := 122) h dX6_readLaw_122 (v := 1) rfl ?_
            refine v_iadd (pc := 123) h dX6_readLaw_123 ?_
            refine v_nmi (fun v23 => ?_)
            refine v_istore_n (pc := 124) h dX6_readLaw_124 rfl (by decide) (lv' := [(1, .int v23), (0, .ref mo), (2, .int v7)]) rfl ?_
            refine v_goto (pc := 125) (t := 2) h dX6_readLaw_125 rfl ?_
            refine v_sub [1, 0] rfl ?_
            exact hX3 v23 I22
          · refine v_aload_n (pc := 111) h dX6_readLaw_111 0 rfl rfl ?_
            refine v_iconst (pc := 112) h dX6_readLaw_112 (v := 1) rfl ?_
            refine v_calli (pc := 113) h dX6_readLaw_113 kX6_204 rfl hM.1 (tX6_errs hM (1 : Int32) I20) (by decide) rfl rfl (Nat.le_of_ble_eq_true rfl) rfl (fun r24 I25 => ?_)
            exact v_iret (pc := 116) h hr dX6_readLaw_116
      · refine v_iconst (pc := 58) h dX6_readLaw_58 (v := (-1)) rfl ?_
        exact v_iret (pc := 59) h hr dX6_readLaw_59
    · refine v_aload_n (pc := 15) h dX6_readLaw_15 0 rfl rfl ?_
      refine v_iconst (pc := 16) h dX6_readLaw_16 (v := 3) rfl ?_
      refine v_calli (pc := 17) h dX6_readLaw_17 kX6_204 rfl hM.1 (tX6_errs hM (3 : Int32) I2) (by decide) rfl rfl (Nat.le_of_ble_eq_true rfl) rfl (fun r26 I27 => ?_)
      exact v_iret (pc := 20) h hr dX6_readLaw_20
set_option maxHeartbeats 4000000 in
theorem tX6_readsText {g : Gl} {mo : Nat} {r : Rh} (hM : MStr mo r) (a1 : Int32) (I : MI) : CtI g yX6_readsText cX6_readsText 2 (some .int) 9 [.ref mo, .int a1] I r (pX6_readsText mo a1 I) := by
  refine CtI.mk (lv := [(0, .ref mo), (1, .int a1)]) (by decide) (Nat.le_of_ble_eq_true rfl) rfl (fun x Q h hr => ?_)
  unfold pX6_readsText
  refine v_aload_n (pc := 0) h dX6_readsText_0 0 rfl rfl ?_
  refine v_iconst (pc := 1) h dX6_readsText_1 (v := 0) rfl ?_
  refine v_puti (pc := 2) h dX6_readsText_2 fX6_252 rfl hM.1 ?_
  refine v_nmI (fun I1 => ?_)
  refine v_aload_n (pc := 5) h dX6_readsText_5 0 rfl rfl ?_
  refine v_callv (pc := 6) h dX6_readsText_6 kX6_211 rfl hM.1 (tX6_reads hM I1) (by decide) rfl rfl (Nat.le_of_ble_eq_true rfl) rfl (fun I2 => ?_)
  refine v_iload_n (pc := 9) h dX6_readsText_9 1 rfl rfl ?_
  refine v_iconst (pc := 10) h dX6_readsText_10 (v := 1) rfl ?_
  refine v_icmp_ne (pc := 11) (t := 19) h dX6_readsText_11 rfl (fun _ => ?_) (fun _ => ?_)
  · refine v_iload_n (pc := 19) h dX6_readsText_19 1 rfl rfl ?_
    refine v_iconst (pc := 20) h dX6_readsText_20 (v := 2) rfl ?_
    refine v_icmp_ne (pc := 21) (t := 29) h dX6_readsText_21 rfl (fun _ => ?_) (fun _ => ?_)
    · refine v_iload_n (pc := 29) h dX6_readsText_29 1 rfl rfl ?_
      refine v_iconst (pc := 30) h dX6_readsText_30 (v := 3) rfl ?_
      refine v_icmp_ne (pc := 31) (t := 41) h dX6_readsText_31 rfl (fun _ => ?_) (fun _ => ?_)
      · refine v_aload_n (pc := 41) h dX6_readsText_41 0 rfl rfl ?_
        refine v_calli (pc := 42) h dX6_readsText_42 kX6_282 rfl hM.1 (tX6_readLaw hM I2) (by decide) rfl rfl (Nat.le_of_ble_eq_true rfl) rfl (fun r3 I4 => ?_)
        exact v_iret (pc := 45) h hr dX6_readsText_45
      · refine v_aload_n (pc := 34) h dX6_readsText_34 0 rfl rfl ?_
        refine v_calli (pc := 35) h dX6_readsText_35 kX6_279 rfl hM.1 (tX6_readStreets hM I2) (by decide) rfl rfl (Nat.le_of_ble_eq_true rfl) rfl (fun r5 I6 => ?_)
        refine v_goto (pc := 38) (t := 45) h dX6_readsText_38 rfl ?_
        exact v_iret (pc := 45) h hr dX6_readsText_45
    · refine v_aload_n (pc := 24) h dX6_readsText_24 0 rfl rfl ?_
      refine v_calli (pc := 25) h dX6_readsText_25 kX6_276 rfl hM.1 (tX6_readRound hM I2) (by decide) rfl rfl (Nat.le_of_ble_eq_true rfl) rfl (fun r7 I8 => ?_)
      exact v_iret (pc := 28) h hr dX6_readsText_28
  · refine v_aload_n (pc := 14) h dX6_readsText_14 0 rfl rfl ?_
    refine v_calli (pc := 15) h dX6_readsText_15 kX6_273 rfl hM.1 (tX6_readPost hM I2) (by decide) rfl rfl (Nat.le_of_ble_eq_true rfl) rfl (fun r9 I10 => ?_)
    exact v_iret (pc := 18) h hr dX6_readsText_18
set_option maxHeartbeats 4000000 in
theorem tX6_takesLaw {g : Gl} {mo : Nat} {r : Rh} (hM : MStr mo r) (a1 : Int32) (I : MI) : CtV g yX6_takesLaw cX6_takesLaw 3 0 [.ref mo, .int a1] I r (pX6_takesLaw mo a1 I) := by
  refine CtV.mk (lv := [(0, .ref mo), (1, .int a1)]) (by decide) (Nat.le_of_ble_eq_true rfl) rfl (fun x Q h hr => ?_)
  unfold pX6_takesLaw
  refine v_iconst (pc := 0) h dX6_takesLaw_0 (v := 0) rfl ?_
  refine v_istore_n (pc := 1) h dX6_takesLaw_1 rfl (by decide) (lv' := [(2, .int (0 : Int32)), (0, .ref mo), (1, .int a1)]) rfl ?_
  refine v_sub [1, 2, 0] rfl ?_
  refine L2.run (lv := fun i2_1 I2 => [(0, .ref mo), (1, .int a1), (2, .int i2_1)]) (st := fun i2_1 I2 => []) (Im := fun i2_1 I2 => I2) (r := fun i2_1 I2 => r) (fun X3 hX3 i2_1 I2 => ?_) (0 : Int32) I
  refine v_iload_n (pc := 2) h dX6_takesLaw_2 2 rfl rfl ?_
  refine v_iload_n (pc := 3) h dX6_takesLaw_3 1 rfl rfl ?_
  refine v_icmp_ge (pc := 4) (t := 105) h dX6_takesLaw_4 rfl (fun _ => ?_) (fun _ => ?_)
  · refine v_iconst (pc := 105) h dX6_takesLaw_105 (v := 0) rfl ?_
    refine v_istore_n (pc := 106) h dX6_takesLaw_106 rfl (by decide) (lv' := [(2, .int (0 : Int32)), (0, .ref mo), (1, .int a1)]) rfl ?_
    refine v_sub [1, 2, 0] rfl ?_
    refine L2.run (lv := fun i2_4 I5 => [(0, .ref mo), (1, .int a1), (2, .int i2_4)]) (st := fun i2_4 I5 => []) (Im := fun i2_4 I5 => I5) (r := fun i2_4 I5 => r) (fun X6 hX6 i2_4 I5 => ?_) (0 : Int32) I2
    refine v_iload_n (pc := 107) h dX6_takesLaw_107 2 rfl rfl ?_
    refine v_aload_n (pc := 108) h dX6_takesLaw_108 0 rfl rfl ?_
    refine v_geti (pc := 109) h dX6_takesLaw_109 fX6_198 rfl hM.1 ?_
    refine v_icmp_ge (pc := 112) (t := 171) h dX6_takesLaw_112 rfl (fun _ => ?_) (fun _ => ?_)
    · refine v_aload_n (pc := 171) h dX6_takesLaw_171 0 rfl rfl ?_
      refine v_getp (pc := 172) h dX6_takesLaw_172 fX6_31 rfl hM.1 (mA_16 hM).1 ?_
      refine v_aload_n (pc := 175) h dX6_takesLaw_175 0 rfl rfl ?_
      refine v_geti (pc := 176) h dX6_takesLaw_176 fX6_252 rfl hM.1 ?_
      refine v_iload_n (pc := 179) h dX6_takesLaw_179 1 rfl rfl ?_
      refine v_iast (pc := 180) h dX6_takesLaw_180 (mA_16 hM).2.1 (mA_16 hM).2.2 ?_
      refine v_nmI (fun I7 => ?_)
      exact v_vret (pc := 181) h hr dX6_takesLaw_181
    · refine v_aload_n (pc := 115) h dX6_takesLaw_115 0 rfl rfl ?_
      refine v_getp (pc := 116) h dX6_takesLaw_116 fX6_46 rfl hM.1 (mA_21 hM).1 ?_
      refine v_sipush (pc := 119) h dX6_takesLaw_119 (v := 400) rfl ?_
      refine v_aload_n (pc := 122) h dX6_takesLaw_122 0 rfl rfl ?_
      refine v_geti (pc := 123) h dX6_takesLaw_123 fX6_252 rfl hM.1 ?_
      refine v_imul (pc := 126) h dX6_takesLaw_126 ?_
      refine v_iload_n (pc := 127) h dX6_takesLaw_127 2 rfl rfl ?_
      refine v_iadd (pc := 128) h dX6_takesLaw_128 ?_
      refine v_aload_n (pc := 129) h dX6_takesLaw_129 0 rfl rfl ?_
      refine v_getp (pc := 130) h dX6_takesLaw_130 fX6_46 rfl hM.1 (mA_21 hM).1 ?_
      refine v_sipush (pc := 133) h dX6_takesLaw_133 (v := 800) rfl ?_
      refine v_iload_n (pc := 136) h dX6_takesLaw_136 2 rfl rfl ?_
      refine v_iadd (pc := 137) h dX6_takesLaw_137 ?_
      refine v_iald (pc := 138) h dX6_takesLaw_138 (mA_21 hM).2.1 (mA_21 hM).2.2 ?_
      refine v_iast (pc := 139) h dX6_takesLaw_139 (mA_21 hM).2.1 (mA_21 hM).2.2 ?_
      refine v_nmI (fun I8 => ?_)
      refine v_aload_n (pc := 140) h dX6_takesLaw_140 0 rfl rfl ?_
      refine v_getp (pc := 141) h dX6_takesLaw_141 fX6_49 rfl hM.1 (mA_22 hM).1 ?_
      refine v_sipush (pc := 144) h dX6_takesLaw_144 (v := 400) rfl ?_
      refine v_aload_n (pc := 147) h dX6_takesLaw_147 0 rfl rfl ?_
      refine v_geti (pc := 148) h dX6_takesLaw_148 fX6_252 rfl hM.1 ?_
      refine v_imul (pc := 151) h dX6_takesLaw_151 ?_
      refine v_iload_n (pc := 152) h dX6_takesLaw_152 2 rfl rfl ?_
      refine v_iadd (pc := 153) h dX6_takesLaw_153 ?_
      refine v_aload_n (pc := 154) h dX6_takesLaw_154 0 rfl rfl ?_
      refine v_getp (pc := 155) h dX6_takesLaw_155 fX6_49 rfl hM.1 (mA_22 hM).1 ?_
      refine v_sipush (pc := 158) h dX6_takesLaw_158 (v := 800) rfl ?_
      refine v_iload_n (pc := 161) h dX6_takesLaw_161 2 rfl rfl ?_
      refine v_iadd (pc := 162) h dX6_takesLaw_162 ?_
      refine v_iald (pc := 163) h dX6_takesLaw_163 (mA_22 hM).2.1 (mA_22 hM).2.2 ?_
      refine v_iast (pc := 164) h dX6_takesLaw_164 (mA_22 hM).2.1 (mA_22 hM).2.2 ?_
      refine v_nmI (fun I9 => ?_)
      refine v_iinc (pc := 165) h dX6_takesLaw_165 2 rfl (w := (i2_4 + (1 : Int32))) rfl (by decide) (lv' := [(2, .int (i2_4 + (1 : Int32))), (0, .ref mo), (1, .int a1)]) rfl ?_
      refine v_goto (pc := 168) (t := 107) h dX6_takesLaw_168 rfl ?_
      refine v_sub [1, 2, 0] rfl ?_
      exact hX6 (i2_4 + (1 : Int32)) I9
  · refine v_aload_n (pc := 7) h dX6_takesLaw_7 0 rfl rfl ?_
    refine v_getp (pc := 8) h dX6_takesLaw_8 fX6_34 rfl hM.1 (mA_17 hM).1 ?_
    refine v_bipush (pc := 11) h dX6_takesLaw_11 (v := 16) rfl ?_
    refine v_aload_n (pc := 13) h dX6_takesLaw_13 0 rfl rfl ?_
    refine v_geti (pc := 14) h dX6_takesLaw_14 fX6_252 rfl hM.1 ?_
    refine v_imul (pc := 17) h dX6_takesLaw_17 ?_
    refine v_iload_n (pc := 18) h dX6_takesLaw_18 2 rfl rfl ?_
    refine v_iadd (pc := 19) h dX6_takesLaw_19 ?_
    refine v_aload_n (pc := 20) h dX6_takesLaw_20 0 rfl rfl ?_
    refine v_getp (pc := 21) h dX6_takesLaw_21 fX6_34 rfl hM.1 (mA_17 hM).1 ?_
    refine v_bipush (pc := 24) h dX6_takesLaw_24 (v := 32) rfl ?_
    refine v_iload_n (pc := 26) h dX6_takesLaw_26 2 rfl rfl ?_
    refine v_iadd (pc := 27) h dX6_takesLaw_27 ?_
    refine v_iald (pc := 28) h dX6_takesLaw_28 (mA_17 hM).2.1 (mA_17 hM).2.2 ?_
    refine v_iast (pc := 29) h dX6_takesLaw_29 (mA_17 hM).2.1 (mA_17 hM).2.2 ?_
    refine v_nmI (fun I10 => ?_)
    refine v_aload_n (pc := 30) h dX6_takesLaw_30 0 rfl rfl ?_
    refine v_getp (pc := 31) h dX6_takesLaw_31 fX6_37 rfl hM.1 (mA_18 hM).1 ?_
    refine v_bipush (pc := 34) h dX6_takesLaw_34 (v := 16) rfl ?_
    refine v_aload_n (pc := 36) h dX6_takesLaw_36 0 rfl rfl ?_
    refine v_geti (pc := 37) h dX6_takesLaw_37 fX6_252 rfl hM.1 ?_
    refine v_imul (pc := 40) h dX6_takesLaw_40 ?_
    refine v_iload_n (pc := 41) h dX6_takesLaw_41 2 rfl rfl ?_
    refine v_iadd (pc := 42) h dX6_takesLaw_42 ?_
    refine v_aload_n (pc := 43) h dX6_takesLaw_43 0 rfl rfl ?_
    refine v_getp (pc := 44) h dX6_takesLaw_44 fX6_37 rfl hM.1 (mA_18 hM).1 ?_
    refine v_bipush (pc := 47) h dX6_takesLaw_47 (v := 32) rfl ?_
    refine v_iload_n (pc := 49) h dX6_takesLaw_49 2 rfl rfl ?_
    refine v_iadd (pc := 50) h dX6_takesLaw_50 ?_
    refine v_iald (pc := 51) h dX6_takesLaw_51 (mA_18 hM).2.1 (mA_18 hM).2.2 ?_
    refine v_iast (pc := 52) h dX6_takesLaw_52 (mA_18 hM).2.1 (mA_18 hM).2.2 ?_
    refine v_nmI (fun I11 => ?_)
    refine v_aload_n (pc := 53) h dX6_takesLaw_53 0 rfl rfl ?_
    refine v_getp (pc := 54) h dX6_takesLaw_54 fX6_40 rfl hM.1 (mA_19 hM).1 ?_
    refine v_bipush (pc := 57) h dX6_takesLaw_57 (v := 16) rfl ?_
    refine v_aload_n (pc := 59) h dX6_takesLaw_59 0 rfl rfl ?_
    refine v_geti (pc := 60) h dX6_takesLaw_60 fX6_252 rfl hM.1 ?_
    refine v_imul (pc := 63) h dX6_takesLaw_63 ?_
    refine v_iload_n (pc := 64) h dX6_takesLaw_64 2 rfl rfl ?_
    refine v_iadd (pc := 65) h dX6_takesLaw_65 ?_
    refine v_aload_n (pc := 66) h dX6_takesLaw_66 0 rfl rfl ?_
    refine v_getp (pc := 67) h dX6_takesLaw_67 fX6_40 rfl hM.1 (mA_19 hM).1 ?_
    refine v_bipush (pc := 70) h dX6_takesLaw_70 (v := 32) rfl ?_
    refine v_iload_n (pc := 72) h dX6_takesLaw_72 2 rfl rfl ?_
    refine v_iadd (pc := 73) h dX6_takesLaw_73 ?_
    refine v_iald (pc := 74) h dX6_takesLaw_74 (mA_19 hM).2.1 (mA_19 hM).2.2 ?_
    refine v_iast (pc := 75) h dX6_takesLaw_75 (mA_19 hM).2.1 (mA_19 hM).2.2 ?_
    refine v_nmI (fun I12 => ?_)
    refine v_aload_n (pc := 76) h dX6_takesLaw_76 0 rfl rfl ?_
    refine v_getp (pc := 77) h dX6_takesLaw_77 fX6_43 rfl hM.1 (mA_20 hM).1 ?_
    refine v_bipush (pc := 80) h dX6_takesLaw_80 (v := 16) rfl ?_
    refine v_aload_n (pc := 82) h dX6_takesLaw_82 0 rfl rfl ?_
    refine v_geti (pc := 83) h dX6_takesLaw_83 fX6_252 rfl hM.1 ?_
    refine v_imul (pc := 86) h dX6_takesLaw_86 ?_
    refine v_iload_n (pc := 87) h dX6_takesLaw_87 2 rfl rfl ?_
    refine v_iadd (pc := 88) h dX6_takesLaw_88 ?_
    refine v_aload_n (pc := 89) h dX6_takesLaw_89 0 rfl rfl ?_
    refine v_getp (pc := 90) h dX6_takesLaw_90 fX6_43 rfl hM.1 (mA_20 hM).1 ?_
    refine v_bipush (pc := 93) h dX6_takesLaw_93 (v := 32) rfl ?_
    refine v_iload_n (pc := 95) h dX6_takesLaw_95 2 rfl rfl ?_
    refine v_iadd (pc := 96) h dX6_takesLaw_96 ?_
    refine v_iald (pc := 97) h dX6_takesLaw_97 (mA_20 hM).2.1 (mA_20 hM).2.2 ?_
    refine v_iast (pc := 98) h dX6_takesLaw_98 (mA_20 hM).2.1 (mA_20 hM).2.2 ?_
    refine v_nmI (fun I13 => ?_)
    refine v_iinc (pc := 99) h dX6_takesLaw_99 2 rfl (w := (i2_1 + (1 : Int32))) rfl (by decide) (lv' := [(2, .int (i2_1 + (1 : Int32))), (0, .ref mo), (1, .int a1)]) rfl ?_
    refine v_goto (pc := 102) (t := 2) h dX6_takesLaw_102 rfl ?_
    refine v_sub [1, 2, 0] rfl ?_
    exact hX3 (i2_1 + (1 : Int32)) I13
set_option maxHeartbeats 4000000 in
theorem tX6_takesOther {g : Gl} {mo : Nat} {r : Rh} (hM : MStr mo r) (a1 : Int32) (a2 : Int32) (I : MI) : CtV g yX6_takesOther cX6_takesOther 4 0 [.ref mo, .int a1, .int a2] I r (pX6_takesOther mo a1 a2 I) := by
  refine CtV.mk (lv := [(0, .ref mo), (1, .int a1), (2, .int a2)]) (by decide) (Nat.le_of_ble_eq_true rfl) rfl (fun x Q h hr => ?_)
  unfold pX6_takesOther
  refine v_iload_n (pc := 0) h dX6_takesOther_0 1 rfl rfl ?_
  refine v_iconst (pc := 1) h dX6_takesOther_1 (v := 3) rfl ?_
  refine v_icmp_ne (pc := 2) (t := 42) h dX6_takesOther_2 rfl (fun _ => ?_) (fun _ => ?_)
  · refine v_iload_n (pc := 42) h dX6_takesOther_42 1 rfl rfl ?_
    refine v_iconst (pc := 43) h dX6_takesOther_43 (v := 1) rfl ?_
    refine v_jn1 (fun I1 => V g x 4 (0, 0) 118 [(0, .ref mo)] [] I1 r) (fun k2 hk2 => ?_) (fun I1 => ?_)
    · refine v_icmp_ne (pc := 44) (t := 85) h dX6_takesOther_44 rfl (fun _ => ?_) (fun _ => ?_)
      · refine v_iconst (pc := 85) h dX6_takesOther_85 (v := 0) rfl ?_
        refine v_istore_n (pc := 86) h dX6_takesOther_86 rfl (by decide) (lv' := [(3, .int (0 : Int32)), (0, .ref mo), (1, .int a1), (2, .int a2)]) rfl ?_
        refine v_sub [1, 3, 0] rfl ?_
        refine L2.run (lv := fun i3_3 I4 => [(0, .ref mo), (2, .int a2), (3, .int i3_3)]) (st := fun i3_3 I4 => []) (Im := fun i3_3 I4 => I4) (r := fun i3_3 I4 => r) (fun X5 hX5 i3_3 I4 => ?_) (0 : Int32) I
        refine v_iload_n (pc := 87) h dX6_takesOther_87 2 rfl rfl ?_
        refine v_iload_n (pc := 88) h dX6_takesOther_88 1 rfl rfl ?_
        refine v_icmp_ge (pc := 89) (t := 113) h dX6_takesOther_89 rfl (fun _ => ?_) (fun _ => ?_)
        · refine v_aload_n (pc := 113) h dX6_takesOther_113 0 rfl rfl ?_
          refine v_iload_n (pc := 114) h dX6_takesOther_114 1 rfl rfl ?_
          refine v_puti (pc := 115) h dX6_takesOther_115 fX6_291 rfl hM.1 ?_
          refine v_nmI (fun I6 => ?_)
          refine v_sub [0] rfl ?_
          exact hk2 I6
        · refine v_aload_n (pc := 92) h dX6_takesOther_92 0 rfl rfl ?_
          refine v_getp (pc := 93) h dX6_takesOther_93 fX6_62 rfl hM.1 (mA_35 hM).1 ?_
          refine v_iload_n (pc := 96) h dX6_takesOther_96 2 rfl rfl ?_
          refine v_aload_n (pc := 97) h dX6_takesOther_97 0 rfl rfl ?_
          refine v_getp (pc := 98) h dX6_takesOther_98 fX6_62 rfl hM.1 (mA_35 hM).1 ?_
          refine v_bipush (pc := 101) h dX6_takesOther_101 (v := 16) rfl ?_
          refine v_iload_n (pc := 103) h dX6_takesOther_103 2 rfl rfl ?_
          refine v_iadd (pc := 104) h dX6_takesOther_104 ?_
          refine v_iald (pc := 105) h dX6_takesOther_105 (mA_35 hM).2.1 (mA_35 hM).2.2 ?_
          refine v_iast (pc := 106) h dX6_takesOther_106 (mA_35 hM).2.1 (mA_35 hM).2.2 ?_
          refine v_nmI (fun I7 => ?_)
          refine v_iinc (pc := 107) h dX6_takesOther_107 2 rfl (w := (i3_3 + (1 : Int32))) rfl (by decide) (lv' := [(3, .int (i3_3 + (1 : Int32))), (0, .ref mo), (2, .int a2)]) rfl ?_
          refine v_goto (pc := 110) (t := 87) h dX6_takesOther_110 rfl ?_
          refine v_sub [1, 2, 0] rfl ?_
          exact hX5 (i3_3 + (1 : Int32)) I7
      · refine v_iconst (pc := 47) h dX6_takesOther_47 (v := 0) rfl ?_
        refine v_istore_n (pc := 48) h dX6_takesOther_48 rfl (by decide) (lv' := [(3, .int (0 : Int32)), (0, .ref mo), (1, .int a1), (2, .int a2)]) rfl ?_
        refine v_sub [1, 3, 0] rfl ?_
        refine L2.run (lv := fun i3_8 I9 => [(0, .ref mo), (2, .int a2), (3, .int i3_8)]) (st := fun i3_8 I9 => []) (Im := fun i3_8 I9 => I9) (r := fun i3_8 I9 => r) (fun X10 hX10 i3_8 I9 => ?_) (0 : Int32) I
        refine v_iload_n (pc := 49) h dX6_takesOther_49 2 rfl rfl ?_
        refine v_iconst (pc := 50) h dX6_takesOther_50 (v := 4) rfl ?_
        refine v_iload_n (pc := 51) h dX6_takesOther_51 1 rfl rfl ?_
        refine v_imul (pc := 52) h dX6_takesOther_52 ?_
        refine v_icmp_ge (pc := 53) (t := 77) h dX6_takesOther_53 rfl (fun _ => ?_) (fun _ => ?_)
        · refine v_aload_n (pc := 77) h dX6_takesOther_77 0 rfl rfl ?_
          refine v_iload_n (pc := 78) h dX6_takesOther_78 1 rfl rfl ?_
          refine v_puti (pc := 79) h dX6_takesOther_79 fX6_288 rfl hM.1 ?_
          refine v_nmI (fun I11 => ?_)
          refine v_goto (pc := 82) (t := 118) h dX6_takesOther_82 rfl ?_
          refine v_sub [0] rfl ?_
          exact hk2 I11
        · refine v_aload_n (pc := 56) h dX6_takesOther_56 0 rfl rfl ?_
          refine v_getp (pc := 57) h dX6_takesOther_57 fX6_59 rfl hM.1 (mA_33 hM).1 ?_
          refine v_iload_n (pc := 60) h dX6_takesOther_60 2 rfl rfl ?_
          refine v_aload_n (pc := 61) h dX6_takesOther_61 0 rfl rfl ?_
          refine v_getp (pc := 62) h dX6_takesOther_62 fX6_59 rfl hM.1 (mA_33 hM).1 ?_
          refine v_bipush (pc := 65) h dX6_takesOther_65 (v := 64) rfl ?_
          refine v_iload_n (pc := 67) h dX6_takesOther_67 2 rfl rfl ?_
          refine v_iadd (pc := 68) h dX6_takesOther_68 ?_
          refine v_iald (pc := 69) h dX6_takesOther_69 (mA_33 hM).2.1 (mA_33 hM).2.2 ?_
          refine v_iast (pc := 70) h dX6_takesOther_70 (mA_33 hM).2.1 (mA_33 hM).2.2 ?_
          refine v_nmI (fun I12 => ?_)
          refine v_iinc (pc := 71) h dX6_takesOther_71 2 rfl (w := (i3_8 + (1 : Int32))) rfl (by decide) (lv' := [(3, .int (i3_8 + (1 : Int32))), (0, .ref mo), (2, .int a2)]) rfl ?_
          refine v_goto (pc := 74) (t := 49) h dX6_takesOther_74 rfl ?_
          refine v_sub [1, 2, 0] rfl ?_
          exact hX10 (i3_8 + (1 : Int32)) I12
    · refine v_aload_n (pc := 118) h dX6_takesOther_118 0 rfl rfl ?_
      refine v_iconst (pc := 119) h dX6_takesOther_119 (v := 0) rfl ?_
      refine v_puti (pc := 120) h dX6_takesOther_120 fX6_120 rfl hM.1 ?_
      refine v_nmI (fun I13 => ?_)
      exact v_vret (pc := 123) h hr dX6_takesOther_123
  · refine v_iconst (pc := 5) h dX6_takesOther_5 (v := 0) rfl ?_
    refine v_istore_n (pc := 6) h dX6_takesOther_6 rfl (by decide) (lv' := [(3, .int (0 : Int32)), (0, .ref mo), (1, .int a1), (2, .int a2)]) rfl ?_
    refine v_sub [1, 3, 0] rfl ?_
    refine L2.run (lv := fun i3_14 I15 => [(0, .ref mo), (2, .int a2), (3, .int i3_14)]) (st := fun i3_14 I15 => []) (Im := fun i3_14 I15 => I15) (r := fun i3_14 I15 => r) (fun X16 hX16 i3_14 I15 => ?_) (0 : Int32) I
    refine v_iload_n (pc := 7) h dX6_takesOther_7 2 rfl rfl ?_
    refine v_sipush (pc := 8) h dX6_takesOther_8 (v := 144) rfl ?_
    refine v_icmp_ge (pc := 11) (t := 36) h dX6_takesOther_11 rfl (fun _ => ?_) (fun _ => ?_)
    · refine v_aload_n (pc := 36) h dX6_takesOther_36 0 rfl rfl ?_
      refine v_iload_n (pc := 37) h dX6_takesOther_37 1 rfl rfl ?_
      refine v_puti (pc := 38) h dX6_takesOther_38 fX6_285 rfl hM.1 ?_
      refine v_nmI (fun I17 => ?_)
      exact v_vret (pc := 41) h hr dX6_takesOther_41
    · refine v_aload_n (pc := 14) h dX6_takesOther_14 0 rfl rfl ?_
      refine v_getp (pc := 15) h dX6_takesOther_15 fX6_65 rfl hM.1 (mA_37 hM).1 ?_
      refine v_iload_n (pc := 18) h dX6_takesOther_18 2 rfl rfl ?_
      refine v_aload_n (pc := 19) h dX6_takesOther_19 0 rfl rfl ?_
      refine v_getp (pc := 20) h dX6_takesOther_20 fX6_65 rfl hM.1 (mA_37 hM).1 ?_
      refine v_sipush (pc := 23) h dX6_takesOther_23 (v := 144) rfl ?_
      refine v_iload_n (pc := 26) h dX6_takesOther_26 2 rfl rfl ?_
      refine v_iadd (pc := 27) h dX6_takesOther_27 ?_
      refine v_iald (pc := 28) h dX6_takesOther_28 (mA_37 hM).2.1 (mA_37 hM).2.2 ?_
      refine v_iast (pc := 29) h dX6_takesOther_29 (mA_37 hM).2.1 (mA_37 hM).2.2 ?_
      refine v_nmI (fun I18 => ?_)
      refine v_iinc (pc := 30) h dX6_takesOther_30 2 rfl (w := (i3_14 + (1 : Int32))) rfl (by decide) (lv' := [(3, .int (i3_14 + (1 : Int32))), (0, .ref mo), (2, .int a2)]) rfl ?_
      refine v_goto (pc := 33) (t := 7) h dX6_takesOther_33 rfl ?_
      refine v_sub [1, 2, 0] rfl ?_
      exact hX16 (i3_14 + (1 : Int32)) I18
set_option maxHeartbeats 4000000 in
theorem tX6_text {g : Gl} {mo : Nat} {r : Rh} (hM : MStr mo r) (a1 : Int32) (I : MI) : CtI g yX6_text cX6_text 3 (some .int) 10 [.ref mo, .int a1] I r (pX6_text mo a1 I) := by
  refine CtI.mk (lv := [(0, .ref mo), (1, .int a1)]) (by decide) (Nat.le_of_ble_eq_true rfl) rfl (fun x Q h hr => ?_)
  unfold pX6_text
  refine v_aload_n (pc := 0) h dX6_text_0 0 rfl rfl ?_
  refine v_iconst (pc := 1) h dX6_text_1 (v := 0) rfl ?_
  refine v_puti (pc := 2) h dX6_text_2 fX6_116 rfl hM.1 ?_
  refine v_nmI (fun I1 => ?_)
  refine v_aload_n (pc := 5) h dX6_text_5 0 rfl rfl ?_
  refine v_iconst (pc := 6) h dX6_text_6 (v := 0) rfl ?_
  refine v_puti (pc := 7) h dX6_text_7 fX6_294 rfl hM.1 ?_
  refine v_nmI (fun I2 => ?_)
  refine v_aload_n (pc := 10) h dX6_text_10 0 rfl rfl ?_
  refine v_iconst (pc := 11) h dX6_text_11 (v := (-1)) rfl ?_
  refine v_puti (pc := 12) h dX6_text_12 fX6_55 rfl hM.1 ?_
  refine v_nmI (fun I3 => ?_)
  refine v_aload_n (pc := 15) h dX6_text_15 0 rfl rfl ?_
  refine v_iconst (pc := 16) h dX6_text_16 (v := 0) rfl ?_
  refine v_puti (pc := 17) h dX6_text_17 fX6_164 rfl hM.1 ?_
  refine v_nmI (fun I4 => ?_)
  refine v_aload_n (pc := 20) h dX6_text_20 0 rfl rfl ?_
  refine v_iconst (pc := 21) h dX6_text_21 (v := 0) rfl ?_
  refine v_puti (pc := 22) h dX6_text_22 fX6_198 rfl hM.1 ?_
  refine v_nmI (fun I5 => ?_)
  refine v_aload_n (pc := 25) h dX6_text_25 0 rfl rfl ?_
  refine v_iconst (pc := 26) h dX6_text_26 (v := 0) rfl ?_
  refine v_puti (pc := 27) h dX6_text_27 fX6_230 rfl hM.1 ?_
  refine v_nmI (fun I6 => ?_)
  refine v_iconst (pc := 30) h dX6_text_30 (v := (-1)) rfl ?_
  refine v_istore_n (pc := 31) h dX6_text_31 rfl (by decide) (lv' := [(2, .int (-1 : Int32)), (0, .ref mo), (1, .int a1)]) rfl ?_
  refine v_aload_n (pc := 32) h dX6_text_32 1 rfl rfl ?_
  refine v_iload_n (pc := 33) h dX6_text_33 2 rfl rfl ?_
  refine v_iconst (pc := 34) h dX6_text_34 (v := 0) rfl ?_
  refine v_iconst (pc := 35) h dX6_text_35 (v := 3) rfl ?_
  refine v_callp (pc := 36) h dX6_text_36 kX6_143 rfl hM.1 (tX6_isIn hM a1 (0 : Int32) (3 : Int32) I6) (by decide) rfl rfl (Nat.le_of_ble_eq_true rfl) rfl (fun r7 => ?_)
  refine v_jn2 (fun v2_8 I9 => V g x 3 (0, 0) 69 [(0, .ref mo), (1, .int a1), (2, .int v2_8)] [] I9 r) (fun k10 hk10 => ?_) (fun v2_8 I9 => ?_)
  · refine v_if_eq (pc := 39) (t := 69) h dX6_text_39 rfl (fun _ => ?_) (fun _ => ?_)
    · refine v_sub [1, 2, 0] rfl ?_
      exact hk10 (-1 : Int32) I6
    · refine v_aload_n (pc := 42) h dX6_text_42 1 rfl rfl ?_
      refine v_iload_n (pc := 43) h dX6_text_43 2 rfl rfl ?_
      refine v_calli (pc := 44) h dX6_text_44 kX6_297 rfl hM.1 (tX6_readsText hM a1 I6) (by decide) rfl rfl (Nat.le_of_ble_eq_true rfl) rfl (fun r11 I12 => ?_)
      refine v_istore_n (pc := 47) h dX6_text_47 rfl (by decide) (lv' := [(2, .int r11), (0, .ref mo), (1, .int a1)]) rfl ?_
      refine v_iload_n (pc := 48) h dX6_text_48 0 rfl rfl ?_
      refine v_iconst (pc := 49) h dX6_text_49 (v := (-1)) rfl ?_
      refine v_icmp_ne (pc := 50) (t := 69) h dX6_text_50 rfl (fun _ => ?_) (fun _ => ?_)
      · refine v_sub [1, 2, 0] rfl ?_
        exact hk10 r11 I12
      · refine v_aload_n (pc := 53) h dX6_text_53 1 rfl rfl ?_
        refine v_aload_n (pc := 54) h dX6_text_54 1 rfl rfl ?_
        refine v_geti (pc := 55) h dX6_text_55 fX6_192 rfl hM.1 ?_
        refine v_puti (pc := 58) h dX6_text_58 fX6_294 rfl hM.1 ?_
        refine v_nmI (fun I13 => ?_)
        refine v_aload_n (pc := 61) h dX6_text_61 1 rfl rfl ?_
        refine v_aload_n (pc := 62) h dX6_text_62 1 rfl rfl ?_
        refine v_geti (pc := 63) h dX6_text_63 fX6_195 rfl hM.1 ?_
        refine v_puti (pc := 66) h dX6_text_66 fX6_55 rfl hM.1 ?_
        refine v_nmI (fun I14 => ?_)
        refine v_sub [1, 2, 0] rfl ?_
        exact hk10 r11 I14
  · refine v_aload_n (pc := 69) h dX6_text_69 0 rfl rfl ?_
    refine v_iconst (pc := 70) h dX6_text_70 (v := 0) rfl ?_
    refine v_puti (pc := 71) h dX6_text_71 fX6_158 rfl hM.1 ?_
    refine v_nmI (fun I15 => ?_)
    refine v_iload_n (pc := 74) h dX6_text_74 2 rfl rfl ?_
    refine v_iconst (pc := 75) h dX6_text_75 (v := (-1)) rfl ?_
    refine v_icmp_ne (pc := 76) (t := 81) h dX6_text_76 rfl (fun _ => ?_) (fun _ => ?_)
    · refine v_iload_n (pc := 81) h dX6_text_81 1 rfl rfl ?_
      refine v_jn1 (fun I16 => V g x 3 (0, 0) 99 [(2, .int v2_8)] [] I16 r) (fun k17 hk17 => ?_) (fun I16 => ?_)
      · refine v_if_ne (pc := 82) (t := 93) h dX6_text_82 rfl (fun _ => ?_) (fun _ => ?_)
        · refine v_aload_n (pc := 93) h dX6_text_93 0 rfl rfl ?_
          refine v_iload_n (pc := 94) h dX6_text_94 1 rfl rfl ?_
          refine v_iload_n (pc := 95) h dX6_text_95 2 rfl rfl ?_
          refine v_callv (pc := 96) h dX6_text_96 kX6_303 rfl hM.1 (tX6_takesOther hM a1 v2_8 I15) (by decide) rfl rfl (Nat.le_of_ble_eq_true rfl) rfl (fun I18 => ?_)
          refine v_sub [2] rfl ?_
          exact hk17 I18
        · refine v_aload_n (pc := 85) h dX6_text_85 0 rfl rfl ?_
          refine v_iload_n (pc := 86) h dX6_text_86 2 rfl rfl ?_
          refine v_callv (pc := 87) h dX6_text_87 kX6_300 rfl hM.1 (tX6_takesLaw hM v2_8 I15) (by decide) rfl rfl (Nat.le_of_ble_eq_true rfl) rfl (fun I19 => ?_)
          refine v_goto (pc := 90) (t := 99) h dX6_text_90 rfl ?_
          refine v_sub [2] rfl ?_
          exact hk17 I19
      · refine v_iload_n (pc := 99) h dX6_text_99 0 rfl rfl ?_
        exact v_iret (pc := 100) h hr dX6_text_100
    · refine v_iconst (pc := 79) h dX6_text_79 (v := (-1)) rfl ?_
      exact v_iret (pc := 80) h hr dX6_text_80
