/-! the reference: the walks -/
set_option maxRecDepth 100000
set_option maxHeartbeats 4000000 in
theorem tX6_fault {g : Gl} {mo : Nat} {r : Rh} (hM : MStr mo r) (a1 : Int32) (I : MI) : CtI g yX6_fault cX6_fault 2 (some .int) 0 [.ref mo, .int a1] I r (pX6_fault mo a1 I) := by
  refine CtI.mk (lv := [(0, .ref mo), (1, .int a1)]) (by decide) (Nat.le_of_ble_eq_true rfl) rfl (fun x Q h hr => ?_)
  unfold pX6_fault
  refine v_aload_n (pc := 0) h dX6_fault_0 0 rfl rfl ?_
  refine v_iconst (pc := 1) h dX6_fault_1 (v := 0) rfl ?_
  refine v_puti (pc := 2) h dX6_fault_2 fX6_116 rfl hM.1 ?_
  refine v_nmI (fun I1 => ?_)
  refine v_iload_n (pc := 5) h dX6_fault_5 1 rfl rfl ?_
  refine v_if_ne (pc := 6) (t := 16) h dX6_fault_6 rfl (fun _ => ?_) (fun _ => ?_)
  · refine v_iload_n (pc := 16) h dX6_fault_16 1 rfl rfl ?_
    refine v_iconst (pc := 17) h dX6_fault_17 (v := 1) rfl ?_
    refine v_icmp_ne (pc := 18) (t := 28) h dX6_fault_18 rfl (fun _ => ?_) (fun _ => ?_)
    · refine v_iconst (pc := 28) h dX6_fault_28 (v := (-1)) rfl ?_
      exact v_iret (pc := 29) h hr dX6_fault_29
    · refine v_aload_n (pc := 21) h dX6_fault_21 0 rfl rfl ?_
      refine v_geti (pc := 22) h dX6_fault_22 fX6_55 rfl hM.1 ?_
      refine v_goto (pc := 25) (t := 29) h dX6_fault_25 rfl ?_
      exact v_iret (pc := 29) h hr dX6_fault_29
  · refine v_aload_n (pc := 9) h dX6_fault_9 0 rfl rfl ?_
    refine v_geti (pc := 10) h dX6_fault_10 fX6_294 rfl hM.1 ?_
    refine v_goto (pc := 13) (t := 29) h dX6_fault_13 rfl ?_
    exact v_iret (pc := 29) h hr dX6_fault_29
set_option maxHeartbeats 4000000 in
theorem tX6_keepsAhead {g : Gl} {mo : Nat} {r : Rh} (hM : MStr mo r)  (I : MI) : CtV g yX6_keepsAhead cX6_keepsAhead 2 0 [.ref mo] I r (pX6_keepsAhead mo  I) := by
  refine CtV.mk (lv := [(0, .ref mo)]) (by decide) (Nat.le_of_ble_eq_true rfl) rfl (fun x Q h hr => ?_)
  unfold pX6_keepsAhead
  refine v_aload_n (pc := 0) h dX6_keepsAhead_0 0 rfl rfl ?_
  refine v_geti (pc := 1) h dX6_keepsAhead_1 fX6_120 rfl hM.1 ?_
  refine v_bipush (pc := 4) h dX6_keepsAhead_4 (v := 6) rfl ?_
  refine v_jn1 (fun I1 => V g x 2 (0, 0) 55 [(0, .ref mo)] [] I1 r) (fun k2 hk2 => ?_) (fun I1 => ?_)
  · refine v_icmp_ne (pc := 6) (t := 55) h dX6_keepsAhead_6 rfl (fun _ => ?_) (fun _ => ?_)
    · exact hk2 I
    · refine v_aload_n (pc := 9) h dX6_keepsAhead_9 0 rfl rfl ?_
      refine v_aload_n (pc := 10) h dX6_keepsAhead_10 0 rfl rfl ?_
      refine v_geti (pc := 11) h dX6_keepsAhead_11 fX6_120 rfl hM.1 ?_
      refine v_iconst (pc := 14) h dX6_keepsAhead_14 (v := 1) rfl ?_
      refine v_isub (pc := 15) h dX6_keepsAhead_15 ?_
      refine v_puti (pc := 16) h dX6_keepsAhead_16 fX6_120 rfl hM.1 ?_
      refine v_nmI (fun I3 => ?_)
      refine v_iconst (pc := 19) h dX6_keepsAhead_19 (v := 0) rfl ?_
      refine v_istore_n (pc := 20) h dX6_keepsAhead_20 rfl (by decide) (lv' := [(1, .int (0 : Int32)), (0, .ref mo)]) rfl ?_
      refine v_sub [1, 0] rfl ?_
      refine L2.run (lv := fun i1_4 I5 => [(0, .ref mo), (1, .int i1_4)]) (st := fun i1_4 I5 => []) (Im := fun i1_4 I5 => I5) (r := fun i1_4 I5 => r) (fun X6 hX6 i1_4 I5 => ?_) (0 : Int32) I3
      refine v_iload_n (pc := 21) h dX6_keepsAhead_21 1 rfl rfl ?_
      refine v_sipush (pc := 22) h dX6_keepsAhead_22 (v := 174) rfl ?_
      refine v_aload_n (pc := 25) h dX6_keepsAhead_25 0 rfl rfl ?_
      refine v_geti (pc := 26) h dX6_keepsAhead_26 fX6_120 rfl hM.1 ?_
      refine v_imul (pc := 29) h dX6_keepsAhead_29 ?_
      refine v_icmp_ge (pc := 30) (t := 55) h dX6_keepsAhead_30 rfl (fun _ => ?_) (fun _ => ?_)
      · refine v_sub [0] rfl ?_
        exact hk2 I5
      · refine v_aload_n (pc := 33) h dX6_keepsAhead_33 0 rfl rfl ?_
        refine v_getp (pc := 34) h dX6_keepsAhead_34 fX6_13 rfl hM.1 (mA_2 hM).1 ?_
        refine v_iload_n (pc := 37) h dX6_keepsAhead_37 1 rfl rfl ?_
        refine v_aload_n (pc := 38) h dX6_keepsAhead_38 0 rfl rfl ?_
        refine v_getp (pc := 39) h dX6_keepsAhead_39 fX6_13 rfl hM.1 (mA_2 hM).1 ?_
        refine v_iload_n (pc := 42) h dX6_keepsAhead_42 1 rfl rfl ?_
        refine v_sipush (pc := 43) h dX6_keepsAhead_43 (v := 174) rfl ?_
        refine v_iadd (pc := 46) h dX6_keepsAhead_46 ?_
        refine v_iald (pc := 47) h dX6_keepsAhead_47 (mA_2 hM).2.1 (mA_2 hM).2.2 ?_
        refine v_iast (pc := 48) h dX6_keepsAhead_48 (mA_2 hM).2.1 (mA_2 hM).2.2 ?_
        refine v_nmI (fun I7 => ?_)
        refine v_iinc (pc := 49) h dX6_keepsAhead_49 1 rfl (w := (i1_4 + (1 : Int32))) rfl (by decide) (lv' := [(1, .int (i1_4 + (1 : Int32))), (0, .ref mo)]) rfl ?_
        refine v_goto (pc := 52) (t := 21) h dX6_keepsAhead_52 rfl ?_
        refine v_sub [1, 0] rfl ?_
        exact hX6 (i1_4 + (1 : Int32)) I7
  · refine v_iconst (pc := 55) h dX6_keepsAhead_55 (v := 0) rfl ?_
    refine v_istore_n (pc := 56) h dX6_keepsAhead_56 rfl (by decide) (lv' := [(1, .int (0 : Int32)), (0, .ref mo)]) rfl ?_
    refine v_sub [1, 0] rfl ?_
    refine L2.run (lv := fun i1_8 I9 => [(0, .ref mo), (1, .int i1_8)]) (st := fun i1_8 I9 => []) (Im := fun i1_8 I9 => I9) (r := fun i1_8 I9 => r) (fun X10 hX10 i1_8 I9 => ?_) (0 : Int32) I1
    refine v_iload_n (pc := 57) h dX6_keepsAhead_57 1 rfl rfl ?_
    refine v_sipush (pc := 58) h dX6_keepsAhead_58 (v := 174) rfl ?_
    refine v_icmp_ge (pc := 61) (t := 91) h dX6_keepsAhead_61 rfl (fun _ => ?_) (fun _ => ?_)
    · refine v_aload_n (pc := 91) h dX6_keepsAhead_91 0 rfl rfl ?_
      refine v_aload_n (pc := 92) h dX6_keepsAhead_92 0 rfl rfl ?_
      refine v_geti (pc := 93) h dX6_keepsAhead_93 fX6_120 rfl hM.1 ?_
      refine v_iconst (pc := 96) h dX6_keepsAhead_96 (v := 1) rfl ?_
      refine v_iadd (pc := 97) h dX6_keepsAhead_97 ?_
      refine v_puti (pc := 98) h dX6_keepsAhead_98 fX6_120 rfl hM.1 ?_
      refine v_nmI (fun I11 => ?_)
      exact v_vret (pc := 101) h hr dX6_keepsAhead_101
    · refine v_aload_n (pc := 64) h dX6_keepsAhead_64 0 rfl rfl ?_
      refine v_getp (pc := 65) h dX6_keepsAhead_65 fX6_13 rfl hM.1 (mA_2 hM).1 ?_
      refine v_sipush (pc := 68) h dX6_keepsAhead_68 (v := 174) rfl ?_
      refine v_aload_n (pc := 71) h dX6_keepsAhead_71 0 rfl rfl ?_
      refine v_geti (pc := 72) h dX6_keepsAhead_72 fX6_120 rfl hM.1 ?_
      refine v_imul (pc := 75) h dX6_keepsAhead_75 ?_
      refine v_iload_n (pc := 76) h dX6_keepsAhead_76 1 rfl rfl ?_
      refine v_iadd (pc := 77) h dX6_keepsAhead_77 ?_
      refine v_aload_n (pc := 78) h dX6_keepsAhead_78 0 rfl rfl ?_
      refine v_getp (pc := 79) h dX6_keepsAhead_79 fX6_7 rfl hM.1 (mA_1 hM).1 ?_
      refine v_iload_n (pc := 82) h dX6_keepsAhead_82 1 rfl rfl ?_
      refine v_iald (pc := 83) h dX6_keepsAhead_83 (mA_1 hM).2.1 (mA_1 hM).2.2 ?_
      refine v_iast (pc := 84) h dX6_keepsAhead_84 (mA_2 hM).2.1 (mA_2 hM).2.2 ?_
      refine v_nmI (fun I12 => ?_)
      refine v_iinc (pc := 85) h dX6_keepsAhead_85 1 rfl (w := (i1_8 + (1 : Int32))) rfl (by decide) (lv' := [(1, .int (i1_8 + (1 : Int32))), (0, .ref mo)]) rfl ?_
      refine v_goto (pc := 88) (t := 57) h dX6_keepsAhead_88 rfl ?_
      refine v_sub [1, 0] rfl ?_
      exact hX10 (i1_8 + (1 : Int32)) I12
set_option maxHeartbeats 4000000 in
theorem tX6_letterAt {g : Gl} {mo : Nat} {r : Rh} (hM : MStr mo r) (a1 : Int32) (I : MI) : CtP g yX6_letterAt cX6_letterAt 2 (some .int) 0 [.ref mo, .int a1] I r (pX6_letterAt mo a1 I) := by
  refine CtP.mk (lv := [(0, .ref mo), (1, .int a1)]) (by decide) (Nat.le_of_ble_eq_true rfl) rfl (fun x Q h hr => ?_)
  unfold pX6_letterAt
  refine v_bipush (pc := 0) h dX6_letterAt_0 (v := 54) rfl ?_
  refine v_iconst (pc := 2) h dX6_letterAt_2 (v := 5) rfl ?_
  refine v_iload_n (pc := 3) h dX6_letterAt_3 1 rfl rfl ?_
  refine v_imul (pc := 4) h dX6_letterAt_4 ?_
  refine v_iadd (pc := 5) h dX6_letterAt_5 ?_
  exact v_iretP (pc := 6) h hr dX6_letterAt_6
set_option maxHeartbeats 4000000 in
theorem tX6_notes {g : Gl} {mo : Nat} {r : Rh} (hM : MStr mo r) (a1 : Int32) (a2 : Int32) (a3 : Int32) (I : MI) : CtV g yX6_notes cX6_notes 5 0 [.ref mo, .int a1, .int a2, .int a3] I r (pX6_notes mo a1 a2 a3 I) := by
  refine CtV.mk (lv := [(0, .ref mo), (1, .int a1), (2, .int a2), (3, .int a3)]) (by decide) (Nat.le_of_ble_eq_true rfl) rfl (fun x Q h hr => ?_)
  unfold pX6_notes
  refine v_aload_n (pc := 0) h dX6_notes_0 0 rfl rfl ?_
  refine v_geti (pc := 1) h dX6_notes_1 fX6_123 rfl hM.1 ?_
  refine v_if_ne (pc := 4) (t := 19) h dX6_notes_4 rfl (fun _ => ?_) (fun _ => ?_)
  · exact v_vret (pc := 19) h hr dX6_notes_19
  · refine v_aload_n (pc := 7) h dX6_notes_7 0 rfl rfl ?_
    refine v_getp (pc := 8) h dX6_notes_8 fX6_7 rfl hM.1 (mA_1 hM).1 ?_
    refine v_iconst (pc := 11) h dX6_notes_11 (v := 2) rfl ?_
    refine v_ialdL (pc := 12) h dX6_notes_12 (mA_1 hM).2.1 (mA_1 hM).2.2 (vpd rfl) (k := 2) rfl ?_
    refine v_sipush (pc := 13) h dX6_notes_13 (v := 150) rfl ?_
    refine v_icmp_ne (pc := 16) (t := 20) h dX6_notes_16 rfl (fun _ => ?_) (fun _ => ?_)
    · refine v_iconst (pc := 20) h dX6_notes_20 (v := 4) rfl ?_
      refine v_aload_n (pc := 21) h dX6_notes_21 0 rfl rfl ?_
      refine v_getp (pc := 22) h dX6_notes_22 fX6_7 rfl hM.1 (mA_1 hM).1 ?_
      refine v_iconst (pc := 25) h dX6_notes_25 (v := 2) rfl ?_
      refine v_ialdL (pc := 26) h dX6_notes_26 (mA_1 hM).2.1 (mA_1 hM).2.2 (vpd rfl) (k := 2) rfl ?_
      refine v_imul (pc := 27) h dX6_notes_27 ?_
      refine v_nmi (fun v1 => ?_)
      refine v_istore (pc := 28) h dX6_notes_28 (by decide) (lv' := [(4, .int v1), (0, .ref mo), (1, .int a1), (2, .int a2), (3, .int a3)]) rfl ?_
      refine v_aload_n (pc := 30) h dX6_notes_30 1 rfl rfl ?_
      refine v_getp (pc := 31) h dX6_notes_31 fX6_22 rfl hM.1 (mA_8 hM).1 ?_
      refine v_iload (pc := 34) h dX6_notes_34 0 rfl ?_
      refine v_aload_n (pc := 36) h dX6_notes_36 1 rfl rfl ?_
      refine v_getp (pc := 37) h dX6_notes_37 fX6_7 rfl hM.1 (mA_1 hM).1 ?_
      refine v_iconst (pc := 40) h dX6_notes_40 (v := 0) rfl ?_
      refine v_ialdL (pc := 41) h dX6_notes_41 (mA_1 hM).2.1 (mA_1 hM).2.2 (vpd rfl) (k := 0) rfl ?_
      refine v_iast (pc := 42) h dX6_notes_42 (mA_8 hM).2.1 (mA_8 hM).2.2 ?_
      refine v_nmI (fun I2 => ?_)
      refine v_aload_n (pc := 43) h dX6_notes_43 1 rfl rfl ?_
      refine v_getp (pc := 44) h dX6_notes_44 fX6_22 rfl hM.1 (mA_8 hM).1 ?_
      refine v_iload (pc := 47) h dX6_notes_47 0 rfl ?_
      refine v_iconst (pc := 49) h dX6_notes_49 (v := 1) rfl ?_
      refine v_iadd (pc := 50) h dX6_notes_50 ?_
      refine v_iload_n (pc := 51) h dX6_notes_51 2 rfl rfl ?_
      refine v_iast (pc := 52) h dX6_notes_52 (mA_8 hM).2.1 (mA_8 hM).2.2 ?_
      refine v_nmI (fun I3 => ?_)
      refine v_aload_n (pc := 53) h dX6_notes_53 1 rfl rfl ?_
      refine v_getp (pc := 54) h dX6_notes_54 fX6_22 rfl hM.1 (mA_8 hM).1 ?_
      refine v_iload (pc := 57) h dX6_notes_57 0 rfl ?_
      refine v_iconst (pc := 59) h dX6_notes_59 (v := 2) rfl ?_
      refine v_iadd (pc := 60) h dX6_notes_60 ?_
      refine v_iload_n (pc := 61) h dX6_notes_61 3 rfl rfl ?_
      refine v_iast (pc := 62) h dX6_notes_62 (mA_8 hM).2.1 (mA_8 hM).2.2 ?_
      refine v_nmI (fun I4 => ?_)
      refine v_aload_n (pc := 63) h dX6_notes_63 1 rfl rfl ?_
      refine v_getp (pc := 64) h dX6_notes_64 fX6_22 rfl hM.1 (mA_8 hM).1 ?_
      refine v_iload (pc := 67) h dX6_notes_67 0 rfl ?_
      refine v_iconst (pc := 69) h dX6_notes_69 (v := 3) rfl ?_
      refine v_iadd (pc := 70) h dX6_notes_70 ?_
      refine v_iload_n (pc := 71) h dX6_notes_71 4 rfl rfl ?_
      refine v_iast (pc := 72) h dX6_notes_72 (mA_8 hM).2.1 (mA_8 hM).2.2 ?_
      refine v_nmI (fun I5 => ?_)
      refine v_aload_n (pc := 73) h dX6_notes_73 1 rfl rfl ?_
      refine v_getp (pc := 74) h dX6_notes_74 fX6_7 rfl hM.1 (mA_1 hM).1 ?_
      refine v_iconst (pc := 77) h dX6_notes_77 (v := 2) rfl ?_
      refine v_aload_n (pc := 78) h dX6_notes_78 1 rfl rfl ?_
      refine v_getp (pc := 79) h dX6_notes_79 fX6_7 rfl hM.1 (mA_1 hM).1 ?_
      refine v_iconst (pc := 82) h dX6_notes_82 (v := 2) rfl ?_
      refine v_ialdL (pc := 83) h dX6_notes_83 (mA_1 hM).2.1 (mA_1 hM).2.2 (vpd rfl) (k := 2) rfl ?_
      refine v_iconst (pc := 84) h dX6_notes_84 (v := 1) rfl ?_
      refine v_iadd (pc := 85) h dX6_notes_85 ?_
      refine v_iastL (pc := 86) h dX6_notes_86 (mA_1 hM).2.1 (mA_1 hM).2.2 (vpd rfl) (k := 2) rfl ?_
      refine v_nmI (fun I6 => ?_)
      exact v_vret (pc := 87) h hr dX6_notes_87
    · exact v_vret (pc := 19) h hr dX6_notes_19
set_option maxHeartbeats 4000000 in
theorem tX6_comes {g : Gl} {mo : Nat} {r : Rh} (hM : MStr mo r) (a1 : Int32) (a2 : Int32) (a3 : Int32) (I : MI) : CtI g yX6_comes cX6_comes 5 (some .int) 1 [.ref mo, .int a1, .int a2, .int a3] I r (pX6_comes mo a1 a2 a3 I) := by
  refine CtI.mk (lv := [(0, .ref mo), (1, .int a1), (2, .int a2), (3, .int a3)]) (by decide) (Nat.le_of_ble_eq_true rfl) rfl (fun x Q h hr => ?_)
  unfold pX6_comes
  refine v_aload_n (pc := 0) h dX6_comes_0 0 rfl rfl ?_
  refine v_aload_n (pc := 1) h dX6_comes_1 0 rfl rfl ?_
  refine v_getp (pc := 2) h dX6_comes_2 fX6_7 rfl hM.1 (mA_1 hM).1 ?_
  refine v_bipush (pc := 5) h dX6_comes_5 (v := 10) rfl ?_
  refine v_ialdL (pc := 7) h dX6_comes_7 (mA_1 hM).2.1 (mA_1 hM).2.2 (vpd rfl) (k := 10) rfl ?_
  refine v_callp (pc := 8) h dX6_comes_8 kX6_136 rfl hM.1 (tX6_letterAt hM (I (mo + 1) 10) I) (by decide) rfl rfl (Nat.le_of_ble_eq_true rfl) rfl (fun r1 => ?_)
  refine v_istore (pc := 11) h dX6_comes_11 (by decide) (lv' := [(4, .int r1), (0, .ref mo), (1, .int a1), (2, .int a2), (3, .int a3)]) rfl ?_
  refine v_aload_n (pc := 13) h dX6_comes_13 1 rfl rfl ?_
  refine v_getp (pc := 14) h dX6_comes_14 fX6_7 rfl hM.1 (mA_1 hM).1 ?_
  refine v_iload (pc := 17) h dX6_comes_17 0 rfl ?_
  refine v_aload_n (pc := 19) h dX6_comes_19 1 rfl rfl ?_
  refine v_getp (pc := 20) h dX6_comes_20 fX6_7 rfl hM.1 (mA_1 hM).1 ?_
  refine v_bipush (pc := 23) h dX6_comes_23 (v := 9) rfl ?_
  refine v_ialdL (pc := 25) h dX6_comes_25 (mA_1 hM).2.1 (mA_1 hM).2.2 (vpd rfl) (k := 9) rfl ?_
  refine v_iast (pc := 26) h dX6_comes_26 (mA_1 hM).2.1 (mA_1 hM).2.2 ?_
  refine v_nmI (fun I2 => ?_)
  refine v_aload_n (pc := 27) h dX6_comes_27 1 rfl rfl ?_
  refine v_getp (pc := 28) h dX6_comes_28 fX6_7 rfl hM.1 (mA_1 hM).1 ?_
  refine v_iload (pc := 31) h dX6_comes_31 0 rfl ?_
  refine v_iconst (pc := 33) h dX6_comes_33 (v := 1) rfl ?_
  refine v_iadd (pc := 34) h dX6_comes_34 ?_
  refine v_iload_n (pc := 35) h dX6_comes_35 2 rfl rfl ?_
  refine v_iast (pc := 36) h dX6_comes_36 (mA_1 hM).2.1 (mA_1 hM).2.2 ?_
  refine v_nmI (fun I3 => ?_)
  refine v_aload_n (pc := 37) h dX6_comes_37 1 rfl rfl ?_
  refine v_getp (pc := 38) h dX6_comes_38 fX6_7 rfl hM.1 (mA_1 hM).1 ?_
  refine v_iload (pc := 41) h dX6_comes_41 0 rfl ?_
  refine v_iconst (pc := 43) h dX6_comes_43 (v := 2) rfl ?_
  refine v_iadd (pc := 44) h dX6_comes_44 ?_
  refine v_iload_n (pc := 45) h dX6_comes_45 3 rfl rfl ?_
  refine v_iast (pc := 46) h dX6_comes_46 (mA_1 hM).2.1 (mA_1 hM).2.2 ?_
  refine v_nmI (fun I4 => ?_)
  refine v_aload_n (pc := 47) h dX6_comes_47 1 rfl rfl ?_
  refine v_getp (pc := 48) h dX6_comes_48 fX6_7 rfl hM.1 (mA_1 hM).1 ?_
  refine v_iload (pc := 51) h dX6_comes_51 0 rfl ?_
  refine v_iconst (pc := 53) h dX6_comes_53 (v := 3) rfl ?_
  refine v_iadd (pc := 54) h dX6_comes_54 ?_
  refine v_iload_n (pc := 55) h dX6_comes_55 4 rfl rfl ?_
  refine v_iast (pc := 56) h dX6_comes_56 (mA_1 hM).2.1 (mA_1 hM).2.2 ?_
  refine v_nmI (fun I5 => ?_)
  refine v_aload_n (pc := 57) h dX6_comes_57 1 rfl rfl ?_
  refine v_getp (pc := 58) h dX6_comes_58 fX6_7 rfl hM.1 (mA_1 hM).1 ?_
  refine v_iload (pc := 61) h dX6_comes_61 0 rfl ?_
  refine v_iconst (pc := 63) h dX6_comes_63 (v := 4) rfl ?_
  refine v_iadd (pc := 64) h dX6_comes_64 ?_
  refine v_iconst (pc := 65) h dX6_comes_65 (v := 0) rfl ?_
  refine v_iast (pc := 66) h dX6_comes_66 (mA_1 hM).2.1 (mA_1 hM).2.2 ?_
  refine v_nmI (fun I6 => ?_)
  refine v_aload_n (pc := 67) h dX6_comes_67 1 rfl rfl ?_
  refine v_getp (pc := 68) h dX6_comes_68 fX6_7 rfl hM.1 (mA_1 hM).1 ?_
  refine v_bipush (pc := 71) h dX6_comes_71 (v := 10) rfl ?_
  refine v_aload_n (pc := 73) h dX6_comes_73 1 rfl rfl ?_
  refine v_getp (pc := 74) h dX6_comes_74 fX6_7 rfl hM.1 (mA_1 hM).1 ?_
  refine v_bipush (pc := 77) h dX6_comes_77 (v := 10) rfl ?_
  refine v_ialdL (pc := 79) h dX6_comes_79 (mA_1 hM).2.1 (mA_1 hM).2.2 (vpd rfl) (k := 10) rfl ?_
  refine v_iconst (pc := 80) h dX6_comes_80 (v := 1) rfl ?_
  refine v_iadd (pc := 81) h dX6_comes_81 ?_
  refine v_iastL (pc := 82) h dX6_comes_82 (mA_1 hM).2.1 (mA_1 hM).2.2 (vpd rfl) (k := 10) rfl ?_
  refine v_nmI (fun I7 => ?_)
  refine v_aload_n (pc := 83) h dX6_comes_83 1 rfl rfl ?_
  refine v_getp (pc := 84) h dX6_comes_84 fX6_7 rfl hM.1 (mA_1 hM).1 ?_
  refine v_bipush (pc := 87) h dX6_comes_87 (v := 9) rfl ?_
  refine v_aload_n (pc := 89) h dX6_comes_89 1 rfl rfl ?_
  refine v_getp (pc := 90) h dX6_comes_90 fX6_7 rfl hM.1 (mA_1 hM).1 ?_
  refine v_bipush (pc := 93) h dX6_comes_93 (v := 9) rfl ?_
  refine v_ialdL (pc := 95) h dX6_comes_95 (mA_1 hM).2.1 (mA_1 hM).2.2 (vpd rfl) (k := 9) rfl ?_
  refine v_iconst (pc := 96) h dX6_comes_96 (v := 1) rfl ?_
  refine v_iadd (pc := 97) h dX6_comes_97 ?_
  refine v_iastL (pc := 98) h dX6_comes_98 (mA_1 hM).2.1 (mA_1 hM).2.2 (vpd rfl) (k := 9) rfl ?_
  refine v_nmI (fun I8 => ?_)
  refine v_aload_n (pc := 99) h dX6_comes_99 1 rfl rfl ?_
  refine v_iconst (pc := 100) h dX6_comes_100 (v := 0) rfl ?_
  refine v_aload_n (pc := 101) h dX6_comes_101 1 rfl rfl ?_
  refine v_getp (pc := 102) h dX6_comes_102 fX6_7 rfl hM.1 (mA_1 hM).1 ?_
  refine v_iload (pc := 105) h dX6_comes_105 0 rfl ?_
  refine v_iald (pc := 107) h dX6_comes_107 (mA_1 hM).2.1 (mA_1 hM).2.2 ?_
  refine v_iload_n (pc := 108) h dX6_comes_108 2 rfl rfl ?_
  refine v_callv (pc := 109) h dX6_comes_109 kX6_325 rfl hM.1 (tX6_notes hM (0 : Int32) (I8 (mo + 1) r1.toNatClampNeg) a1 I8) (by decide) rfl rfl (Nat.le_of_ble_eq_true rfl) rfl (fun I9 => ?_)
  refine v_aload_n (pc := 112) h dX6_comes_112 1 rfl rfl ?_
  refine v_getp (pc := 113) h dX6_comes_113 fX6_7 rfl hM.1 (mA_1 hM).1 ?_
  refine v_iload (pc := 116) h dX6_comes_116 0 rfl ?_
  refine v_iald (pc := 118) h dX6_comes_118 (mA_1 hM).2.1 (mA_1 hM).2.2 ?_
  exact v_iret (pc := 119) h hr dX6_comes_119
set_option maxHeartbeats 4000000 in
theorem tX6_post {g : Gl} {mo : Nat} {r : Rh} (hM : MStr mo r) (a1 : Int32) (a2 : Int32) (a3 : Int32) (I : MI) : CtI g yX6_post cX6_post 4 (some .int) 2 [.ref mo, .int a1, .int a2, .int a3] I r (pX6_post mo a1 a2 a3 I) := by
  refine CtI.mk (lv := [(0, .ref mo), (1, .int a1), (2, .int a2), (3, .int a3)]) (by decide) (Nat.le_of_ble_eq_true rfl) rfl (fun x Q h hr => ?_)
  unfold pX6_post
  refine v_aload_n (pc := 0) h dX6_post_0 0 rfl rfl ?_
  refine v_iconst (pc := 1) h dX6_post_1 (v := 0) rfl ?_
  refine v_puti (pc := 2) h dX6_post_2 fX6_116 rfl hM.1 ?_
  refine v_nmI (fun I1 => ?_)
  refine v_aload_n (pc := 5) h dX6_post_5 0 rfl rfl ?_
  refine v_iload_n (pc := 6) h dX6_post_6 1 rfl rfl ?_
  refine v_callp (pc := 7) h dX6_post_7 kX6_147 rfl hM.1 (tX6_isDoor hM a1 I1) (by decide) rfl rfl (Nat.le_of_ble_eq_true rfl) rfl (fun r2 => ?_)
  refine v_if_eq (pc := 10) (t := 47) h dX6_post_10 rfl (fun _ => ?_) (fun _ => ?_)
  · refine v_iconst (pc := 47) h dX6_post_47 (v := (-1)) rfl ?_
    exact v_iret (pc := 48) h hr dX6_post_48
  · refine v_aload_n (pc := 13) h dX6_post_13 0 rfl rfl ?_
    refine v_iload_n (pc := 14) h dX6_post_14 2 rfl rfl ?_
    refine v_iconst (pc := 15) h dX6_post_15 (v := 0) rfl ?_
    refine v_bipush (pc := 16) h dX6_post_16 (v := 6) rfl ?_
    refine v_callp (pc := 18) h dX6_post_18 kX6_143 rfl hM.1 (tX6_isIn hM a2 (0 : Int32) (6 : Int32) I1) (by decide) rfl rfl (Nat.le_of_ble_eq_true rfl) rfl (fun r3 => ?_)
    refine v_if_eq (pc := 21) (t := 47) h dX6_post_21 rfl (fun _ => ?_) (fun _ => ?_)
    · refine v_iconst (pc := 47) h dX6_post_47 (v := (-1)) rfl ?_
      exact v_iret (pc := 48) h hr dX6_post_48
    · refine v_aload_n (pc := 24) h dX6_post_24 0 rfl rfl ?_
      refine v_iload_n (pc := 25) h dX6_post_25 3 rfl rfl ?_
      refine v_iconst (pc := 26) h dX6_post_26 (v := 1) rfl ?_
      refine v_bipush (pc := 27) h dX6_post_27 (v := 99) rfl ?_
      refine v_callp (pc := 29) h dX6_post_29 kX6_143 rfl hM.1 (tX6_isIn hM a3 (1 : Int32) (99 : Int32) I1) (by decide) rfl rfl (Nat.le_of_ble_eq_true rfl) rfl (fun r4 => ?_)
      refine v_if_eq (pc := 32) (t := 47) h dX6_post_32 rfl (fun _ => ?_) (fun _ => ?_)
      · refine v_iconst (pc := 47) h dX6_post_47 (v := (-1)) rfl ?_
        exact v_iret (pc := 48) h hr dX6_post_48
      · refine v_aload_n (pc := 35) h dX6_post_35 0 rfl rfl ?_
        refine v_getp (pc := 36) h dX6_post_36 fX6_7 rfl hM.1 (mA_1 hM).1 ?_
        refine v_bipush (pc := 39) h dX6_post_39 (v := 10) rfl ?_
        refine v_ialdL (pc := 41) h dX6_post_41 (mA_1 hM).2.1 (mA_1 hM).2.2 (vpd rfl) (k := 10) rfl ?_
        refine v_bipush (pc := 42) h dX6_post_42 (v := 24) rfl ?_
        refine v_icmp_ne (pc := 44) (t := 49) h dX6_post_44 rfl (fun _ => ?_) (fun _ => ?_)
        · refine v_aload_n (pc := 49) h dX6_post_49 0 rfl rfl ?_
          refine v_callv (pc := 50) h dX6_post_50 kX6_365 rfl hM.1 (tX6_keepsAhead hM I1) (by decide) rfl rfl (Nat.le_of_ble_eq_true rfl) rfl (fun I5 => ?_)
          refine v_aload_n (pc := 53) h dX6_post_53 0 rfl rfl ?_
          refine v_iload_n (pc := 54) h dX6_post_54 1 rfl rfl ?_
          refine v_iload_n (pc := 55) h dX6_post_55 2 rfl rfl ?_
          refine v_iload_n (pc := 56) h dX6_post_56 3 rfl rfl ?_
          refine v_calli (pc := 57) h dX6_post_57 kX6_368 rfl hM.1 (tX6_comes hM a1 a2 a3 I5) (by decide) rfl rfl (Nat.le_of_ble_eq_true rfl) rfl (fun r6 I7 => ?_)
          exact v_iret (pc := 60) h hr dX6_post_60
        · refine v_iconst (pc := 47) h dX6_post_47 (v := (-1)) rfl ?_
          exact v_iret (pc := 48) h hr dX6_post_48
set_option maxHeartbeats 4000000 in
theorem tX6_health {g : Gl} {mo : Nat} {r : Rh} (hM : MStr mo r)  (I : MI) : CtP g yX6_health cX6_health 1 (some .int) 0 [.ref mo] I r (pX6_health mo  I) := by
  refine CtP.mk (lv := [(0, .ref mo)]) (by decide) (Nat.le_of_ble_eq_true rfl) rfl (fun x Q h hr => ?_)
  unfold pX6_health
  refine v_bipush (pc := 0) h dX6_health_0 (v := 99) rfl ?_
  refine v_aload_n (pc := 2) h dX6_health_2 0 rfl rfl ?_
  refine v_getp (pc := 3) h dX6_health_3 fX6_7 rfl hM.1 (mA_1 hM).1 ?_
  refine v_iconst (pc := 6) h dX6_health_6 (v := 4) rfl ?_
  refine v_ialdL (pc := 7) h dX6_health_7 (mA_1 hM).2.1 (mA_1 hM).2.2 (vpd rfl) (k := 4) rfl ?_
  refine v_isub (pc := 8) h dX6_health_8 ?_
  exact v_iretP (pc := 9) h hr dX6_health_9
set_option maxHeartbeats 4000000 in
theorem tX6_asks {g : Gl} {mo : Nat} {r : Rh} (hM : MStr mo r) (a1 : Int32) (a2 : Int32) (a3 : Int32) (a4 : Int32) (I : MI) : CtV g yX6_asks cX6_asks 5 1 [.ref mo, .int a1, .int a2, .int a3, .int a4] I r (pX6_asks mo a1 a2 a3 a4 I) := by
  refine CtV.mk (lv := [(0, .ref mo), (1, .int a1), (2, .int a2), (3, .int a3), (4, .int a4)]) (by decide) (Nat.le_of_ble_eq_true rfl) rfl (fun x Q h hr => ?_)
  unfold pX6_asks
  refine v_aload_n (pc := 0) h dX6_asks_0 0 rfl rfl ?_
  refine v_getp (pc := 1) h dX6_asks_1 fX6_68 rfl hM.1 (mA_38 hM).1 ?_
  refine v_iconst (pc := 4) h dX6_asks_4 (v := 0) rfl ?_
  refine v_iload_n (pc := 5) h dX6_asks_5 2 rfl rfl ?_
  refine v_iastL (pc := 6) h dX6_asks_6 (mA_38 hM).2.1 (mA_38 hM).2.2 (vpd rfl) (k := 0) rfl ?_
  refine v_nmI (fun I1 => ?_)
  refine v_aload_n (pc := 7) h dX6_asks_7 0 rfl rfl ?_
  refine v_getp (pc := 8) h dX6_asks_8 fX6_68 rfl hM.1 (mA_38 hM).1 ?_
  refine v_iconst (pc := 11) h dX6_asks_11 (v := 1) rfl ?_
  refine v_iload_n (pc := 12) h dX6_asks_12 3 rfl rfl ?_
  refine v_iastL (pc := 13) h dX6_asks_13 (mA_38 hM).2.1 (mA_38 hM).2.2 (vpd rfl) (k := 1) rfl ?_
  refine v_nmI (fun I2 => ?_)
  refine v_aload_n (pc := 14) h dX6_asks_14 0 rfl rfl ?_
  refine v_getp (pc := 15) h dX6_asks_15 fX6_68 rfl hM.1 (mA_38 hM).1 ?_
  refine v_iconst (pc := 18) h dX6_asks_18 (v := 2) rfl ?_
  refine v_iload (pc := 19) h dX6_asks_19 4 rfl ?_
  refine v_iastL (pc := 21) h dX6_asks_21 (mA_38 hM).2.1 (mA_38 hM).2.2 (vpd rfl) (k := 2) rfl ?_
  refine v_nmI (fun I3 => ?_)
  refine v_aload_n (pc := 22) h dX6_asks_22 0 rfl rfl ?_
  refine v_getp (pc := 23) h dX6_asks_23 fX6_68 rfl hM.1 (mA_38 hM).1 ?_
  refine v_iconst (pc := 26) h dX6_asks_26 (v := 3) rfl ?_
  refine v_aload_n (pc := 27) h dX6_asks_27 0 rfl rfl ?_
  refine v_getp (pc := 28) h dX6_asks_28 fX6_7 rfl hM.1 (mA_1 hM).1 ?_
  refine v_bipush (pc := 31) h dX6_asks_31 (v := 18) rfl ?_
  refine v_iload_n (pc := 33) h dX6_asks_33 1 rfl rfl ?_
  refine v_iadd (pc := 34) h dX6_asks_34 ?_
  refine v_iald (pc := 35) h dX6_asks_35 (mA_1 hM).2.1 (mA_1 hM).2.2 ?_
  refine v_iastL (pc := 36) h dX6_asks_36 (mA_38 hM).2.1 (mA_38 hM).2.2 (vpd rfl) (k := 3) rfl ?_
  refine v_nmI (fun I4 => ?_)
  refine v_aload_n (pc := 37) h dX6_asks_37 0 rfl rfl ?_
  refine v_getp (pc := 38) h dX6_asks_38 fX6_68 rfl hM.1 (mA_38 hM).1 ?_
  refine v_iconst (pc := 41) h dX6_asks_41 (v := 4) rfl ?_
  refine v_aload_n (pc := 42) h dX6_asks_42 0 rfl rfl ?_
  refine v_getp (pc := 43) h dX6_asks_43 fX6_19 rfl hM.1 (mA_7 hM).1 ?_
  refine v_iload_n (pc := 46) h dX6_asks_46 1 rfl rfl ?_
  refine v_iald (pc := 47) h dX6_asks_47 (mA_7 hM).2.1 (mA_7 hM).2.2 ?_
  refine v_iastL (pc := 48) h dX6_asks_48 (mA_38 hM).2.1 (mA_38 hM).2.2 (vpd rfl) (k := 4) rfl ?_
  refine v_nmI (fun I5 => ?_)
  refine v_aload_n (pc := 49) h dX6_asks_49 0 rfl rfl ?_
  refine v_getp (pc := 50) h dX6_asks_50 fX6_68 rfl hM.1 (mA_38 hM).1 ?_
  refine v_iconst (pc := 53) h dX6_asks_53 (v := 5) rfl ?_
  refine v_aload_n (pc := 54) h dX6_asks_54 0 rfl rfl ?_
  refine v_getp (pc := 55) h dX6_asks_55 fX6_7 rfl hM.1 (mA_1 hM).1 ?_
  refine v_bipush (pc := 58) h dX6_asks_58 (v := 30) rfl ?_
  refine v_iload_n (pc := 60) h dX6_asks_60 1 rfl rfl ?_
  refine v_iadd (pc := 61) h dX6_asks_61 ?_
  refine v_iald (pc := 62) h dX6_asks_62 (mA_1 hM).2.1 (mA_1 hM).2.2 ?_
  refine v_iastL (pc := 63) h dX6_asks_63 (mA_38 hM).2.1 (mA_38 hM).2.2 (vpd rfl) (k := 5) rfl ?_
  refine v_nmI (fun I6 => ?_)
  refine v_aload_n (pc := 64) h dX6_asks_64 0 rfl rfl ?_
  refine v_getp (pc := 65) h dX6_asks_65 fX6_68 rfl hM.1 (mA_38 hM).1 ?_
  refine v_bipush (pc := 68) h dX6_asks_68 (v := 6) rfl ?_
  refine v_aload_n (pc := 70) h dX6_asks_70 0 rfl rfl ?_
  refine v_callp (pc := 71) h dX6_asks_71 kX6_312 rfl hM.1 (tX6_health hM I6) (by decide) rfl rfl (Nat.le_of_ble_eq_true rfl) rfl (fun r7 => ?_)
  refine v_iastL (pc := 74) h dX6_asks_74 (mA_38 hM).2.1 (mA_38 hM).2.2 (vpd rfl) (k := 6) rfl ?_
  refine v_nmI (fun I8 => ?_)
  refine v_aload_n (pc := 75) h dX6_asks_75 0 rfl rfl ?_
  refine v_getp (pc := 76) h dX6_asks_76 fX6_68 rfl hM.1 (mA_38 hM).1 ?_
  refine v_bipush (pc := 79) h dX6_asks_79 (v := 7) rfl ?_
  refine v_aload_n (pc := 81) h dX6_asks_81 0 rfl rfl ?_
  refine v_getp (pc := 82) h dX6_asks_82 fX6_7 rfl hM.1 (mA_1 hM).1 ?_
  refine v_iconst (pc := 85) h dX6_asks_85 (v := 5) rfl ?_
  refine v_ialdL (pc := 86) h dX6_asks_86 (mA_1 hM).2.1 (mA_1 hM).2.2 (vpd rfl) (k := 5) rfl ?_
  refine v_iastL (pc := 87) h dX6_asks_87 (mA_38 hM).2.1 (mA_38 hM).2.2 (vpd rfl) (k := 7) rfl ?_
  refine v_nmI (fun I9 => ?_)
  refine v_aload_n (pc := 88) h dX6_asks_88 0 rfl rfl ?_
  refine v_getp (pc := 89) h dX6_asks_89 fX6_68 rfl hM.1 (mA_38 hM).1 ?_
  refine v_bipush (pc := 92) h dX6_asks_92 (v := 8) rfl ?_
  refine v_aload_n (pc := 94) h dX6_asks_94 0 rfl rfl ?_
  refine v_getp (pc := 95) h dX6_asks_95 fX6_7 rfl hM.1 (mA_1 hM).1 ?_
  refine v_iconst (pc := 98) h dX6_asks_98 (v := 3) rfl ?_
  refine v_ialdL (pc := 99) h dX6_asks_99 (mA_1 hM).2.1 (mA_1 hM).2.2 (vpd rfl) (k := 3) rfl ?_
  refine v_iastL (pc := 100) h dX6_asks_100 (mA_38 hM).2.1 (mA_38 hM).2.2 (vpd rfl) (k := 8) rfl ?_
  refine v_nmI (fun I10 => ?_)
  refine v_aload_n (pc := 101) h dX6_asks_101 0 rfl rfl ?_
  refine v_getp (pc := 102) h dX6_asks_102 fX6_68 rfl hM.1 (mA_38 hM).1 ?_
  refine v_bipush (pc := 105) h dX6_asks_105 (v := 9) rfl ?_
  refine v_aload_n (pc := 107) h dX6_asks_107 0 rfl rfl ?_
  refine v_getp (pc := 108) h dX6_asks_108 fX6_7 rfl hM.1 (mA_1 hM).1 ?_
  refine v_bipush (pc := 111) h dX6_asks_111 (v := 8) rfl ?_
  refine v_ialdL (pc := 113) h dX6_asks_113 (mA_1 hM).2.1 (mA_1 hM).2.2 (vpd rfl) (k := 8) rfl ?_
  refine v_iastL (pc := 114) h dX6_asks_114 (mA_38 hM).2.1 (mA_38 hM).2.2 (vpd rfl) (k := 9) rfl ?_
  refine v_nmI (fun I11 => ?_)
  refine v_aload_n (pc := 115) h dX6_asks_115 0 rfl rfl ?_
  refine v_getp (pc := 116) h dX6_asks_116 fX6_68 rfl hM.1 (mA_38 hM).1 ?_
  refine v_bipush (pc := 119) h dX6_asks_119 (v := 10) rfl ?_
  refine v_aload_n (pc := 121) h dX6_asks_121 0 rfl rfl ?_
  refine v_getp (pc := 122) h dX6_asks_122 fX6_7 rfl hM.1 (mA_1 hM).1 ?_
  refine v_iconst (pc := 125) h dX6_asks_125 (v := 0) rfl ?_
  refine v_ialdL (pc := 126) h dX6_asks_126 (mA_1 hM).2.1 (mA_1 hM).2.2 (vpd rfl) (k := 0) rfl ?_
  refine v_iastL (pc := 127) h dX6_asks_127 (mA_38 hM).2.1 (mA_38 hM).2.2 (vpd rfl) (k := 10) rfl ?_
  refine v_nmI (fun I12 => ?_)
  exact v_vret (pc := 128) h hr dX6_asks_128
set_option maxHeartbeats 4000000 in
theorem tX6_asksOf {g : Gl} {mo : Nat} {r : Rh} (hM : MStr mo r) (a1 : Int32) (I : MI) : CtV g yX6_asksOf cX6_asksOf 3 2 [.ref mo, .int a1] I r (pX6_asksOf mo a1 I) := by
  refine CtV.mk (lv := [(0, .ref mo), (1, .int a1)]) (by decide) (Nat.le_of_ble_eq_true rfl) rfl (fun x Q h hr => ?_)
  unfold pX6_asksOf
  refine v_aload_n (pc := 0) h dX6_asksOf_0 0 rfl rfl ?_
  refine v_iload_n (pc := 1) h dX6_asksOf_1 1 rfl rfl ?_
  refine v_callp (pc := 2) h dX6_asksOf_2 kX6_136 rfl hM.1 (tX6_letterAt hM a1 I) (by decide) rfl rfl (Nat.le_of_ble_eq_true rfl) rfl (fun r1 => ?_)
  refine v_istore_n (pc := 5) h dX6_asksOf_5 rfl (by decide) (lv' := [(2, .int r1), (0, .ref mo), (1, .int a1)]) rfl ?_
  refine v_aload_n (pc := 6) h dX6_asksOf_6 1 rfl rfl ?_
  refine v_aload_n (pc := 7) h dX6_asksOf_7 1 rfl rfl ?_
  refine v_getp (pc := 8) h dX6_asksOf_8 fX6_7 rfl hM.1 (mA_1 hM).1 ?_
  refine v_iload_n (pc := 11) h dX6_asksOf_11 0 rfl rfl ?_
  refine v_iconst (pc := 12) h dX6_asksOf_12 (v := 1) rfl ?_
  refine v_iadd (pc := 13) h dX6_asksOf_13 ?_
  refine v_iald (pc := 14) h dX6_asksOf_14 (mA_1 hM).2.1 (mA_1 hM).2.2 ?_
  refine v_aload_n (pc := 15) h dX6_asksOf_15 1 rfl rfl ?_
  refine v_getp (pc := 16) h dX6_asksOf_16 fX6_7 rfl hM.1 (mA_1 hM).1 ?_
  refine v_iload_n (pc := 19) h dX6_asksOf_19 0 rfl rfl ?_
  refine v_iconst (pc := 20) h dX6_asksOf_20 (v := 2) rfl ?_
  refine v_iadd (pc := 21) h dX6_asksOf_21 ?_
  refine v_iald (pc := 22) h dX6_asksOf_22 (mA_1 hM).2.1 (mA_1 hM).2.2 ?_
  refine v_aload_n (pc := 23) h dX6_asksOf_23 1 rfl rfl ?_
  refine v_getp (pc := 24) h dX6_asksOf_24 fX6_7 rfl hM.1 (mA_1 hM).1 ?_
  refine v_iload_n (pc := 27) h dX6_asksOf_27 0 rfl rfl ?_
  refine v_iconst (pc := 28) h dX6_asksOf_28 (v := 3) rfl ?_
  refine v_iadd (pc := 29) h dX6_asksOf_29 ?_
  refine v_iald (pc := 30) h dX6_asksOf_30 (mA_1 hM).2.1 (mA_1 hM).2.2 ?_
  refine v_aload_n (pc := 31) h dX6_asksOf_31 1 rfl rfl ?_
  refine v_getp (pc := 32) h dX6_asksOf_32 fX6_7 rfl hM.1 (mA_1 hM).1 ?_
  refine v_iload_n (pc := 35) h dX6_asksOf_35 0 rfl rfl ?_
  refine v_iconst (pc := 36) h dX6_asksOf_36 (v := 4) rfl ?_
  refine v_iadd (pc := 37) h dX6_asksOf_37 ?_
  refine v_iald (pc := 38) h dX6_asksOf_38 (mA_1 hM).2.1 (mA_1 hM).2.2 ?_
  refine v_callv (pc := 39) h dX6_asksOf_39 kX6_321 rfl hM.1 (tX6_asks hM (I (mo + 1) (r1 + (1 : Int32)).toNatClampNeg) (I (mo + 1) (r1 + (2 : Int32)).toNatClampNeg) (I (mo + 1) (r1 + (3 : Int32)).toNatClampNeg) (I (mo + 1) (r1 + (4 : Int32)).toNatClampNeg) I) (by decide) rfl rfl (Nat.le_of_ble_eq_true rfl) rfl (fun I2 => ?_)
  exact v_vret (pc := 42) h hr dX6_asksOf_42
set_option maxHeartbeats 4000000 in
theorem tX6_twoOf {g : Gl} {mo : Nat} {r : Rh} (hM : MStr mo r) (a1 : Int32) (a2 : Int32) (a3 : Int32) (I : MI) : CtP g yX6_twoOf cX6_twoOf 4 (some .int) 0 [.ref mo, .int a1, .int a2, .int a3] I r (pX6_twoOf mo a1 a2 a3 I) := by
  refine CtP.mk (lv := [(0, .ref mo), (1, .int a1), (2, .int a2), (3, .int a3)]) (by decide) (Nat.le_of_ble_eq_true rfl) rfl (fun x Q h hr => ?_)
  unfold pX6_twoOf
  refine v_iload_n (pc := 0) h dX6_twoOf_0 1 rfl rfl ?_
  refine v_iconst (pc := 1) h dX6_twoOf_1 (v := 2) rfl ?_
  refine v_icmp_ne (pc := 2) (t := 9) h dX6_twoOf_2 rfl (fun _ => ?_) (fun _ => ?_)
  · refine v_iload_n (pc := 9) h dX6_twoOf_9 1 rfl rfl ?_
    refine v_iconst (pc := 10) h dX6_twoOf_10 (v := 3) rfl ?_
    refine v_icmp_ne (pc := 11) (t := 18) h dX6_twoOf_11 rfl (fun _ => ?_) (fun _ => ?_)
    · refine v_iload_n (pc := 18) h dX6_twoOf_18 1 rfl rfl ?_
      refine v_iconst (pc := 19) h dX6_twoOf_19 (v := 4) rfl ?_
      refine v_icmp_ne (pc := 20) (t := 27) h dX6_twoOf_20 rfl (fun _ => ?_) (fun _ => ?_)
      · refine v_iload_n (pc := 27) h dX6_twoOf_27 1 rfl rfl ?_
        refine v_iconst (pc := 28) h dX6_twoOf_28 (v := 5) rfl ?_
        refine v_icmp_ne (pc := 29) (t := 36) h dX6_twoOf_29 rfl (fun _ => ?_) (fun _ => ?_)
        · refine v_iload_n (pc := 36) h dX6_twoOf_36 1 rfl rfl ?_
          refine v_bipush (pc := 37) h dX6_twoOf_37 (v := 6) rfl ?_
          refine v_icmp_ne (pc := 39) (t := 53) h dX6_twoOf_39 rfl (fun _ => ?_) (fun _ => ?_)
          · refine v_iload_n (pc := 53) h dX6_twoOf_53 1 rfl rfl ?_
            refine v_bipush (pc := 54) h dX6_twoOf_54 (v := 7) rfl ?_
            refine v_icmp_ne (pc := 56) (t := 70) h dX6_twoOf_56 rfl (fun _ => ?_) (fun _ => ?_)
            · refine v_iload_n (pc := 70) h dX6_twoOf_70 1 rfl rfl ?_
              refine v_bipush (pc := 71) h dX6_twoOf_71 (v := 8) rfl ?_
              refine v_icmp_ne (pc := 73) (t := 87) h dX6_twoOf_73 rfl (fun _ => ?_) (fun _ => ?_)
              · refine v_iload_n (pc := 87) h dX6_twoOf_87 1 rfl rfl ?_
                refine v_bipush (pc := 88) h dX6_twoOf_88 (v := 10) rfl ?_
                refine v_icmp_ne (pc := 90) (t := 99) h dX6_twoOf_90 rfl (fun _ => ?_) (fun _ => ?_)
                · refine v_iload_n (pc := 99) h dX6_twoOf_99 2 rfl rfl ?_
                  refine v_iload_n (pc := 100) h dX6_twoOf_100 3 rfl rfl ?_
                  refine v_iadd (pc := 101) h dX6_twoOf_101 ?_
                  refine v_if_le (pc := 102) (t := 109) h dX6_twoOf_102 rfl (fun _ => ?_) (fun _ => ?_)
                  · refine v_iconst (pc := 109) h dX6_twoOf_109 (v := 0) rfl ?_
                    exact v_iretP (pc := 110) h hr dX6_twoOf_110
                  · refine v_iconst (pc := 105) h dX6_twoOf_105 (v := 1) rfl ?_
                    refine v_goto (pc := 106) (t := 110) h dX6_twoOf_106 rfl ?_
                    exact v_iretP (pc := 110) h hr dX6_twoOf_110
                · refine v_iload_n (pc := 93) h dX6_twoOf_93 2 rfl rfl ?_
                  refine v_iload_n (pc := 94) h dX6_twoOf_94 3 rfl rfl ?_
                  refine v_imul (pc := 95) h dX6_twoOf_95 ?_
                  refine v_goto (pc := 96) (t := 110) h dX6_twoOf_96 rfl ?_
                  exact v_iretP (pc := 110) h hr dX6_twoOf_110
              · refine v_iload_n (pc := 76) h dX6_twoOf_76 2 rfl rfl ?_
                refine v_iload_n (pc := 77) h dX6_twoOf_77 3 rfl rfl ?_
                refine v_icmp_le (pc := 78) (t := 85) h dX6_twoOf_78 rfl (fun _ => ?_) (fun _ => ?_)
                · refine v_iconst (pc := 85) h dX6_twoOf_85 (v := 0) rfl ?_
                  exact v_iretP (pc := 86) h hr dX6_twoOf_86
                · refine v_iconst (pc := 81) h dX6_twoOf_81 (v := 1) rfl ?_
                  refine v_goto (pc := 82) (t := 86) h dX6_twoOf_82 rfl ?_
                  exact v_iretP (pc := 86) h hr dX6_twoOf_86
            · refine v_iload_n (pc := 59) h dX6_twoOf_59 2 rfl rfl ?_
              refine v_iload_n (pc := 60) h dX6_twoOf_60 3 rfl rfl ?_
              refine v_icmp_ne (pc := 61) (t := 68) h dX6_twoOf_61 rfl (fun _ => ?_) (fun _ => ?_)
              · refine v_iconst (pc := 68) h dX6_twoOf_68 (v := 0) rfl ?_
                exact v_iretP (pc := 69) h hr dX6_twoOf_69
              · refine v_iconst (pc := 64) h dX6_twoOf_64 (v := 1) rfl ?_
                refine v_goto (pc := 65) (t := 69) h dX6_twoOf_65 rfl ?_
                exact v_iretP (pc := 69) h hr dX6_twoOf_69
          · refine v_iload_n (pc := 42) h dX6_twoOf_42 2 rfl rfl ?_
            refine v_iload_n (pc := 43) h dX6_twoOf_43 3 rfl rfl ?_
            refine v_icmp_ge (pc := 44) (t := 51) h dX6_twoOf_44 rfl (fun _ => ?_) (fun _ => ?_)
            · refine v_iconst (pc := 51) h dX6_twoOf_51 (v := 0) rfl ?_
              exact v_iretP (pc := 52) h hr dX6_twoOf_52
            · refine v_iconst (pc := 47) h dX6_twoOf_47 (v := 1) rfl ?_
              refine v_goto (pc := 48) (t := 52) h dX6_twoOf_48 rfl ?_
              exact v_iretP (pc := 52) h hr dX6_twoOf_52
        · refine v_iload_n (pc := 32) h dX6_twoOf_32 2 rfl rfl ?_
          refine v_iload_n (pc := 33) h dX6_twoOf_33 3 rfl rfl ?_
          refine v_idiv (pc := 34) h dX6_twoOf_34 ?_
          exact v_iretP (pc := 35) h hr dX6_twoOf_35
      · refine v_iload_n (pc := 23) h dX6_twoOf_23 2 rfl rfl ?_
        refine v_iload_n (pc := 24) h dX6_twoOf_24 3 rfl rfl ?_
        refine v_imul (pc := 25) h dX6_twoOf_25 ?_
        exact v_iretP (pc := 26) h hr dX6_twoOf_26
    · refine v_iload_n (pc := 14) h dX6_twoOf_14 2 rfl rfl ?_
      refine v_iload_n (pc := 15) h dX6_twoOf_15 3 rfl rfl ?_
      refine v_isub (pc := 16) h dX6_twoOf_16 ?_
      exact v_iretP (pc := 17) h hr dX6_twoOf_17
  · refine v_iload_n (pc := 5) h dX6_twoOf_5 2 rfl rfl ?_
    refine v_iload_n (pc := 6) h dX6_twoOf_6 3 rfl rfl ?_
    refine v_iadd (pc := 7) h dX6_twoOf_7 ?_
    exact v_iretP (pc := 8) h hr dX6_twoOf_8
set_option maxHeartbeats 4000000 in
theorem tX6_runs {g : Gl} {mo : Nat} {r : Rh} (hM : MStr mo r) (a1 : Int32) (a2 : Int32) (a3 : Int32) (I : MI) : CtI g yX6_runs cX6_runs 6 (some .int) 1 [.ref mo, .int a1, .int a2, .int a3] I r (pX6_runs mo a1 a2 a3 I) := by
  refine CtI.mk (lv := [(0, .ref mo), (1, .int a1), (2, .int a2), (3, .int a3)]) (by decide) (Nat.le_of_ble_eq_true rfl) rfl (fun x Q h hr => ?_)
  unfold pX6_runs
  refine v_iconst (pc := 0) h dX6_runs_0 (v := 0) rfl ?_
  refine v_istore (pc := 1) h dX6_runs_1 (by decide) (lv' := [(4, .int (0 : Int32)), (0, .ref mo), (1, .int a1), (2, .int a2), (3, .int a3)]) rfl ?_
  refine v_sipush (pc := 3) h dX6_runs_3 (v := 400) rfl ?_
  refine v_iload_n (pc := 6) h dX6_runs_6 2 rfl rfl ?_
  refine v_imul (pc := 7) h dX6_runs_7 ?_
  refine v_iload_n (pc := 8) h dX6_runs_8 3 rfl rfl ?_
  refine v_iadd (pc := 9) h dX6_runs_9 ?_
  refine v_nmi (fun v1 => ?_)
  refine v_istore (pc := 10) h dX6_runs_10 (by decide) (lv' := [(5, .int v1), (4, .int (0 : Int32)), (0, .ref mo), (1, .int a1), (2, .int a2), (3, .int a3)]) rfl ?_
  refine v_sub [2, 3, 5, 1, 0] rfl ?_
  refine L3.run (lv := fun i4_2 i5_3 I4 => [(0, .ref mo), (1, .int a1), (3, .int a3), (4, .int i4_2), (5, .int i5_3)]) (st := fun i4_2 i5_3 I4 => []) (Im := fun i4_2 i5_3 I4 => I4) (r := fun i4_2 i5_3 I4 => r) (fun X5 hX5 i4_2 i5_3 I4 => ?_) (0 : Int32) v1 I
  refine v_iload (pc := 12) h dX6_runs_12 4 rfl ?_
  refine v_sipush (pc := 14) h dX6_runs_14 (v := 400) rfl ?_
  refine v_iload_n (pc := 17) h dX6_runs_17 1 rfl rfl ?_
  refine v_imul (pc := 18) h dX6_runs_18 ?_
  refine v_iload_n (pc := 19) h dX6_runs_19 2 rfl rfl ?_
  refine v_iadd (pc := 20) h dX6_runs_20 ?_
  refine v_icmp_ge (pc := 21) (t := 176) h dX6_runs_21 rfl (fun _ => ?_) (fun _ => ?_)
  · refine v_aload_n (pc := 176) h dX6_runs_176 0 rfl rfl ?_
    refine v_getp (pc := 177) h dX6_runs_177 fX6_71 rfl hM.1 (mA_39 hM).1 ?_
    refine v_iconst (pc := 180) h dX6_runs_180 (v := 0) rfl ?_
    refine v_ialdL (pc := 181) h dX6_runs_181 (mA_39 hM).2.1 (mA_39 hM).2.2 (vpd rfl) (k := 0) rfl ?_
    exact v_iret (pc := 182) h hr dX6_runs_182
  · refine v_aload_n (pc := 24) h dX6_runs_24 0 rfl rfl ?_
    refine v_getp (pc := 25) h dX6_runs_25 fX6_46 rfl hM.1 (mA_21 hM).1 ?_
    refine v_iload (pc := 28) h dX6_runs_28 4 rfl ?_
    refine v_iald (pc := 30) h dX6_runs_30 (mA_21 hM).2.1 (mA_21 hM).2.2 ?_
    refine v_jn2 (fun v4_6 I7 => V g x 6 (0, 0) 170 [(0, .ref mo), (1, .int a1), (3, .int a3), (4, .int v4_6), (5, .int i5_3)] [] I7 r) (fun k8 hk8 => ?_) (fun v4_6 I7 => ?_)
    · refine v_jn0 (V g x 6 (0, 0) 45 [(0, .ref mo), (1, .int a1), (3, .int a3), (4, .int i4_2), (5, .int i5_3)] [] I4 r) (fun k9 hk9 => ?_) ?_
      · refine v_if_eq (pc := 31) (t := 45) h dX6_runs_31 rfl (fun _ => ?_) (fun _ => ?_)
        · exact hk9
        · refine v_aload_n (pc := 34) h dX6_runs_34 0 rfl rfl ?_
          refine v_getp (pc := 35) h dX6_runs_35 fX6_46 rfl hM.1 (mA_21 hM).1 ?_
          refine v_iload (pc := 38) h dX6_runs_38 4 rfl ?_
          refine v_iald (pc := 40) h dX6_runs_40 (mA_21 hM).2.1 (mA_21 hM).2.2 ?_
          refine v_iconst (pc := 41) h dX6_runs_41 (v := 1) rfl ?_
          refine v_icmp_ne (pc := 42) (t := 93) h dX6_runs_42 rfl (fun _ => ?_) (fun _ => ?_)
          · refine v_aload_n (pc := 93) h dX6_runs_93 0 rfl rfl ?_
            refine v_getp (pc := 94) h dX6_runs_94 fX6_46 rfl hM.1 (mA_21 hM).1 ?_
            refine v_iload (pc := 97) h dX6_runs_97 4 rfl ?_
            refine v_iald (pc := 99) h dX6_runs_99 (mA_21 hM).2.1 (mA_21 hM).2.2 ?_
            refine v_bipush (pc := 100) h dX6_runs_100 (v := 9) rfl ?_
            refine v_icmp_ne (pc := 102) (t := 128) h dX6_runs_102 rfl (fun _ => ?_) (fun _ => ?_)
            · refine v_iload (pc := 128) h dX6_runs_128 3 rfl ?_
              refine v_iconst (pc := 130) h dX6_runs_130 (v := 1) rfl ?_
              refine v_isub (pc := 131) h dX6_runs_131 ?_
              refine v_nmi (fun v10 => ?_)
              refine v_istore (pc := 132) h dX6_runs_132 (by decide) (lv' := [(4, .int v10), (0, .ref mo), (1, .int a1), (3, .int a3), (5, .int i5_3)]) rfl ?_
              refine v_aload_n (pc := 134) h dX6_runs_134 1 rfl rfl ?_
              refine v_getp (pc := 135) h dX6_runs_135 fX6_71 rfl hM.1 (mA_39 hM).1 ?_
              refine v_iload (pc := 138) h dX6_runs_138 0 rfl ?_
              refine v_iconst (pc := 140) h dX6_runs_140 (v := 1) rfl ?_
              refine v_isub (pc := 141) h dX6_runs_141 ?_
              refine v_aload_n (pc := 142) h dX6_runs_142 1 rfl rfl ?_
              refine v_aload_n (pc := 143) h dX6_runs_143 1 rfl rfl ?_
              refine v_getp (pc := 144) h dX6_runs_144 fX6_46 rfl hM.1 (mA_21 hM).1 ?_
              refine v_iload (pc := 147) h dX6_runs_147 4 rfl ?_
              refine v_iald (pc := 149) h dX6_runs_149 (mA_21 hM).2.1 (mA_21 hM).2.2 ?_
              refine v_aload_n (pc := 150) h dX6_runs_150 1 rfl rfl ?_
              refine v_getp (pc := 151) h dX6_runs_151 fX6_71 rfl hM.1 (mA_39 hM).1 ?_
              refine v_iload (pc := 154) h dX6_runs_154 0 rfl ?_
              refine v_iconst (pc := 156) h dX6_runs_156 (v := 1) rfl ?_
              refine v_isub (pc := 157) h dX6_runs_157 ?_
              refine v_iald (pc := 158) h dX6_runs_158 (mA_39 hM).2.1 (mA_39 hM).2.2 ?_
              refine v_aload_n (pc := 159) h dX6_runs_159 1 rfl rfl ?_
              refine v_getp (pc := 160) h dX6_runs_160 fX6_71 rfl hM.1 (mA_39 hM).1 ?_
              refine v_iload (pc := 163) h dX6_runs_163 0 rfl ?_
              refine v_iald (pc := 165) h dX6_runs_165 (mA_39 hM).2.1 (mA_39 hM).2.2 ?_
              refine v_callp (pc := 166) h dX6_runs_166 kX6_306 rfl hM.1 (tX6_twoOf hM (I4 (mo + 13) i5_3.toNatClampNeg) (I4 (mo + 20) (v10 - (1 : Int32)).toNatClampNeg) (I4 (mo + 20) v10.toNatClampNeg) I4) (by decide) rfl rfl (Nat.le_of_ble_eq_true rfl) rfl (fun r11 => ?_)
              refine v_iast (pc := 169) h dX6_runs_169 (mA_39 hM).2.1 (mA_39 hM).2.2 ?_
              refine v_nmI (fun I12 => ?_)
              refine v_sub [1, 2, 3, 0, 4] rfl ?_
              exact hk8 v10 I12
            · refine v_aload_n (pc := 105) h dX6_runs_105 0 rfl rfl ?_
              refine v_getp (pc := 106) h dX6_runs_106 fX6_71 rfl hM.1 (mA_39 hM).1 ?_
              refine v_iload (pc := 109) h dX6_runs_109 3 rfl ?_
              refine v_iconst (pc := 111) h dX6_runs_111 (v := 1) rfl ?_
              refine v_isub (pc := 112) h dX6_runs_112 ?_
              refine v_iconst (pc := 113) h dX6_runs_113 (v := 1) rfl ?_
              refine v_aload_n (pc := 114) h dX6_runs_114 0 rfl rfl ?_
              refine v_getp (pc := 115) h dX6_runs_115 fX6_71 rfl hM.1 (mA_39 hM).1 ?_
              refine v_iload (pc := 118) h dX6_runs_118 3 rfl ?_
              refine v_iconst (pc := 120) h dX6_runs_120 (v := 1) rfl ?_
              refine v_isub (pc := 121) h dX6_runs_121 ?_
              refine v_iald (pc := 122) h dX6_runs_122 (mA_39 hM).2.1 (mA_39 hM).2.2 ?_
              refine v_isub (pc := 123) h dX6_runs_123 ?_
              refine v_iast (pc := 124) h dX6_runs_124 (mA_39 hM).2.1 (mA_39 hM).2.2 ?_
              refine v_nmI (fun I13 => ?_)
              refine v_goto (pc := 125) (t := 170) h dX6_runs_125 rfl ?_
              exact hk8 i4_2 I13
          · exact hk9
      · refine v_aload_n (pc := 45) h dX6_runs_45 0 rfl rfl ?_
        refine v_getp (pc := 46) h dX6_runs_46 fX6_71 rfl hM.1 (mA_39 hM).1 ?_
        refine v_iload (pc := 49) h dX6_runs_49 3 rfl ?_
        refine v_aload_n (pc := 51) h dX6_runs_51 0 rfl rfl ?_
        refine v_getp (pc := 52) h dX6_runs_52 fX6_46 rfl hM.1 (mA_21 hM).1 ?_
        refine v_iload (pc := 55) h dX6_runs_55 4 rfl ?_
        refine v_iald (pc := 57) h dX6_runs_57 (mA_21 hM).2.1 (mA_21 hM).2.2 ?_
        refine v_jn1 (fun t14 => V g x 6 (0, 0) 83 [(0, .ref mo), (1, .int a1), (3, .int a3), (4, .int i4_2), (5, .int i5_3)] [.int t14, .int i4_2, .ref (mo + 20)] I4 r) (fun k15 hk15 => ?_) (fun t14 => ?_)
        · refine v_if_ne (pc := 58) (t := 71) h dX6_runs_58 rfl (fun _ => ?_) (fun _ => ?_)
          · refine v_aload_n (pc := 71) h dX6_runs_71 0 rfl rfl ?_
            refine v_getp (pc := 72) h dX6_runs_72 fX6_68 rfl hM.1 (mA_38 hM).1 ?_
            refine v_aload_n (pc := 75) h dX6_runs_75 0 rfl rfl ?_
            refine v_getp (pc := 76) h dX6_runs_76 fX6_49 rfl hM.1 (mA_22 hM).1 ?_
            refine v_iload (pc := 79) h dX6_runs_79 4 rfl ?_
            refine v_iald (pc := 81) h dX6_runs_81 (mA_22 hM).2.1 (mA_22 hM).2.2 ?_
            refine v_iald (pc := 82) h dX6_runs_82 (mA_38 hM).2.1 (mA_38 hM).2.2 ?_
            exact hk15 (I4 (mo + 19) (I4 (mo + 14) i5_3.toNatClampNeg).toNatClampNeg)
          · refine v_aload_n (pc := 61) h dX6_runs_61 0 rfl rfl ?_
            refine v_getp (pc := 62) h dX6_runs_62 fX6_49 rfl hM.1 (mA_22 hM).1 ?_
            refine v_iload (pc := 65) h dX6_runs_65 4 rfl ?_
            refine v_iald (pc := 67) h dX6_runs_67 (mA_22 hM).2.1 (mA_22 hM).2.2 ?_
            refine v_goto (pc := 68) (t := 83) h dX6_runs_68 rfl ?_
            exact hk15 (I4 (mo + 14) i5_3.toNatClampNeg)
        · refine v_iast (pc := 83) h dX6_runs_83 (mA_39 hM).2.1 (mA_39 hM).2.2 ?_
          refine v_nmI (fun I16 => ?_)
          refine v_iload (pc := 84) h dX6_runs_84 3 rfl ?_
          refine v_iconst (pc := 86) h dX6_runs_86 (v := 1) rfl ?_
          refine v_iadd (pc := 87) h dX6_runs_87 ?_
          refine v_nmi (fun v17 => ?_)
          refine v_istore (pc := 88) h dX6_runs_88 (by decide) (lv' := [(4, .int v17), (0, .ref mo), (1, .int a1), (3, .int a3), (5, .int i5_3)]) rfl ?_
          refine v_goto (pc := 90) (t := 170) h dX6_runs_90 rfl ?_
          refine v_sub [1, 2, 3, 0, 4] rfl ?_
          exact hk8 v17 I16
    · refine v_iinc (pc := 170) h dX6_runs_170 4 rfl (w := (i5_3 + (1 : Int32))) rfl (by decide) (lv' := [(5, .int (i5_3 + (1 : Int32))), (0, .ref mo), (1, .int a1), (3, .int a3), (4, .int v4_6)]) rfl ?_
      refine v_goto (pc := 173) (t := 12) h dX6_runs_173 rfl ?_
      refine v_sub [1, 2, 3, 4, 0] rfl ?_
      exact hX5 v4_6 (i5_3 + (1 : Int32)) I7
set_option maxHeartbeats 4000000 in
theorem tX6_lineOf {g : Gl} {mo : Nat} {r : Rh} (hM : MStr mo r) (a1 : Int32) (I : MI) : CtI g yX6_lineOf cX6_lineOf 3 (some .int) 2 [.ref mo, .int a1] I r (pX6_lineOf mo a1 I) := by
  refine CtI.mk (lv := [(0, .ref mo), (1, .int a1)]) (by decide) (Nat.le_of_ble_eq_true rfl) rfl (fun x Q h hr => ?_)
  unfold pX6_lineOf
  refine v_iconst (pc := 0) h dX6_lineOf_0 (v := 0) rfl ?_
  refine v_istore_n (pc := 1) h dX6_lineOf_1 rfl (by decide) (lv' := [(2, .int (0 : Int32)), (0, .ref mo), (1, .int a1)]) rfl ?_
  refine v_sub [1, 2, 0] rfl ?_
  refine L2.run (lv := fun i2_1 I2 => [(0, .ref mo), (1, .int a1), (2, .int i2_1)]) (st := fun i2_1 I2 => []) (Im := fun i2_1 I2 => I2) (r := fun i2_1 I2 => r) (fun X3 hX3 i2_1 I2 => ?_) (0 : Int32) I
  refine v_iload_n (pc := 2) h dX6_lineOf_2 2 rfl rfl ?_
  refine v_aload_n (pc := 3) h dX6_lineOf_3 0 rfl rfl ?_
  refine v_getp (pc := 4) h dX6_lineOf_4 fX6_31 rfl hM.1 (mA_16 hM).1 ?_
  refine v_iconst (pc := 7) h dX6_lineOf_7 (v := 0) rfl ?_
  refine v_ialdL (pc := 8) h dX6_lineOf_8 (mA_16 hM).2.1 (mA_16 hM).2.2 (vpd rfl) (k := 0) rfl ?_
  refine v_icmp_ge (pc := 9) (t := 65) h dX6_lineOf_9 rfl (fun _ => ?_) (fun _ => ?_)
  · refine v_iconst (pc := 65) h dX6_lineOf_65 (v := (-1)) rfl ?_
    exact v_iret (pc := 66) h hr dX6_lineOf_66
  · refine v_aload_n (pc := 12) h dX6_lineOf_12 0 rfl rfl ?_
    refine v_getp (pc := 13) h dX6_lineOf_13 fX6_34 rfl hM.1 (mA_17 hM).1 ?_
    refine v_iload_n (pc := 16) h dX6_lineOf_16 2 rfl rfl ?_
    refine v_iald (pc := 17) h dX6_lineOf_17 (mA_17 hM).2.1 (mA_17 hM).2.2 ?_
    refine v_iload_n (pc := 18) h dX6_lineOf_18 1 rfl rfl ?_
    refine v_jn1 (fun I4 => V g x 3 (0, 0) 59 [(0, .ref mo), (1, .int a1), (2, .int i2_1)] [] I4 r) (fun k5 hk5 => ?_) (fun I4 => ?_)
    · refine v_icmp_ne (pc := 19) (t := 59) h dX6_lineOf_19 rfl (fun _ => ?_) (fun _ => ?_)
      · exact hk5 I2
      · refine v_aload_n (pc := 22) h dX6_lineOf_22 0 rfl rfl ?_
        refine v_getp (pc := 23) h dX6_lineOf_23 fX6_40 rfl hM.1 (mA_19 hM).1 ?_
        refine v_iload_n (pc := 26) h dX6_lineOf_26 2 rfl rfl ?_
        refine v_iald (pc := 27) h dX6_lineOf_27 (mA_19 hM).2.1 (mA_19 hM).2.2 ?_
        refine v_aload_n (pc := 28) h dX6_lineOf_28 0 rfl rfl ?_
        refine v_getp (pc := 29) h dX6_lineOf_29 fX6_43 rfl hM.1 (mA_20 hM).1 ?_
        refine v_iload_n (pc := 32) h dX6_lineOf_32 2 rfl rfl ?_
        refine v_iald (pc := 33) h dX6_lineOf_33 (mA_20 hM).2.1 (mA_20 hM).2.2 ?_
        refine v_jn1 (fun I6 => V g x 3 (0, 0) 57 [(2, .int i2_1)] [] I6 r) (fun k7 hk7 => ?_) (fun I6 => ?_)
        · refine v_icmp_eq (pc := 34) (t := 57) h dX6_lineOf_34 rfl (fun _ => ?_) (fun _ => ?_)
          · refine v_sub [2] rfl ?_
            exact hk7 I2
          · refine v_aload_n (pc := 37) h dX6_lineOf_37 0 rfl rfl ?_
            refine v_iconst (pc := 38) h dX6_lineOf_38 (v := 0) rfl ?_
            refine v_aload_n (pc := 39) h dX6_lineOf_39 0 rfl rfl ?_
            refine v_getp (pc := 40) h dX6_lineOf_40 fX6_40 rfl hM.1 (mA_19 hM).1 ?_
            refine v_iload_n (pc := 43) h dX6_lineOf_43 2 rfl rfl ?_
            refine v_iald (pc := 44) h dX6_lineOf_44 (mA_19 hM).2.1 (mA_19 hM).2.2 ?_
            refine v_aload_n (pc := 45) h dX6_lineOf_45 0 rfl rfl ?_
            refine v_getp (pc := 46) h dX6_lineOf_46 fX6_43 rfl hM.1 (mA_20 hM).1 ?_
            refine v_iload_n (pc := 49) h dX6_lineOf_49 2 rfl rfl ?_
            refine v_iald (pc := 50) h dX6_lineOf_50 (mA_20 hM).2.1 (mA_20 hM).2.2 ?_
            refine v_calli (pc := 51) h dX6_lineOf_51 kX6_309 rfl hM.1 (tX6_runs hM (0 : Int32) (I2 (mo + 11) i2_1.toNatClampNeg) (I2 (mo + 12) i2_1.toNatClampNeg) I2) (by decide) rfl rfl (Nat.le_of_ble_eq_true rfl) rfl (fun r8 I9 => ?_)
            refine v_if_eq (pc := 54) (t := 59) h dX6_lineOf_54 rfl (fun _ => ?_) (fun _ => ?_)
            · exact hk5 I9
            · refine v_sub [2] rfl ?_
              exact hk7 I9
        · refine v_iload_n (pc := 57) h dX6_lineOf_57 0 rfl rfl ?_
          exact v_iret (pc := 58) h hr dX6_lineOf_58
    · refine v_iinc (pc := 59) h dX6_lineOf_59 2 rfl (w := (i2_1 + (1 : Int32))) rfl (by decide) (lv' := [(2, .int (i2_1 + (1 : Int32))), (0, .ref mo), (1, .int a1)]) rfl ?_
      refine v_goto (pc := 62) (t := 2) h dX6_lineOf_62 rfl ?_
      refine v_sub [1, 2, 0] rfl ?_
      exact hX3 (i2_1 + (1 : Int32)) I4
set_option maxHeartbeats 4000000 in
theorem tX6_lawTells {g : Gl} {mo : Nat} {r : Rh} (hM : MStr mo r) (a1 : Int32) (a2 : Int32) (a3 : Int32) (I : MI) : CtI g yX6_lawTells cX6_lawTells 5 (some .int) 3 [.ref mo, .int a1, .int a2, .int a3] I r (pX6_lawTells mo a1 a2 a3 I) := by
  refine CtI.mk (lv := [(0, .ref mo), (1, .int a1), (2, .int a2), (3, .int a3)]) (by decide) (Nat.le_of_ble_eq_true rfl) rfl (fun x Q h hr => ?_)
  unfold pX6_lawTells
  refine v_aload_n (pc := 0) h dX6_lawTells_0 0 rfl rfl ?_
  refine v_iload_n (pc := 1) h dX6_lawTells_1 1 rfl rfl ?_
  refine v_calli (pc := 2) h dX6_lawTells_2 kX6_315 rfl hM.1 (tX6_lineOf hM a1 I) (by decide) rfl rfl (Nat.le_of_ble_eq_true rfl) rfl (fun r1 I2 => ?_)
  refine v_istore (pc := 5) h dX6_lawTells_5 (by decide) (lv' := [(4, .int r1), (0, .ref mo), (1, .int a1), (2, .int a2), (3, .int a3)]) rfl ?_
  refine v_aload_n (pc := 7) h dX6_lawTells_7 1 rfl rfl ?_
  refine v_iload (pc := 8) h dX6_lawTells_8 0 rfl ?_
  refine v_iconst (pc := 10) h dX6_lawTells_10 (v := (-1)) rfl ?_
  refine v_jn2 (fun t3 I4 => V g x 5 (0, 0) 37 [(3, .int a3)] [.int t3, .ref mo] I4 r) (fun k5 hk5 => ?_) (fun t3 I4 => ?_)
  · refine v_icmp_ne (pc := 11) (t := 18) h dX6_lawTells_11 rfl (fun _ => ?_) (fun _ => ?_)
    · refine v_aload_n (pc := 18) h dX6_lawTells_18 1 rfl rfl ?_
      refine v_iconst (pc := 19) h dX6_lawTells_19 (v := 0) rfl ?_
      refine v_aload_n (pc := 20) h dX6_lawTells_20 1 rfl rfl ?_
      refine v_getp (pc := 21) h dX6_lawTells_21 fX6_37 rfl hM.1 (mA_18 hM).1 ?_
      refine v_iload (pc := 24) h dX6_lawTells_24 0 rfl ?_
      refine v_iald (pc := 26) h dX6_lawTells_26 (mA_18 hM).2.1 (mA_18 hM).2.2 ?_
      refine v_aload_n (pc := 27) h dX6_lawTells_27 1 rfl rfl ?_
      refine v_getp (pc := 28) h dX6_lawTells_28 fX6_40 rfl hM.1 (mA_19 hM).1 ?_
      refine v_iload (pc := 31) h dX6_lawTells_31 0 rfl ?_
      refine v_iald (pc := 33) h dX6_lawTells_33 (mA_19 hM).2.1 (mA_19 hM).2.2 ?_
      refine v_calli (pc := 34) h dX6_lawTells_34 kX6_309 rfl hM.1 (tX6_runs hM (0 : Int32) (I2 (mo + 10) r1.toNatClampNeg) (I2 (mo + 11) r1.toNatClampNeg) I2) (by decide) rfl rfl (Nat.le_of_ble_eq_true rfl) rfl (fun r6 I7 => ?_)
      refine v_sub [4] rfl ?_
      exact hk5 r6 I7
    · refine v_iload_n (pc := 14) h dX6_lawTells_14 3 rfl rfl ?_
      refine v_goto (pc := 15) (t := 37) h dX6_lawTells_15 rfl ?_
      refine v_sub [4] rfl ?_
      exact hk5 a2 I2
  · refine v_iconst (pc := 37) h dX6_lawTells_37 (v := 0) rfl ?_
    refine v_iload_n (pc := 38) h dX6_lawTells_38 0 rfl rfl ?_
    refine v_callp (pc := 39) h dX6_lawTells_39 kX6_132 rfl hM.1 (tX6_held hM t3 (0 : Int32) a3 I4) (by decide) rfl rfl (Nat.le_of_ble_eq_true rfl) rfl (fun r8 => ?_)
    exact v_iret (pc := 42) h hr dX6_lawTells_42
set_option maxHeartbeats 4000000 in
theorem tX6_opensNow {g : Gl} {mo : Nat} {r : Rh} (hM : MStr mo r)  (I : MI) : CtI g yX6_opensNow cX6_opensNow 1 (some .int) 4 [.ref mo] I r (pX6_opensNow mo  I) := by
  refine CtI.mk (lv := [(0, .ref mo)]) (by decide) (Nat.le_of_ble_eq_true rfl) rfl (fun x Q h hr => ?_)
  unfold pX6_opensNow
  refine v_aload_n (pc := 0) h dX6_opensNow_0 0 rfl rfl ?_
  refine v_iconst (pc := 1) h dX6_opensNow_1 (v := 0) rfl ?_
  refine v_sipush (pc := 2) h dX6_opensNow_2 (v := 900) rfl ?_
  refine v_bipush (pc := 5) h dX6_opensNow_5 (v := 100) rfl ?_
  refine v_aload_n (pc := 7) h dX6_opensNow_7 0 rfl rfl ?_
  refine v_getp (pc := 8) h dX6_opensNow_8 fX6_7 rfl hM.1 (mA_1 hM).1 ?_
  refine v_bipush (pc := 11) h dX6_opensNow_11 (v := 8) rfl ?_
  refine v_ialdL (pc := 13) h dX6_opensNow_13 (mA_1 hM).2.1 (mA_1 hM).2.2 (vpd rfl) (k := 8) rfl ?_
  refine v_imul (pc := 14) h dX6_opensNow_14 ?_
  refine v_isub (pc := 15) h dX6_opensNow_15 ?_
  refine v_bipush (pc := 16) h dX6_opensNow_16 (v := 20) rfl ?_
  refine v_aload_n (pc := 18) h dX6_opensNow_18 0 rfl rfl ?_
  refine v_getp (pc := 19) h dX6_opensNow_19 fX6_68 rfl hM.1 (mA_38 hM).1 ?_
  refine v_iconst (pc := 22) h dX6_opensNow_22 (v := 3) rfl ?_
  refine v_ialdL (pc := 23) h dX6_opensNow_23 (mA_38 hM).2.1 (mA_38 hM).2.2 (vpd rfl) (k := 3) rfl ?_
  refine v_imul (pc := 24) h dX6_opensNow_24 ?_
  refine v_iadd (pc := 25) h dX6_opensNow_25 ?_
  refine v_sipush (pc := 26) h dX6_opensNow_26 (v := 1000) rfl ?_
  refine v_calli (pc := 29) h dX6_opensNow_29 kX6_318 rfl hM.1 (tX6_lawTells hM (0 : Int32) (((900 : Int32) - ((100 : Int32) * (I (mo + 1) 8))) + ((20 : Int32) * (I (mo + 19) 3))) (1000 : Int32) I) (by decide) rfl rfl (Nat.le_of_ble_eq_true rfl) rfl (fun r1 I2 => ?_)
  exact v_iret (pc := 32) h hr dX6_opensNow_32
set_option maxHeartbeats 4000000 in
theorem tX6_draw {g : Gl} {mo : Nat} {r : Rh} (hM : MStr mo r) (a1 : Int32) (I : MI) : CtI g yX6_draw cX6_draw 2 (some .int) 0 [.ref mo, .int a1] I r (pX6_draw mo a1 I) := by
  refine CtI.mk (lv := [(0, .ref mo), (1, .int a1)]) (by decide) (Nat.le_of_ble_eq_true rfl) rfl (fun x Q h hr => ?_)
  unfold pX6_draw
  refine v_aload_n (pc := 0) h dX6_draw_0 0 rfl rfl ?_
  refine v_getp (pc := 1) h dX6_draw_1 fX6_7 rfl hM.1 (mA_1 hM).1 ?_
  refine v_iconst (pc := 4) h dX6_draw_4 (v := 1) rfl ?_
  refine v_ldc (pc := 5) h dX6_draw_5 (v := (1664525)) q1807 ?_
  refine v_aload_n (pc := 7) h dX6_draw_7 0 rfl rfl ?_
  refine v_getp (pc := 8) h dX6_draw_8 fX6_7 rfl hM.1 (mA_1 hM).1 ?_
  refine v_iconst (pc := 11) h dX6_draw_11 (v := 1) rfl ?_
  refine v_ialdL (pc := 12) h dX6_draw_12 (mA_1 hM).2.1 (mA_1 hM).2.2 (vpd rfl) (k := 1) rfl ?_
  refine v_imul (pc := 13) h dX6_draw_13 ?_
  refine v_ldc (pc := 14) h dX6_draw_14 (v := (1013904223)) q1808 ?_
  refine v_iadd (pc := 16) h dX6_draw_16 ?_
  refine v_iastL (pc := 17) h dX6_draw_17 (mA_1 hM).2.1 (mA_1 hM).2.2 (vpd rfl) (k := 1) rfl ?_
  refine v_nmI (fun I1 => ?_)
  refine v_aload_n (pc := 18) h dX6_draw_18 0 rfl rfl ?_
  refine v_getp (pc := 19) h dX6_draw_19 fX6_7 rfl hM.1 (mA_1 hM).1 ?_
  refine v_iconst (pc := 22) h dX6_draw_22 (v := 1) rfl ?_
  refine v_ialdL (pc := 23) h dX6_draw_23 (mA_1 hM).2.1 (mA_1 hM).2.2 (vpd rfl) (k := 1) rfl ?_
  refine v_bipush (pc := 24) h dX6_draw_24 (v := 8) rfl ?_
  refine v_iushr (pc := 26) h dX6_draw_26 ?_
  refine v_iload_n (pc := 27) h dX6_draw_27 1 rfl rfl ?_
  refine v_irem (pc := 28) h dX6_draw_28 ?_
  exact v_iret (pc := 29) h hr dX6_draw_29
set_option maxHeartbeats 4000000 in
theorem tX6_isOpen {g : Gl} {mo : Nat} {r : Rh} (hM : MStr mo r) (a1 : Int32) (I : MI) : CtI g yX6_isOpen cX6_isOpen 2 (some .boolean) 1 [.ref mo, .int a1] I r (pX6_isOpen mo a1 I) := by
  refine CtI.mk (lv := [(0, .ref mo), (1, .int a1)]) (by decide) (Nat.le_of_ble_eq_true rfl) rfl (fun x Q h hr => ?_)
  unfold pX6_isOpen
  refine v_aload_n (pc := 0) h dX6_isOpen_0 0 rfl rfl ?_
  refine v_geti (pc := 1) h dX6_isOpen_1 fX6_123 rfl hM.1 ?_
  refine v_if_eq (pc := 4) (t := 24) h dX6_isOpen_4 rfl (fun _ => ?_) (fun _ => ?_)
  · refine v_aload_n (pc := 24) h dX6_isOpen_24 0 rfl rfl ?_
    refine v_sipush (pc := 25) h dX6_isOpen_25 (v := 1000) rfl ?_
    refine v_calli (pc := 28) h dX6_isOpen_28 kX6_338 rfl hM.1 (tX6_draw hM (1000 : Int32) I) (by decide) rfl rfl (Nat.le_of_ble_eq_true rfl) rfl (fun r1 I2 => ?_)
    refine v_iload_n (pc := 31) h dX6_isOpen_31 1 rfl rfl ?_
    refine v_icmp_ge (pc := 32) (t := 39) h dX6_isOpen_32 rfl (fun _ => ?_) (fun _ => ?_)
    · refine v_iconst (pc := 39) h dX6_isOpen_39 (v := 0) rfl ?_
      exact v_zret (pc := 40) h hr (Or.inl rfl) dX6_isOpen_40
    · refine v_iconst (pc := 35) h dX6_isOpen_35 (v := 1) rfl ?_
      refine v_goto (pc := 36) (t := 40) h dX6_isOpen_36 rfl ?_
      exact v_zret (pc := 40) h hr (Or.inr rfl) dX6_isOpen_40
  · refine v_iconst (pc := 7) h dX6_isOpen_7 (v := 2) rfl ?_
    refine v_iload_n (pc := 8) h dX6_isOpen_8 1 rfl rfl ?_
    refine v_imul (pc := 9) h dX6_isOpen_9 ?_
    refine v_sipush (pc := 10) h dX6_isOpen_10 (v := 1000) rfl ?_
    refine v_icmp_lt (pc := 13) (t := 20) h dX6_isOpen_13 rfl (fun _ => ?_) (fun _ => ?_)
    · refine v_iconst (pc := 20) h dX6_isOpen_20 (v := 0) rfl ?_
      refine v_goto (pc := 21) (t := 40) h dX6_isOpen_21 rfl ?_
      exact v_zret (pc := 40) h hr (Or.inl rfl) dX6_isOpen_40
    · refine v_iconst (pc := 16) h dX6_isOpen_16 (v := 1) rfl ?_
      refine v_goto (pc := 17) (t := 40) h dX6_isOpen_17 rfl ?_
      exact v_zret (pc := 40) h hr (Or.inr rfl) dX6_isOpen_40
set_option maxHeartbeats 4000000 in
theorem tX6_givesNow {g : Gl} {mo : Nat} {r : Rh} (hM : MStr mo r)  (I : MI) : CtI g yX6_givesNow cX6_givesNow 1 (some .int) 4 [.ref mo] I r (pX6_givesNow mo  I) := by
  refine CtI.mk (lv := [(0, .ref mo)]) (by decide) (Nat.le_of_ble_eq_true rfl) rfl (fun x Q h hr => ?_)
  unfold pX6_givesNow
  refine v_aload_n (pc := 0) h dX6_givesNow_0 0 rfl rfl ?_
  refine v_iconst (pc := 1) h dX6_givesNow_1 (v := 1) rfl ?_
  refine v_aload_n (pc := 2) h dX6_givesNow_2 0 rfl rfl ?_
  refine v_getp (pc := 3) h dX6_givesNow_3 fX6_68 rfl hM.1 (mA_38 hM).1 ?_
  refine v_iconst (pc := 6) h dX6_givesNow_6 (v := 1) rfl ?_
  refine v_ialdL (pc := 7) h dX6_givesNow_7 (mA_38 hM).2.1 (mA_38 hM).2.2 (vpd rfl) (k := 1) rfl ?_
  refine v_bipush (pc := 8) h dX6_givesNow_8 (v := 99) rfl ?_
  refine v_calli (pc := 10) h dX6_givesNow_10 kX6_318 rfl hM.1 (tX6_lawTells hM (1 : Int32) (I (mo + 19) 1) (99 : Int32) I) (by decide) rfl rfl (Nat.le_of_ble_eq_true rfl) rfl (fun r1 I2 => ?_)
  exact v_iret (pc := 13) h hr dX6_givesNow_13
set_option maxHeartbeats 4000000 in
theorem tX6_lesser {g : Gl} {mo : Nat} {r : Rh} (hM : MStr mo r) (a1 : Int32) (a2 : Int32) (I : MI) : CtP g yX6_lesser cX6_lesser 3 (some .int) 0 [.ref mo, .int a1, .int a2] I r (pX6_lesser mo a1 a2 I) := by
  refine CtP.mk (lv := [(0, .ref mo), (1, .int a1), (2, .int a2)]) (by decide) (Nat.le_of_ble_eq_true rfl) rfl (fun x Q h hr => ?_)
  unfold pX6_lesser
  refine v_iload_n (pc := 0) h dX6_lesser_0 1 rfl rfl ?_
  refine v_iload_n (pc := 1) h dX6_lesser_1 2 rfl rfl ?_
  refine v_icmp_ge (pc := 2) (t := 9) h dX6_lesser_2 rfl (fun _ => ?_) (fun _ => ?_)
  · refine v_iload_n (pc := 9) h dX6_lesser_9 2 rfl rfl ?_
    exact v_iretP (pc := 10) h hr dX6_lesser_10
  · refine v_iload_n (pc := 5) h dX6_lesser_5 1 rfl rfl ?_
    refine v_goto (pc := 6) (t := 10) h dX6_lesser_6 rfl ?_
    exact v_iretP (pc := 10) h hr dX6_lesser_10
set_option maxHeartbeats 4000000 in
theorem tX6_looks {g : Gl} {mo : Nat} {r : Rh} (hM : MStr mo r) (a1 : Int32) (a2 : Int32) (I : MI) : CtV g yX6_looks cX6_looks 3 1 [.ref mo, .int a1, .int a2] I r (pX6_looks mo a1 a2 I) := by
  refine CtV.mk (lv := [(0, .ref mo), (1, .int a1), (2, .int a2)]) (by decide) (Nat.le_of_ble_eq_true rfl) rfl (fun x Q h hr => ?_)
  unfold pX6_looks
  refine v_aload_n (pc := 0) h dX6_looks_0 0 rfl rfl ?_
  refine v_getp (pc := 1) h dX6_looks_1 fX6_7 rfl hM.1 (mA_1 hM).1 ?_
  refine v_bipush (pc := 4) h dX6_looks_4 (v := 18) rfl ?_
  refine v_iload_n (pc := 6) h dX6_looks_6 1 rfl rfl ?_
  refine v_iadd (pc := 7) h dX6_looks_7 ?_
  refine v_aload_n (pc := 8) h dX6_looks_8 0 rfl rfl ?_
  refine v_aload_n (pc := 9) h dX6_looks_9 0 rfl rfl ?_
  refine v_getp (pc := 10) h dX6_looks_10 fX6_7 rfl hM.1 (mA_1 hM).1 ?_
  refine v_bipush (pc := 13) h dX6_looks_13 (v := 18) rfl ?_
  refine v_iload_n (pc := 15) h dX6_looks_15 1 rfl rfl ?_
  refine v_iadd (pc := 16) h dX6_looks_16 ?_
  refine v_iald (pc := 17) h dX6_looks_17 (mA_1 hM).2.1 (mA_1 hM).2.2 ?_
  refine v_iload_n (pc := 18) h dX6_looks_18 2 rfl rfl ?_
  refine v_iadd (pc := 19) h dX6_looks_19 ?_
  refine v_bipush (pc := 20) h dX6_looks_20 (v := (-9)) rfl ?_
  refine v_bipush (pc := 22) h dX6_looks_22 (v := 9) rfl ?_
  refine v_callp (pc := 24) h dX6_looks_24 kX6_132 rfl hM.1 (tX6_held hM ((I (mo + 1) ((18 : Int32) + a1).toNatClampNeg) + a2) (-9 : Int32) (9 : Int32) I) (by decide) rfl rfl (Nat.le_of_ble_eq_true rfl) rfl (fun r1 => ?_)
  refine v_iast (pc := 27) h dX6_looks_27 (mA_1 hM).2.1 (mA_1 hM).2.2 ?_
  refine v_nmI (fun I2 => ?_)
  exact v_vret (pc := 28) h hr dX6_looks_28
set_option maxHeartbeats 4000000 in
theorem tX6_greater {g : Gl} {mo : Nat} {r : Rh} (hM : MStr mo r) (a1 : Int32) (a2 : Int32) (I : MI) : CtP g yX6_greater cX6_greater 3 (some .int) 0 [.ref mo, .int a1, .int a2] I r (pX6_greater mo a1 a2 I) := by
  refine CtP.mk (lv := [(0, .ref mo), (1, .int a1), (2, .int a2)]) (by decide) (Nat.le_of_ble_eq_true rfl) rfl (fun x Q h hr => ?_)
  unfold pX6_greater
  refine v_iload_n (pc := 0) h dX6_greater_0 1 rfl rfl ?_
  refine v_iload_n (pc := 1) h dX6_greater_1 2 rfl rfl ?_
  refine v_icmp_le (pc := 2) (t := 9) h dX6_greater_2 rfl (fun _ => ?_) (fun _ => ?_)
  · refine v_iload_n (pc := 9) h dX6_greater_9 2 rfl rfl ?_
    exact v_iretP (pc := 10) h hr dX6_greater_10
  · refine v_iload_n (pc := 5) h dX6_greater_5 1 rfl rfl ?_
    refine v_goto (pc := 6) (t := 10) h dX6_greater_6 rfl ?_
    exact v_iretP (pc := 10) h hr dX6_greater_10
set_option maxHeartbeats 4000000 in
theorem tX6_changes {g : Gl} {mo : Nat} {r : Rh} (hM : MStr mo r) (a1 : Int32) (a2 : Int32) (a3 : Int32) (I : MI) : CtV g yX6_changes cX6_changes 4 2 [.ref mo, .int a1, .int a2, .int a3] I r (pX6_changes mo a1 a2 a3 I) := by
  refine CtV.mk (lv := [(0, .ref mo), (1, .int a1), (2, .int a2), (3, .int a3)]) (by decide) (Nat.le_of_ble_eq_true rfl) rfl (fun x Q h hr => ?_)
  unfold pX6_changes
  refine v_iload_n (pc := 0) h dX6_changes_0 2 rfl rfl ?_
  refine v_jn1 (fun I1 => V g x 4 (0, 0) 20 [(0, .ref mo), (1, .int a1), (2, .int a2), (3, .int a3)] [] I1 r) (fun k2 hk2 => ?_) (fun I1 => ?_)
  · refine v_jn0 (V g x 4 (0, 0) 14 [(0, .ref mo), (1, .int a1), (2, .int a2), (3, .int a3)] [] I r) (fun k3 hk3 => ?_) ?_
    · refine v_if_eq (pc := 1) (t := 14) h dX6_changes_1 rfl (fun _ => ?_) (fun _ => ?_)
      · exact hk3
      · refine v_iload_n (pc := 4) h dX6_changes_4 2 rfl rfl ?_
        refine v_iconst (pc := 5) h dX6_changes_5 (v := 1) rfl ?_
        refine v_icmp_eq (pc := 6) (t := 14) h dX6_changes_6 rfl (fun _ => ?_) (fun _ => ?_)
        · exact hk3
        · refine v_iload_n (pc := 9) h dX6_changes_9 2 rfl rfl ?_
          refine v_iconst (pc := 10) h dX6_changes_10 (v := 3) rfl ?_
          refine v_icmp_ne (pc := 11) (t := 20) h dX6_changes_11 rfl (fun _ => ?_) (fun _ => ?_)
          · exact hk2 I
          · exact hk3
    · refine v_aload_n (pc := 14) h dX6_changes_14 0 rfl rfl ?_
      refine v_iload_n (pc := 15) h dX6_changes_15 1 rfl rfl ?_
      refine v_iconst (pc := 16) h dX6_changes_16 (v := (-1)) rfl ?_
      refine v_callv (pc := 17) h dX6_changes_17 kX6_329 rfl hM.1 (tX6_looks hM a1 (-1 : Int32) I) (by decide) rfl rfl (Nat.le_of_ble_eq_true rfl) rfl (fun I4 => ?_)
      exact hk2 I4
  · refine v_iload_n (pc := 20) h dX6_changes_20 2 rfl rfl ?_
    refine v_iconst (pc := 21) h dX6_changes_21 (v := 2) rfl ?_
    refine v_jn1 (fun I5 => V g x 4 (0, 0) 31 [(0, .ref mo), (1, .int a1), (2, .int a2), (3, .int a3)] [] I5 r) (fun k6 hk6 => ?_) (fun I5 => ?_)
    · refine v_icmp_ne (pc := 22) (t := 31) h dX6_changes_22 rfl (fun _ => ?_) (fun _ => ?_)
      · exact hk6 I1
      · refine v_aload_n (pc := 25) h dX6_changes_25 0 rfl rfl ?_
        refine v_iload_n (pc := 26) h dX6_changes_26 1 rfl rfl ?_
        refine v_iconst (pc := 27) h dX6_changes_27 (v := 1) rfl ?_
        refine v_callv (pc := 28) h dX6_changes_28 kX6_329 rfl hM.1 (tX6_looks hM a1 (1 : Int32) I1) (by decide) rfl rfl (Nat.le_of_ble_eq_true rfl) rfl (fun I7 => ?_)
        exact hk6 I7
    · refine v_iload_n (pc := 31) h dX6_changes_31 2 rfl rfl ?_
      refine v_bipush (pc := 32) h dX6_changes_32 (v := 6) rfl ?_
      refine v_jn1 (fun I8 => V g x 4 (0, 0) 43 [(0, .ref mo), (2, .int a2), (3, .int a3)] [] I8 r) (fun k9 hk9 => ?_) (fun I8 => ?_)
      · refine v_icmp_ne (pc := 34) (t := 43) h dX6_changes_34 rfl (fun _ => ?_) (fun _ => ?_)
        · refine v_sub [0, 2, 3] rfl ?_
          exact hk9 I5
        · refine v_aload_n (pc := 37) h dX6_changes_37 0 rfl rfl ?_
          refine v_iload_n (pc := 38) h dX6_changes_38 1 rfl rfl ?_
          refine v_iconst (pc := 39) h dX6_changes_39 (v := 2) rfl ?_
          refine v_callv (pc := 40) h dX6_changes_40 kX6_329 rfl hM.1 (tX6_looks hM a1 (2 : Int32) I5) (by decide) rfl rfl (Nat.le_of_ble_eq_true rfl) rfl (fun I10 => ?_)
          refine v_sub [0, 2, 3] rfl ?_
          exact hk9 I10
      · refine v_iload_n (pc := 43) h dX6_changes_43 1 rfl rfl ?_
        refine v_iconst (pc := 44) h dX6_changes_44 (v := 3) rfl ?_
        refine v_jn1 (fun I11 => V g x 4 (0, 0) 58 [(0, .ref mo), (2, .int a2), (3, .int a3)] [] I11 r) (fun k12 hk12 => ?_) (fun I11 => ?_)
        · refine v_icmp_ne (pc := 45) (t := 58) h dX6_changes_45 rfl (fun _ => ?_) (fun _ => ?_)
          · exact hk12 I8
          · refine v_aload_n (pc := 48) h dX6_changes_48 0 rfl rfl ?_
            refine v_aload_n (pc := 49) h dX6_changes_49 0 rfl rfl ?_
            refine v_callp (pc := 50) h dX6_changes_50 kX6_312 rfl hM.1 (tX6_health hM I8) (by decide) rfl rfl (Nat.le_of_ble_eq_true rfl) rfl (fun r13 => ?_)
            refine v_iload_n (pc := 53) h dX6_changes_53 2 rfl rfl ?_
            refine v_isub (pc := 54) h dX6_changes_54 ?_
            refine v_callv (pc := 55) h dX6_changes_55 kX6_154 rfl hM.1 (tX6_hasHealth hM (r13 - a3) I8) (by decide) rfl rfl (Nat.le_of_ble_eq_true rfl) rfl (fun I14 => ?_)
            exact hk12 I14
        · refine v_iload_n (pc := 58) h dX6_changes_58 1 rfl rfl ?_
          refine v_iconst (pc := 59) h dX6_changes_59 (v := 4) rfl ?_
          refine v_icmp_ne (pc := 60) (t := 82) h dX6_changes_60 rfl (fun _ => ?_) (fun _ => ?_)
          · exact v_vret (pc := 82) h hr dX6_changes_82
          · refine v_aload_n (pc := 63) h dX6_changes_63 0 rfl rfl ?_
            refine v_getp (pc := 64) h dX6_changes_64 fX6_7 rfl hM.1 (mA_1 hM).1 ?_
            refine v_iconst (pc := 67) h dX6_changes_67 (v := 5) rfl ?_
            refine v_aload_n (pc := 68) h dX6_changes_68 0 rfl rfl ?_
            refine v_iconst (pc := 69) h dX6_changes_69 (v := 0) rfl ?_
            refine v_aload_n (pc := 70) h dX6_changes_70 0 rfl rfl ?_
            refine v_getp (pc := 71) h dX6_changes_71 fX6_7 rfl hM.1 (mA_1 hM).1 ?_
            refine v_iconst (pc := 74) h dX6_changes_74 (v := 5) rfl ?_
            refine v_ialdL (pc := 75) h dX6_changes_75 (mA_1 hM).2.1 (mA_1 hM).2.2 (vpd rfl) (k := 5) rfl ?_
            refine v_iload_n (pc := 76) h dX6_changes_76 2 rfl rfl ?_
            refine v_isub (pc := 77) h dX6_changes_77 ?_
            refine v_callp (pc := 78) h dX6_changes_78 kX6_332 rfl hM.1 (tX6_greater hM (0 : Int32) ((I11 (mo + 1) 5) - a3) I11) (by decide) rfl rfl (Nat.le_of_ble_eq_true rfl) rfl (fun r15 => ?_)
            refine v_iastL (pc := 81) h dX6_changes_81 (mA_1 hM).2.1 (mA_1 hM).2.2 (vpd rfl) (k := 5) rfl ?_
            refine v_nmI (fun I16 => ?_)
            exact v_vret (pc := 82) h hr dX6_changes_82
set_option maxHeartbeats 4000000 in
theorem tX6_isGiven {g : Gl} {mo : Nat} {r : Rh} (hM : MStr mo r) (a1 : Int32) (a2 : Int32) (a3 : Int32) (a4 : Int32) (I : MI) : CtV g yX6_isGiven cX6_isGiven 5 3 [.ref mo, .int a1, .int a2, .int a3, .int a4] I r (pX6_isGiven mo a1 a2 a3 a4 I) := by
  refine CtV.mk (lv := [(0, .ref mo), (1, .int a1), (2, .int a2), (3, .int a3), (4, .int a4)]) (by decide) (Nat.le_of_ble_eq_true rfl) rfl (fun x Q h hr => ?_)
  unfold pX6_isGiven
  refine v_aload_n (pc := 0) h dX6_isGiven_0 0 rfl rfl ?_
  refine v_getp (pc := 1) h dX6_isGiven_1 fX6_7 rfl hM.1 (mA_1 hM).1 ?_
  refine v_bipush (pc := 4) h dX6_isGiven_4 (v := 11) rfl ?_
  refine v_iload_n (pc := 6) h dX6_isGiven_6 2 rfl rfl ?_
  refine v_iadd (pc := 7) h dX6_isGiven_7 ?_
  refine v_aload_n (pc := 8) h dX6_isGiven_8 0 rfl rfl ?_
  refine v_getp (pc := 9) h dX6_isGiven_9 fX6_7 rfl hM.1 (mA_1 hM).1 ?_
  refine v_bipush (pc := 12) h dX6_isGiven_12 (v := 11) rfl ?_
  refine v_iload_n (pc := 14) h dX6_isGiven_14 2 rfl rfl ?_
  refine v_iadd (pc := 15) h dX6_isGiven_15 ?_
  refine v_iald (pc := 16) h dX6_isGiven_16 (mA_1 hM).2.1 (mA_1 hM).2.2 ?_
  refine v_iload (pc := 17) h dX6_isGiven_17 4 rfl ?_
  refine v_iadd (pc := 19) h dX6_isGiven_19 ?_
  refine v_iast (pc := 20) h dX6_isGiven_20 (mA_1 hM).2.1 (mA_1 hM).2.2 ?_
  refine v_nmI (fun I1 => ?_)
  refine v_iload_n (pc := 21) h dX6_isGiven_21 2 rfl rfl ?_
  refine v_iconst (pc := 22) h dX6_isGiven_22 (v := 1) rfl ?_
  refine v_jn1 (fun I2 => V g x 5 (0, 0) 47 [(0, .ref mo), (1, .int a1), (2, .int a2), (3, .int a3), (4, .int a4)] [] I2 r) (fun k3 hk3 => ?_) (fun I2 => ?_)
  · refine v_icmp_ne (pc := 23) (t := 47) h dX6_isGiven_23 rfl (fun _ => ?_) (fun _ => ?_)
    · exact hk3 I1
    · refine v_aload_n (pc := 26) h dX6_isGiven_26 0 rfl rfl ?_
      refine v_getp (pc := 27) h dX6_isGiven_27 fX6_7 rfl hM.1 (mA_1 hM).1 ?_
      refine v_bipush (pc := 30) h dX6_isGiven_30 (v := 30) rfl ?_
      refine v_iload_n (pc := 32) h dX6_isGiven_32 1 rfl rfl ?_
      refine v_iadd (pc := 33) h dX6_isGiven_33 ?_
      refine v_aload_n (pc := 34) h dX6_isGiven_34 0 rfl rfl ?_
      refine v_getp (pc := 35) h dX6_isGiven_35 fX6_7 rfl hM.1 (mA_1 hM).1 ?_
      refine v_bipush (pc := 38) h dX6_isGiven_38 (v := 30) rfl ?_
      refine v_iload_n (pc := 40) h dX6_isGiven_40 1 rfl rfl ?_
      refine v_iadd (pc := 41) h dX6_isGiven_41 ?_
      refine v_iald (pc := 42) h dX6_isGiven_42 (mA_1 hM).2.1 (mA_1 hM).2.2 ?_
      refine v_iload (pc := 43) h dX6_isGiven_43 4 rfl ?_
      refine v_isub (pc := 45) h dX6_isGiven_45 ?_
      refine v_iast (pc := 46) h dX6_isGiven_46 (mA_1 hM).2.1 (mA_1 hM).2.2 ?_
      refine v_nmI (fun I4 => ?_)
      exact hk3 I4
  · refine v_aload_n (pc := 47) h dX6_isGiven_47 0 rfl rfl ?_
    refine v_iload_n (pc := 48) h dX6_isGiven_48 1 rfl rfl ?_
    refine v_iload_n (pc := 49) h dX6_isGiven_49 2 rfl rfl ?_
    refine v_iload (pc := 50) h dX6_isGiven_50 4 rfl ?_
    refine v_callv (pc := 52) h dX6_isGiven_52 kX6_335 rfl hM.1 (tX6_changes hM a1 a2 a4 I2) (by decide) rfl rfl (Nat.le_of_ble_eq_true rfl) rfl (fun I5 => ?_)
    refine v_iload_n (pc := 55) h dX6_isGiven_55 2 rfl rfl ?_
    refine v_jn1 (fun I6 => V g x 5 (0, 0) 91 [(0, .ref mo), (1, .int a1)] [] I6 r) (fun k7 hk7 => ?_) (fun I6 => ?_)
    · refine v_if_ne (pc := 56) (t := 91) h dX6_isGiven_56 rfl (fun _ => ?_) (fun _ => ?_)
      · refine v_sub [0, 1] rfl ?_
        exact hk7 I5
      · refine v_iload_n (pc := 59) h dX6_isGiven_59 3 rfl rfl ?_
        refine v_bipush (pc := 60) h dX6_isGiven_60 (v := 50) rfl ?_
        refine v_icmp_lt (pc := 62) (t := 91) h dX6_isGiven_62 rfl (fun _ => ?_) (fun _ => ?_)
        · refine v_sub [0, 1] rfl ?_
          exact hk7 I5
        · refine v_aload_n (pc := 65) h dX6_isGiven_65 0 rfl rfl ?_
          refine v_getp (pc := 66) h dX6_isGiven_66 fX6_7 rfl hM.1 (mA_1 hM).1 ?_
          refine v_bipush (pc := 69) h dX6_isGiven_69 (v := 6) rfl ?_
          refine v_aload_n (pc := 71) h dX6_isGiven_71 0 rfl rfl ?_
          refine v_getp (pc := 72) h dX6_isGiven_72 fX6_7 rfl hM.1 (mA_1 hM).1 ?_
          refine v_bipush (pc := 75) h dX6_isGiven_75 (v := 6) rfl ?_
          refine v_ialdL (pc := 77) h dX6_isGiven_77 (mA_1 hM).2.1 (mA_1 hM).2.2 (vpd rfl) (k := 6) rfl ?_
          refine v_iconst (pc := 78) h dX6_isGiven_78 (v := 1) rfl ?_
          refine v_iadd (pc := 79) h dX6_isGiven_79 ?_
          refine v_iastL (pc := 80) h dX6_isGiven_80 (mA_1 hM).2.1 (mA_1 hM).2.2 (vpd rfl) (k := 6) rfl ?_
          refine v_nmI (fun I8 => ?_)
          refine v_aload_n (pc := 81) h dX6_isGiven_81 0 rfl rfl ?_
          refine v_aload_n (pc := 82) h dX6_isGiven_82 0 rfl rfl ?_
          refine v_callp (pc := 83) h dX6_isGiven_83 kX6_312 rfl hM.1 (tX6_health hM I8) (by decide) rfl rfl (Nat.le_of_ble_eq_true rfl) rfl (fun r9 => ?_)
          refine v_iconst (pc := 86) h dX6_isGiven_86 (v := 5) rfl ?_
          refine v_iadd (pc := 87) h dX6_isGiven_87 ?_
          refine v_callv (pc := 88) h dX6_isGiven_88 kX6_154 rfl hM.1 (tX6_hasHealth hM (r9 + (5 : Int32)) I8) (by decide) rfl rfl (Nat.le_of_ble_eq_true rfl) rfl (fun I10 => ?_)
          refine v_sub [0, 1] rfl ?_
          exact hk7 I10
    · refine v_aload_n (pc := 91) h dX6_isGiven_91 0 rfl rfl ?_
      refine v_getp (pc := 92) h dX6_isGiven_92 fX6_7 rfl hM.1 (mA_1 hM).1 ?_
      refine v_bipush (pc := 95) h dX6_isGiven_95 (v := 42) rfl ?_
      refine v_iload_n (pc := 97) h dX6_isGiven_97 1 rfl rfl ?_
      refine v_iadd (pc := 98) h dX6_isGiven_98 ?_
      refine v_aload_n (pc := 99) h dX6_isGiven_99 0 rfl rfl ?_
      refine v_getp (pc := 100) h dX6_isGiven_100 fX6_7 rfl hM.1 (mA_1 hM).1 ?_
      refine v_bipush (pc := 103) h dX6_isGiven_103 (v := 42) rfl ?_
      refine v_iload_n (pc := 105) h dX6_isGiven_105 1 rfl rfl ?_
      refine v_iadd (pc := 106) h dX6_isGiven_106 ?_
      refine v_iald (pc := 107) h dX6_isGiven_107 (mA_1 hM).2.1 (mA_1 hM).2.2 ?_
      refine v_iconst (pc := 108) h dX6_isGiven_108 (v := 1) rfl ?_
      refine v_iadd (pc := 109) h dX6_isGiven_109 ?_
      refine v_iast (pc := 110) h dX6_isGiven_110 (mA_1 hM).2.1 (mA_1 hM).2.2 ?_
      refine v_nmI (fun I11 => ?_)
      exact v_vret (pc := 111) h hr dX6_isGiven_111
set_option maxHeartbeats 4000000 in
theorem tX6_goesOut {g : Gl} {mo : Nat} {r : Rh} (hM : MStr mo r) (a1 : Int32) (I : MI) : CtV g yX6_goesOut cX6_goesOut 3 1 [.ref mo, .int a1] I r (pX6_goesOut mo a1 I) := by
  refine CtV.mk (lv := [(0, .ref mo), (1, .int a1)]) (by decide) (Nat.le_of_ble_eq_true rfl) rfl (fun x Q h hr => ?_)
  unfold pX6_goesOut
  refine v_aload_n (pc := 0) h dX6_goesOut_0 0 rfl rfl ?_
  refine v_getp (pc := 1) h dX6_goesOut_1 fX6_7 rfl hM.1 (mA_1 hM).1 ?_
  refine v_bipush (pc := 4) h dX6_goesOut_4 (v := 10) rfl ?_
  refine v_aload_n (pc := 6) h dX6_goesOut_6 0 rfl rfl ?_
  refine v_getp (pc := 7) h dX6_goesOut_7 fX6_7 rfl hM.1 (mA_1 hM).1 ?_
  refine v_bipush (pc := 10) h dX6_goesOut_10 (v := 10) rfl ?_
  refine v_ialdL (pc := 12) h dX6_goesOut_12 (mA_1 hM).2.1 (mA_1 hM).2.2 (vpd rfl) (k := 10) rfl ?_
  refine v_iconst (pc := 13) h dX6_goesOut_13 (v := 1) rfl ?_
  refine v_isub (pc := 14) h dX6_goesOut_14 ?_
  refine v_iastL (pc := 15) h dX6_goesOut_15 (mA_1 hM).2.1 (mA_1 hM).2.2 (vpd rfl) (k := 10) rfl ?_
  refine v_nmI (fun I1 => ?_)
  refine v_aload_n (pc := 16) h dX6_goesOut_16 0 rfl rfl ?_
  refine v_iload_n (pc := 17) h dX6_goesOut_17 1 rfl rfl ?_
  refine v_callp (pc := 18) h dX6_goesOut_18 kX6_136 rfl hM.1 (tX6_letterAt hM a1 I1) (by decide) rfl rfl (Nat.le_of_ble_eq_true rfl) rfl (fun r2 => ?_)
  refine v_istore_n (pc := 21) h dX6_goesOut_21 rfl (by decide) (lv' := [(2, .int r2), (0, .ref mo), (1, .int a1)]) rfl ?_
  refine v_sub [1, 0] rfl ?_
  refine L2.run (lv := fun i2_3 I4 => [(0, .ref mo), (2, .int i2_3)]) (st := fun i2_3 I4 => []) (Im := fun i2_3 I4 => I4) (r := fun i2_3 I4 => r) (fun X5 hX5 i2_3 I4 => ?_) r2 I1
  refine v_iload_n (pc := 22) h dX6_goesOut_22 1 rfl rfl ?_
  refine v_aload_n (pc := 23) h dX6_goesOut_23 0 rfl rfl ?_
  refine v_aload_n (pc := 24) h dX6_goesOut_24 0 rfl rfl ?_
  refine v_getp (pc := 25) h dX6_goesOut_25 fX6_7 rfl hM.1 (mA_1 hM).1 ?_
  refine v_bipush (pc := 28) h dX6_goesOut_28 (v := 10) rfl ?_
  refine v_ialdL (pc := 30) h dX6_goesOut_30 (mA_1 hM).2.1 (mA_1 hM).2.2 (vpd rfl) (k := 10) rfl ?_
  refine v_callp (pc := 31) h dX6_goesOut_31 kX6_136 rfl hM.1 (tX6_letterAt hM (I4 (mo + 1) 10) I4) (by decide) rfl rfl (Nat.le_of_ble_eq_true rfl) rfl (fun r6 => ?_)
  refine v_icmp_ge (pc := 34) (t := 57) h dX6_goesOut_34 rfl (fun _ => ?_) (fun _ => ?_)
  · exact v_vret (pc := 57) h hr dX6_goesOut_57
  · refine v_aload_n (pc := 37) h dX6_goesOut_37 0 rfl rfl ?_
    refine v_getp (pc := 38) h dX6_goesOut_38 fX6_7 rfl hM.1 (mA_1 hM).1 ?_
    refine v_iload_n (pc := 41) h dX6_goesOut_41 1 rfl rfl ?_
    refine v_aload_n (pc := 42) h dX6_goesOut_42 0 rfl rfl ?_
    refine v_getp (pc := 43) h dX6_goesOut_43 fX6_7 rfl hM.1 (mA_1 hM).1 ?_
    refine v_iload_n (pc := 46) h dX6_goesOut_46 1 rfl rfl ?_
    refine v_iconst (pc := 47) h dX6_goesOut_47 (v := 5) rfl ?_
    refine v_iadd (pc := 48) h dX6_goesOut_48 ?_
    refine v_iald (pc := 49) h dX6_goesOut_49 (mA_1 hM).2.1 (mA_1 hM).2.2 ?_
    refine v_iast (pc := 50) h dX6_goesOut_50 (mA_1 hM).2.1 (mA_1 hM).2.2 ?_
    refine v_nmI (fun I7 => ?_)
    refine v_iinc (pc := 51) h dX6_goesOut_51 1 rfl (w := (i2_3 + (1 : Int32))) rfl (by decide) (lv' := [(2, .int (i2_3 + (1 : Int32))), (0, .ref mo)]) rfl ?_
    refine v_goto (pc := 54) (t := 22) h dX6_goesOut_54 rfl ?_
    refine v_sub [1, 0] rfl ?_
    exact hX5 (i2_3 + (1 : Int32)) I7
set_option maxHeartbeats 4000000 in
theorem tX6_tiresNow {g : Gl} {mo : Nat} {r : Rh} (hM : MStr mo r)  (I : MI) : CtI g yX6_tiresNow cX6_tiresNow 1 (some .int) 4 [.ref mo] I r (pX6_tiresNow mo  I) := by
  refine CtI.mk (lv := [(0, .ref mo)]) (by decide) (Nat.le_of_ble_eq_true rfl) rfl (fun x Q h hr => ?_)
  unfold pX6_tiresNow
  refine v_aload_n (pc := 0) h dX6_tiresNow_0 0 rfl rfl ?_
  refine v_iconst (pc := 1) h dX6_tiresNow_1 (v := 2) rfl ?_
  refine v_iconst (pc := 2) h dX6_tiresNow_2 (v := 1) rfl ?_
  refine v_bipush (pc := 3) h dX6_tiresNow_3 (v := 20) rfl ?_
  refine v_calli (pc := 5) h dX6_tiresNow_5 kX6_318 rfl hM.1 (tX6_lawTells hM (2 : Int32) (1 : Int32) (20 : Int32) I) (by decide) rfl rfl (Nat.le_of_ble_eq_true rfl) rfl (fun r1 I2 => ?_)
  exact v_iret (pc := 8) h hr dX6_tiresNow_8
set_option maxHeartbeats 4000000 in
theorem tX6_brings {g : Gl} {mo : Nat} {r : Rh} (hM : MStr mo r) (a1 : Int32) (I : MI) : CtI g yX6_brings cX6_brings 9 (some .int) 5 [.ref mo, .int a1] I r (pX6_brings mo a1 I) := by
  refine CtI.mk (lv := [(0, .ref mo), (1, .int a1)]) (by decide) (Nat.le_of_ble_eq_true rfl) rfl (fun x Q h hr => ?_)
  unfold pX6_brings
  refine v_aload_n (pc := 0) h dX6_brings_0 0 rfl rfl ?_
  refine v_iload_n (pc := 1) h dX6_brings_1 1 rfl rfl ?_
  refine v_callp (pc := 2) h dX6_brings_2 kX6_136 rfl hM.1 (tX6_letterAt hM a1 I) (by decide) rfl rfl (Nat.le_of_ble_eq_true rfl) rfl (fun r1 => ?_)
  refine v_istore_n (pc := 5) h dX6_brings_5 rfl (by decide) (lv' := [(2, .int r1), (0, .ref mo), (1, .int a1)]) rfl ?_
  refine v_aload_n (pc := 6) h dX6_brings_6 1 rfl rfl ?_
  refine v_getp (pc := 7) h dX6_brings_7 fX6_7 rfl hM.1 (mA_1 hM).1 ?_
  refine v_iload_n (pc := 10) h dX6_brings_10 0 rfl rfl ?_
  refine v_iald (pc := 11) h dX6_brings_11 (mA_1 hM).2.1 (mA_1 hM).2.2 ?_
  refine v_nmi (fun v2 => ?_)
  refine v_istore_n (pc := 12) h dX6_brings_12 rfl (by decide) (lv' := [(3, .int v2), (2, .int r1), (0, .ref mo), (1, .int a1)]) rfl ?_
  refine v_aload_n (pc := 13) h dX6_brings_13 2 rfl rfl ?_
  refine v_getp (pc := 14) h dX6_brings_14 fX6_7 rfl hM.1 (mA_1 hM).1 ?_
  refine v_iload_n (pc := 17) h dX6_brings_17 1 rfl rfl ?_
  refine v_iconst (pc := 18) h dX6_brings_18 (v := 1) rfl ?_
  refine v_iadd (pc := 19) h dX6_brings_19 ?_
  refine v_iald (pc := 20) h dX6_brings_20 (mA_1 hM).2.1 (mA_1 hM).2.2 ?_
  refine v_nmi (fun v3 => ?_)
  refine v_istore (pc := 21) h dX6_brings_21 (by decide) (lv' := [(4, .int v3), (3, .int v2), (2, .int r1), (0, .ref mo), (1, .int a1)]) rfl ?_
  refine v_aload_n (pc := 23) h dX6_brings_23 3 rfl rfl ?_
  refine v_getp (pc := 24) h dX6_brings_24 fX6_7 rfl hM.1 (mA_1 hM).1 ?_
  refine v_iload_n (pc := 27) h dX6_brings_27 2 rfl rfl ?_
  refine v_iconst (pc := 28) h dX6_brings_28 (v := 2) rfl ?_
  refine v_iadd (pc := 29) h dX6_brings_29 ?_
  refine v_iald (pc := 30) h dX6_brings_30 (mA_1 hM).2.1 (mA_1 hM).2.2 ?_
  refine v_nmi (fun v4 => ?_)
  refine v_istore (pc := 31) h dX6_brings_31 (by decide) (lv' := [(5, .int v4), (4, .int v3), (3, .int v2), (2, .int r1), (0, .ref mo), (1, .int a1)]) rfl ?_
  refine v_aload_n (pc := 33) h dX6_brings_33 4 rfl rfl ?_
  refine v_getp (pc := 34) h dX6_brings_34 fX6_7 rfl hM.1 (mA_1 hM).1 ?_
  refine v_iload_n (pc := 37) h dX6_brings_37 3 rfl rfl ?_
  refine v_iconst (pc := 38) h dX6_brings_38 (v := 3) rfl ?_
  refine v_iadd (pc := 39) h dX6_brings_39 ?_
  refine v_iald (pc := 40) h dX6_brings_40 (mA_1 hM).2.1 (mA_1 hM).2.2 ?_
  refine v_nmi (fun v5 => ?_)
  refine v_istore (pc := 41) h dX6_brings_41 (by decide) (lv' := [(6, .int v5), (5, .int v4), (4, .int v3), (3, .int v2), (2, .int r1), (0, .ref mo), (1, .int a1)]) rfl ?_
  refine v_aload_n (pc := 43) h dX6_brings_43 5 rfl rfl ?_
  refine v_getp (pc := 44) h dX6_brings_44 fX6_7 rfl hM.1 (mA_1 hM).1 ?_
  refine v_iload_n (pc := 47) h dX6_brings_47 4 rfl rfl ?_
  refine v_iconst (pc := 48) h dX6_brings_48 (v := 4) rfl ?_
  refine v_iadd (pc := 49) h dX6_brings_49 ?_
  refine v_iald (pc := 50) h dX6_brings_50 (mA_1 hM).2.1 (mA_1 hM).2.2 ?_
  refine v_nmi (fun v6 => ?_)
  refine v_istore (pc := 51) h dX6_brings_51 (by decide) (lv' := [(7, .int v6), (6, .int v5), (5, .int v4), (4, .int v3), (3, .int v2), (2, .int r1), (0, .ref mo), (1, .int a1)]) rfl ?_
  refine v_aload_n (pc := 53) h dX6_brings_53 6 rfl rfl ?_
  refine v_iload_n (pc := 54) h dX6_brings_54 7 rfl rfl ?_
  refine v_callv (pc := 55) h dX6_brings_55 kX6_341 rfl hM.1 (tX6_asksOf hM a1 I) (by decide) rfl rfl (Nat.le_of_ble_eq_true rfl) rfl (fun I7 => ?_)
  refine v_iconst (pc := 58) h dX6_brings_58 (v := (-1)) rfl ?_
  refine v_istore (pc := 59) h dX6_brings_59 (by decide) (lv' := [(8, .int (-1 : Int32)), (7, .int v6), (6, .int v5), (5, .int v4), (4, .int v3), (3, .int v2), (2, .int r1), (0, .ref mo), (1, .int a1)]) rfl ?_
  refine v_aload_n (pc := 61) h dX6_brings_61 7 rfl rfl ?_
  refine v_aload_n (pc := 62) h dX6_brings_62 7 rfl rfl ?_
  refine v_calli (pc := 63) h dX6_brings_63 kX6_344 rfl hM.1 (tX6_opensNow hM I7) (by decide) rfl rfl (Nat.le_of_ble_eq_true rfl) rfl (fun r8 I9 => ?_)
  refine v_calli (pc := 66) h dX6_brings_66 kX6_347 rfl hM.1 (tX6_isOpen hM r8 I9) (by decide) rfl rfl (Nat.le_of_ble_eq_true rfl) rfl (fun r10 I11 => ?_)
  refine v_jn2 (fun v8_12 I13 => V g x 9 (0, 0) 146 [(0, .ref mo), (4, .int v3), (5, .int v4), (6, .int v5), (7, .int v6), (8, .int v8_12)] [] I13 r) (fun k14 hk14 => ?_) (fun v8_12 I13 => ?_)
  · refine v_if_eq (pc := 69) (t := 138) h dX6_brings_69 rfl (fun _ => ?_) (fun _ => ?_)
    · refine v_aload_n (pc := 138) h dX6_brings_138 7 rfl rfl ?_
      refine v_iconst (pc := 139) h dX6_brings_139 (v := 2) rfl ?_
      refine v_iload_n (pc := 140) h dX6_brings_140 5 rfl rfl ?_
      refine v_iload (pc := 141) h dX6_brings_141 4 rfl ?_
      refine v_callv (pc := 143) h dX6_brings_143 kX6_325 rfl hM.1 (tX6_notes hM (2 : Int32) v2 v3 I11) (by decide) rfl rfl (Nat.le_of_ble_eq_true rfl) rfl (fun I15 => ?_)
      refine v_sub [7, 4, 3, 2, 1, 0] rfl ?_
      exact hk14 (-1 : Int32) I15
    · refine v_aload_n (pc := 72) h dX6_brings_72 7 rfl rfl ?_
      refine v_iload_n (pc := 73) h dX6_brings_73 8 rfl rfl ?_
      refine v_callv (pc := 74) h dX6_brings_74 kX6_341 rfl hM.1 (tX6_asksOf hM a1 I11) (by decide) rfl rfl (Nat.le_of_ble_eq_true rfl) rfl (fun I16 => ?_)
      refine v_iload (pc := 77) h dX6_brings_77 3 rfl ?_
      refine v_iconst (pc := 79) h dX6_brings_79 (v := 1) rfl ?_
      refine v_jn2 (fun t17 I18 => V g x 9 (0, 0) 108 [(0, .ref mo), (1, .int a1), (3, .int v2), (4, .int v3), (5, .int v4), (6, .int v5), (7, .int v6)] [.int t17] I18 r) (fun k19 hk19 => ?_) (fun t17 I18 => ?_)
      · refine v_icmp_ne (pc := 80) (t := 104) h dX6_brings_80 rfl (fun _ => ?_) (fun _ => ?_)
        · refine v_aload_n (pc := 104) h dX6_brings_104 7 rfl rfl ?_
          refine v_calli (pc := 105) h dX6_brings_105 kX6_350 rfl hM.1 (tX6_givesNow hM I16) (by decide) rfl rfl (Nat.le_of_ble_eq_true rfl) rfl (fun r20 I21 => ?_)
          refine v_sub [7, 8, 5, 4, 3, 2, 1] rfl ?_
          exact hk19 r20 I21
        · refine v_aload_n (pc := 83) h dX6_brings_83 7 rfl rfl ?_
          refine v_aload_n (pc := 84) h dX6_brings_84 7 rfl rfl ?_
          refine v_calli (pc := 85) h dX6_brings_85 kX6_350 rfl hM.1 (tX6_givesNow hM I16) (by decide) rfl rfl (Nat.le_of_ble_eq_true rfl) rfl (fun r22 I23 => ?_)
          refine v_aload_n (pc := 88) h dX6_brings_88 7 rfl rfl ?_
          refine v_getp (pc := 89) h dX6_brings_89 fX6_7 rfl hM.1 (mA_1 hM).1 ?_
          refine v_bipush (pc := 92) h dX6_brings_92 (v := 30) rfl ?_
          refine v_iload (pc := 94) h dX6_brings_94 4 rfl ?_
          refine v_iadd (pc := 96) h dX6_brings_96 ?_
          refine v_iald (pc := 97) h dX6_brings_97 (mA_1 hM).2.1 (mA_1 hM).2.2 ?_
          refine v_callp (pc := 98) h dX6_brings_98 kX6_353 rfl hM.1 (tX6_lesser hM r22 (I23 (mo + 1) ((30 : Int32) + v3).toNatClampNeg) I23) (by decide) rfl rfl (Nat.le_of_ble_eq_true rfl) rfl (fun r24 => ?_)
          refine v_goto (pc := 101) (t := 108) h dX6_brings_101 rfl ?_
          refine v_sub [7, 8, 5, 4, 3, 2, 1] rfl ?_
          exact hk19 r24 I23
      · refine v_istore (pc := 108) h dX6_brings_108 (by decide) (lv' := [(8, .int t17), (0, .ref mo), (1, .int a1), (3, .int v2), (4, .int v3), (5, .int v4), (6, .int v5), (7, .int v6)]) rfl ?_
        refine v_aload_n (pc := 110) h dX6_brings_110 1 rfl rfl ?_
        refine v_iload (pc := 111) h dX6_brings_111 4 rfl ?_
        refine v_iload (pc := 113) h dX6_brings_113 5 rfl ?_
        refine v_iload (pc := 115) h dX6_brings_115 6 rfl ?_
        refine v_iload (pc := 117) h dX6_brings_117 0 rfl ?_
        refine v_callv (pc := 119) h dX6_brings_119 kX6_356 rfl hM.1 (tX6_isGiven hM v3 v4 v5 t17 I18) (by decide) rfl rfl (Nat.le_of_ble_eq_true rfl) rfl (fun I25 => ?_)
        refine v_aload_n (pc := 122) h dX6_brings_122 1 rfl rfl ?_
        refine v_iload_n (pc := 123) h dX6_brings_123 2 rfl rfl ?_
        refine v_callv (pc := 124) h dX6_brings_124 kX6_359 rfl hM.1 (tX6_goesOut hM a1 I25) (by decide) rfl rfl (Nat.le_of_ble_eq_true rfl) rfl (fun I26 => ?_)
        refine v_aload_n (pc := 127) h dX6_brings_127 1 rfl rfl ?_
        refine v_iconst (pc := 128) h dX6_brings_128 (v := 1) rfl ?_
        refine v_iload_n (pc := 129) h dX6_brings_129 3 rfl rfl ?_
        refine v_iload (pc := 130) h dX6_brings_130 0 rfl ?_
        refine v_callv (pc := 132) h dX6_brings_132 kX6_325 rfl hM.1 (tX6_notes hM (1 : Int32) v2 t17 I26) (by decide) rfl rfl (Nat.le_of_ble_eq_true rfl) rfl (fun I27 => ?_)
        refine v_goto (pc := 135) (t := 146) h dX6_brings_135 rfl ?_
        refine v_sub [1, 4, 5, 6, 7, 0] rfl ?_
        exact hk14 t17 I27
  · refine v_aload_n (pc := 146) h dX6_brings_146 0 rfl rfl ?_
    refine v_iload (pc := 147) h dX6_brings_147 1 rfl ?_
    refine v_iload (pc := 149) h dX6_brings_149 2 rfl ?_
    refine v_iload (pc := 151) h dX6_brings_151 3 rfl ?_
    refine v_iload (pc := 153) h dX6_brings_153 4 rfl ?_
    refine v_callv (pc := 155) h dX6_brings_155 kX6_321 rfl hM.1 (tX6_asks hM v3 v4 v5 v6 I13) (by decide) rfl rfl (Nat.le_of_ble_eq_true rfl) rfl (fun I28 => ?_)
    refine v_aload_n (pc := 158) h dX6_brings_158 0 rfl rfl ?_
    refine v_getp (pc := 159) h dX6_brings_159 fX6_7 rfl hM.1 (mA_1 hM).1 ?_
    refine v_iconst (pc := 162) h dX6_brings_162 (v := 3) rfl ?_
    refine v_aload_n (pc := 163) h dX6_brings_163 0 rfl rfl ?_
    refine v_bipush (pc := 164) h dX6_brings_164 (v := 99) rfl ?_
    refine v_aload_n (pc := 166) h dX6_brings_166 0 rfl rfl ?_
    refine v_getp (pc := 167) h dX6_brings_167 fX6_7 rfl hM.1 (mA_1 hM).1 ?_
    refine v_iconst (pc := 170) h dX6_brings_170 (v := 3) rfl ?_
    refine v_ialdL (pc := 171) h dX6_brings_171 (mA_1 hM).2.1 (mA_1 hM).2.2 (vpd rfl) (k := 3) rfl ?_
    refine v_aload_n (pc := 172) h dX6_brings_172 0 rfl rfl ?_
    refine v_calli (pc := 173) h dX6_brings_173 kX6_362 rfl hM.1 (tX6_tiresNow hM I28) (by decide) rfl rfl (Nat.le_of_ble_eq_true rfl) rfl (fun r29 I30 => ?_)
    refine v_iadd (pc := 176) h dX6_brings_176 ?_
    refine v_callp (pc := 177) h dX6_brings_177 kX6_353 rfl hM.1 (tX6_lesser hM (99 : Int32) ((I28 (mo + 1) 3) + r29) I30) (by decide) rfl rfl (Nat.le_of_ble_eq_true rfl) rfl (fun r31 => ?_)
    refine v_iastL (pc := 180) h dX6_brings_180 (mA_1 hM).2.1 (mA_1 hM).2.2 (vpd rfl) (k := 3) rfl ?_
    refine v_nmI (fun I32 => ?_)
    refine v_iload (pc := 181) h dX6_brings_181 5 rfl ?_
    exact v_iret (pc := 183) h hr dX6_brings_183
set_option maxHeartbeats 4000000 in
theorem tX6_bring {g : Gl} {mo : Nat} {r : Rh} (hM : MStr mo r) (a1 : Int32) (I : MI) : CtI g yX6_bring cX6_bring 3 (some .int) 6 [.ref mo, .int a1] I r (pX6_bring mo a1 I) := by
  refine CtI.mk (lv := [(0, .ref mo), (1, .int a1)]) (by decide) (Nat.le_of_ble_eq_true rfl) rfl (fun x Q h hr => ?_)
  unfold pX6_bring
  refine v_aload_n (pc := 0) h dX6_bring_0 0 rfl rfl ?_
  refine v_iconst (pc := 1) h dX6_bring_1 (v := 0) rfl ?_
  refine v_puti (pc := 2) h dX6_bring_2 fX6_116 rfl hM.1 ?_
  refine v_nmI (fun I1 => ?_)
  refine v_aload_n (pc := 5) h dX6_bring_5 0 rfl rfl ?_
  refine v_callp (pc := 6) h dX6_bring_6 kX6_312 rfl hM.1 (tX6_health hM I1) (by decide) rfl rfl (Nat.le_of_ble_eq_true rfl) rfl (fun r2 => ?_)
  refine v_if_ne (pc := 9) (t := 15) h dX6_bring_9 rfl (fun _ => ?_) (fun _ => ?_)
  · refine v_iconst (pc := 15) h dX6_bring_15 (v := 0) rfl ?_
    refine v_istore_n (pc := 16) h dX6_bring_16 rfl (by decide) (lv' := [(2, .int (0 : Int32)), (0, .ref mo), (1, .int a1)]) rfl ?_
    refine v_sub [1, 2, 0] rfl ?_
    refine L1.run (lv := fun i2_3 => [(0, .ref mo), (1, .int a1), (2, .int i2_3)]) (st := fun i2_3 => []) (Im := fun i2_3 => I1) (r := fun i2_3 => r) (fun X4 hX4 i2_3 => ?_) (0 : Int32)
    refine v_iload_n (pc := 17) h dX6_bring_17 2 rfl rfl ?_
    refine v_aload_n (pc := 18) h dX6_bring_18 0 rfl rfl ?_
    refine v_getp (pc := 19) h dX6_bring_19 fX6_7 rfl hM.1 (mA_1 hM).1 ?_
    refine v_bipush (pc := 22) h dX6_bring_22 (v := 10) rfl ?_
    refine v_ialdL (pc := 24) h dX6_bring_24 (mA_1 hM).2.1 (mA_1 hM).2.2 (vpd rfl) (k := 10) rfl ?_
    refine v_icmp_ge (pc := 25) (t := 61) h dX6_bring_25 rfl (fun _ => ?_) (fun _ => ?_)
    · refine v_bipush (pc := 61) h dX6_bring_61 (v := (-2)) rfl ?_
      exact v_iret (pc := 63) h hr dX6_bring_63
    · refine v_aload_n (pc := 28) h dX6_bring_28 0 rfl rfl ?_
      refine v_getp (pc := 29) h dX6_bring_29 fX6_7 rfl hM.1 (mA_1 hM).1 ?_
      refine v_aload_n (pc := 32) h dX6_bring_32 0 rfl rfl ?_
      refine v_iload_n (pc := 33) h dX6_bring_33 2 rfl rfl ?_
      refine v_callp (pc := 34) h dX6_bring_34 kX6_136 rfl hM.1 (tX6_letterAt hM i2_3 I1) (by decide) rfl rfl (Nat.le_of_ble_eq_true rfl) rfl (fun r5 => ?_)
      refine v_iald (pc := 37) h dX6_bring_37 (mA_1 hM).2.1 (mA_1 hM).2.2 ?_
      refine v_iload_n (pc := 38) h dX6_bring_38 1 rfl rfl ?_
      refine v_icmp_eq (pc := 39) (t := 45) h dX6_bring_39 rfl (fun _ => ?_) (fun _ => ?_)
      · refine v_aload_n (pc := 45) h dX6_bring_45 0 rfl rfl ?_
        refine v_callv (pc := 46) h dX6_bring_46 kX6_365 rfl hM.1 (tX6_keepsAhead hM I1) (by decide) rfl rfl (Nat.le_of_ble_eq_true rfl) rfl (fun I6 => ?_)
        refine v_aload_n (pc := 49) h dX6_bring_49 0 rfl rfl ?_
        refine v_iload_n (pc := 50) h dX6_bring_50 2 rfl rfl ?_
        refine v_calli (pc := 51) h dX6_bring_51 kX6_371 rfl hM.1 (tX6_brings hM i2_3 I6) (by decide) rfl rfl (Nat.le_of_ble_eq_true rfl) rfl (fun r7 I8 => ?_)
        exact v_iret (pc := 54) h hr dX6_bring_54
      · refine v_goto (pc := 42) (t := 55) h dX6_bring_42 rfl ?_
        refine v_iinc (pc := 55) h dX6_bring_55 2 rfl (w := (i2_3 + (1 : Int32))) rfl (by decide) (lv' := [(2, .int (i2_3 + (1 : Int32))), (0, .ref mo), (1, .int a1)]) rfl ?_
        refine v_goto (pc := 58) (t := 17) h dX6_bring_58 rfl ?_
        refine v_sub [1, 2, 0] rfl ?_
        exact hX4 (i2_3 + (1 : Int32))
  · refine v_bipush (pc := 12) h dX6_bring_12 (v := (-2)) rfl ?_
    exact v_iret (pc := 14) h hr dX6_bring_14
set_option maxHeartbeats 4000000 in
theorem tX6_rain {g : Gl} {mo : Nat} {r : Rh} (hM : MStr mo r) (a1 : Int32) (I : MI) : CtI g yX6_rain cX6_rain 2 (some .boolean) 1 [.ref mo, .int a1] I r (pX6_rain mo a1 I) := by
  refine CtI.mk (lv := [(0, .ref mo), (1, .int a1)]) (by decide) (Nat.le_of_ble_eq_true rfl) rfl (fun x Q h hr => ?_)
  unfold pX6_rain
  refine v_aload_n (pc := 0) h dX6_rain_0 0 rfl rfl ?_
  refine v_iconst (pc := 1) h dX6_rain_1 (v := 0) rfl ?_
  refine v_puti (pc := 2) h dX6_rain_2 fX6_116 rfl hM.1 ?_
  refine v_nmI (fun I1 => ?_)
  refine v_aload_n (pc := 5) h dX6_rain_5 0 rfl rfl ?_
  refine v_iload_n (pc := 6) h dX6_rain_6 1 rfl rfl ?_
  refine v_iconst (pc := 7) h dX6_rain_7 (v := 0) rfl ?_
  refine v_bipush (pc := 8) h dX6_rain_8 (v := 9) rfl ?_
  refine v_callp (pc := 10) h dX6_rain_10 kX6_143 rfl hM.1 (tX6_isIn hM a1 (0 : Int32) (9 : Int32) I1) (by decide) rfl rfl (Nat.le_of_ble_eq_true rfl) rfl (fun r2 => ?_)
  refine v_if_ne (pc := 13) (t := 18) h dX6_rain_13 rfl (fun _ => ?_) (fun _ => ?_)
  · refine v_aload_n (pc := 18) h dX6_rain_18 0 rfl rfl ?_
    refine v_callv (pc := 19) h dX6_rain_19 kX6_365 rfl hM.1 (tX6_keepsAhead hM I1) (by decide) rfl rfl (Nat.le_of_ble_eq_true rfl) rfl (fun I3 => ?_)
    refine v_aload_n (pc := 22) h dX6_rain_22 0 rfl rfl ?_
    refine v_getp (pc := 23) h dX6_rain_23 fX6_7 rfl hM.1 (mA_1 hM).1 ?_
    refine v_bipush (pc := 26) h dX6_rain_26 (v := 8) rfl ?_
    refine v_iload_n (pc := 28) h dX6_rain_28 1 rfl rfl ?_
    refine v_iastL (pc := 29) h dX6_rain_29 (mA_1 hM).2.1 (mA_1 hM).2.2 (vpd rfl) (k := 8) rfl ?_
    refine v_nmI (fun I4 => ?_)
    refine v_iconst (pc := 30) h dX6_rain_30 (v := 1) rfl ?_
    exact v_zret (pc := 31) h hr (Or.inr rfl) dX6_rain_31
  · refine v_iconst (pc := 16) h dX6_rain_16 (v := 0) rfl ?_
    exact v_zret (pc := 17) h hr (Or.inl rfl) dX6_rain_17
set_option maxHeartbeats 4000000 in
theorem tX6_morning {g : Gl} {mo : Nat} {r : Rh} (hM : MStr mo r)  (I : MI) : CtV g yX6_morning cX6_morning 2 2 [.ref mo] I r (pX6_morning mo  I) := by
  refine CtV.mk (lv := [(0, .ref mo)]) (by decide) (Nat.le_of_ble_eq_true rfl) rfl (fun x Q h hr => ?_)
  unfold pX6_morning
  refine v_aload_n (pc := 0) h dX6_morning_0 0 rfl rfl ?_
  refine v_getp (pc := 1) h dX6_morning_1 fX6_7 rfl hM.1 (mA_1 hM).1 ?_
  refine v_iconst (pc := 4) h dX6_morning_4 (v := 3) rfl ?_
  refine v_iconst (pc := 5) h dX6_morning_5 (v := 0) rfl ?_
  refine v_iastL (pc := 6) h dX6_morning_6 (mA_1 hM).2.1 (mA_1 hM).2.2 (vpd rfl) (k := 3) rfl ?_
  refine v_nmI (fun I1 => ?_)
  refine v_iconst (pc := 7) h dX6_morning_7 (v := 0) rfl ?_
  refine v_istore_n (pc := 8) h dX6_morning_8 rfl (by decide) (lv' := [(1, .int (0 : Int32)), (0, .ref mo)]) rfl ?_
  refine v_sub [1, 0] rfl ?_
  refine L2.run (lv := fun i1_2 I3 => [(0, .ref mo), (1, .int i1_2)]) (st := fun i1_2 I3 => []) (Im := fun i1_2 I3 => I3) (r := fun i1_2 I3 => r) (fun X4 hX4 i1_2 I3 => ?_) (0 : Int32) I1
  refine v_iload_n (pc := 9) h dX6_morning_9 1 rfl rfl ?_
  refine v_iconst (pc := 10) h dX6_morning_10 (v := 4) rfl ?_
  refine v_aload_n (pc := 11) h dX6_morning_11 0 rfl rfl ?_
  refine v_geti (pc := 12) h dX6_morning_12 fX6_288 rfl hM.1 ?_
  refine v_imul (pc := 15) h dX6_morning_15 ?_
  refine v_icmp_ge (pc := 16) (t := 118) h dX6_morning_16 rfl (fun _ => ?_) (fun _ => ?_)
  · exact v_vret (pc := 118) h hr dX6_morning_118
  · refine v_aload_n (pc := 19) h dX6_morning_19 0 rfl rfl ?_
    refine v_getp (pc := 20) h dX6_morning_20 fX6_59 rfl hM.1 (mA_33 hM).1 ?_
    refine v_iload_n (pc := 23) h dX6_morning_23 1 rfl rfl ?_
    refine v_iald (pc := 24) h dX6_morning_24 (mA_33 hM).2.1 (mA_33 hM).2.2 ?_
    refine v_aload_n (pc := 25) h dX6_morning_25 0 rfl rfl ?_
    refine v_getp (pc := 26) h dX6_morning_26 fX6_7 rfl hM.1 (mA_1 hM).1 ?_
    refine v_iconst (pc := 29) h dX6_morning_29 (v := 0) rfl ?_
    refine v_ialdL (pc := 30) h dX6_morning_30 (mA_1 hM).2.1 (mA_1 hM).2.2 (vpd rfl) (k := 0) rfl ?_
    refine v_jn1 (fun I5 => V g x 2 (0, 0) 111 [(0, .ref mo), (1, .int i1_2)] [] I5 r) (fun k6 hk6 => ?_) (fun I5 => ?_)
    · refine v_icmp_eq (pc := 31) (t := 37) h dX6_morning_31 rfl (fun _ => ?_) (fun _ => ?_)
      · refine v_aload_n (pc := 37) h dX6_morning_37 0 rfl rfl ?_
        refine v_getp (pc := 38) h dX6_morning_38 fX6_7 rfl hM.1 (mA_1 hM).1 ?_
        refine v_bipush (pc := 41) h dX6_morning_41 (v := 10) rfl ?_
        refine v_ialdL (pc := 43) h dX6_morning_43 (mA_1 hM).2.1 (mA_1 hM).2.2 (vpd rfl) (k := 10) rfl ?_
        refine v_bipush (pc := 44) h dX6_morning_44 (v := 24) rfl ?_
        refine v_icmp_ge (pc := 46) (t := 81) h dX6_morning_46 rfl (fun _ => ?_) (fun _ => ?_)
        · refine v_aload_n (pc := 81) h dX6_morning_81 0 rfl rfl ?_
          refine v_getp (pc := 82) h dX6_morning_82 fX6_7 rfl hM.1 (mA_1 hM).1 ?_
          refine v_bipush (pc := 85) h dX6_morning_85 (v := 7) rfl ?_
          refine v_aload_n (pc := 87) h dX6_morning_87 0 rfl rfl ?_
          refine v_getp (pc := 88) h dX6_morning_88 fX6_7 rfl hM.1 (mA_1 hM).1 ?_
          refine v_bipush (pc := 91) h dX6_morning_91 (v := 7) rfl ?_
          refine v_ialdL (pc := 93) h dX6_morning_93 (mA_1 hM).2.1 (mA_1 hM).2.2 (vpd rfl) (k := 7) rfl ?_
          refine v_iconst (pc := 94) h dX6_morning_94 (v := 1) rfl ?_
          refine v_iadd (pc := 95) h dX6_morning_95 ?_
          refine v_iastL (pc := 96) h dX6_morning_96 (mA_1 hM).2.1 (mA_1 hM).2.2 (vpd rfl) (k := 7) rfl ?_
          refine v_nmI (fun I7 => ?_)
          refine v_aload_n (pc := 97) h dX6_morning_97 0 rfl rfl ?_
          refine v_iconst (pc := 98) h dX6_morning_98 (v := 3) rfl ?_
          refine v_iconst (pc := 99) h dX6_morning_99 (v := (-1)) rfl ?_
          refine v_aload_n (pc := 100) h dX6_morning_100 0 rfl rfl ?_
          refine v_getp (pc := 101) h dX6_morning_101 fX6_59 rfl hM.1 (mA_33 hM).1 ?_
          refine v_iload_n (pc := 104) h dX6_morning_104 1 rfl rfl ?_
          refine v_iconst (pc := 105) h dX6_morning_105 (v := 1) rfl ?_
          refine v_iadd (pc := 106) h dX6_morning_106 ?_
          refine v_iald (pc := 107) h dX6_morning_107 (mA_33 hM).2.1 (mA_33 hM).2.2 ?_
          refine v_callv (pc := 108) h dX6_morning_108 kX6_325 rfl hM.1 (tX6_notes hM (3 : Int32) (-1 : Int32) (I7 (mo + 16) (i1_2 + (1 : Int32)).toNatClampNeg) I7) (by decide) rfl rfl (Nat.le_of_ble_eq_true rfl) rfl (fun I8 => ?_)
          exact hk6 I8
        · refine v_aload_n (pc := 49) h dX6_morning_49 0 rfl rfl ?_
          refine v_aload_n (pc := 50) h dX6_morning_50 0 rfl rfl ?_
          refine v_getp (pc := 51) h dX6_morning_51 fX6_59 rfl hM.1 (mA_33 hM).1 ?_
          refine v_iload_n (pc := 54) h dX6_morning_54 1 rfl rfl ?_
          refine v_iconst (pc := 55) h dX6_morning_55 (v := 1) rfl ?_
          refine v_iadd (pc := 56) h dX6_morning_56 ?_
          refine v_iald (pc := 57) h dX6_morning_57 (mA_33 hM).2.1 (mA_33 hM).2.2 ?_
          refine v_aload_n (pc := 58) h dX6_morning_58 0 rfl rfl ?_
          refine v_getp (pc := 59) h dX6_morning_59 fX6_59 rfl hM.1 (mA_33 hM).1 ?_
          refine v_iload_n (pc := 62) h dX6_morning_62 1 rfl rfl ?_
          refine v_iconst (pc := 63) h dX6_morning_63 (v := 2) rfl ?_
          refine v_iadd (pc := 64) h dX6_morning_64 ?_
          refine v_iald (pc := 65) h dX6_morning_65 (mA_33 hM).2.1 (mA_33 hM).2.2 ?_
          refine v_aload_n (pc := 66) h dX6_morning_66 0 rfl rfl ?_
          refine v_getp (pc := 67) h dX6_morning_67 fX6_59 rfl hM.1 (mA_33 hM).1 ?_
          refine v_iload_n (pc := 70) h dX6_morning_70 1 rfl rfl ?_
          refine v_iconst (pc := 71) h dX6_morning_71 (v := 3) rfl ?_
          refine v_iadd (pc := 72) h dX6_morning_72 ?_
          refine v_iald (pc := 73) h dX6_morning_73 (mA_33 hM).2.1 (mA_33 hM).2.2 ?_
          refine v_calli (pc := 74) h dX6_morning_74 kX6_368 rfl hM.1 (tX6_comes hM (I3 (mo + 16) (i1_2 + (1 : Int32)).toNatClampNeg) (I3 (mo + 16) (i1_2 + (2 : Int32)).toNatClampNeg) (I3 (mo + 16) (i1_2 + (3 : Int32)).toNatClampNeg) I3) (by decide) rfl rfl (Nat.le_of_ble_eq_true rfl) rfl (fun r9 I10 => ?_)
          refine v_pop (pc := 77) h dX6_morning_77 rfl ?_
          refine v_goto (pc := 78) (t := 111) h dX6_morning_78 rfl ?_
          exact hk6 I10
      · refine v_goto (pc := 34) (t := 111) h dX6_morning_34 rfl ?_
        exact hk6 I3
    · refine v_iload_n (pc := 111) h dX6_morning_111 1 rfl rfl ?_
      refine v_iconst (pc := 112) h dX6_morning_112 (v := 4) rfl ?_
      refine v_iadd (pc := 113) h dX6_morning_113 ?_
      refine v_nmi (fun v11 => ?_)
      refine v_istore_n (pc := 114) h dX6_morning_114 rfl (by decide) (lv' := [(1, .int v11), (0, .ref mo)]) rfl ?_
      refine v_goto (pc := 115) (t := 9) h dX6_morning_115 rfl ?_
      refine v_sub [1, 0] rfl ?_
      exact hX4 v11 I5
set_option maxHeartbeats 4000000 in
theorem tX6_doorOf {g : Gl} {mo : Nat} {r : Rh} (hM : MStr mo r) (a1 : Int32) (I : MI) : CtP g yX6_doorOf cX6_doorOf 2 (some .int) 1 [.ref mo, .int a1] I r (pX6_doorOf mo a1 I) := by
  refine CtP.mk (lv := [(0, .ref mo), (1, .int a1)]) (by decide) (Nat.le_of_ble_eq_true rfl) rfl (fun x Q h hr => ?_)
  unfold pX6_doorOf
  refine v_aload_n (pc := 0) h dX6_doorOf_0 0 rfl rfl ?_
  refine v_getp (pc := 1) h dX6_doorOf_1 fX6_7 rfl hM.1 (mA_1 hM).1 ?_
  refine v_aload_n (pc := 4) h dX6_doorOf_4 0 rfl rfl ?_
  refine v_iload_n (pc := 5) h dX6_doorOf_5 1 rfl rfl ?_
  refine v_callp (pc := 6) h dX6_doorOf_6 kX6_136 rfl hM.1 (tX6_letterAt hM a1 I) (by decide) rfl rfl (Nat.le_of_ble_eq_true rfl) rfl (fun r1 => ?_)
  refine v_iconst (pc := 9) h dX6_doorOf_9 (v := 1) rfl ?_
  refine v_iadd (pc := 10) h dX6_doorOf_10 ?_
  refine v_iald (pc := 11) h dX6_doorOf_11 (mA_1 hM).2.1 (mA_1 hM).2.2 ?_
  exact v_iretP (pc := 12) h hr dX6_doorOf_12
set_option maxHeartbeats 4000000 in
theorem tX6_walksTo {g : Gl} {mo : Nat} {r : Rh} (hM : MStr mo r) (a1 : Int32) (I : MI) : CtI g yX6_walksTo cX6_walksTo 5 (some .int) 6 [.ref mo, .int a1] I r (pX6_walksTo mo a1 I) := by
  refine CtI.mk (lv := [(0, .ref mo), (1, .int a1)]) (by decide) (Nat.le_of_ble_eq_true rfl) rfl (fun x Q h hr => ?_)
  unfold pX6_walksTo
  refine v_iconst (pc := 0) h dX6_walksTo_0 (v := 0) rfl ?_
  refine v_istore_n (pc := 1) h dX6_walksTo_1 rfl (by decide) (lv' := [(2, .int (0 : Int32)), (0, .ref mo), (1, .int a1)]) rfl ?_
  refine v_iconst (pc := 2) h dX6_walksTo_2 (v := 0) rfl ?_
  refine v_istore_n (pc := 3) h dX6_walksTo_3 rfl (by decide) (lv' := [(3, .int (0 : Int32)), (2, .int (0 : Int32)), (0, .ref mo), (1, .int a1)]) rfl ?_
  refine v_sub [2, 3, 1, 0] rfl ?_
  refine L3.run (lv := fun i2_1 i3_2 I3 => [(0, .ref mo), (1, .int a1), (2, .int i2_1), (3, .int i3_2)]) (st := fun i2_1 i3_2 I3 => []) (Im := fun i2_1 i3_2 I3 => I3) (r := fun i2_1 i3_2 I3 => r) (fun X4 hX4 i2_1 i3_2 I3 => ?_) (0 : Int32) (0 : Int32) I
  refine v_iload_n (pc := 4) h dX6_walksTo_4 3 rfl rfl ?_
  refine v_aload_n (pc := 5) h dX6_walksTo_5 0 rfl rfl ?_
  refine v_getp (pc := 6) h dX6_walksTo_6 fX6_7 rfl hM.1 (mA_1 hM).1 ?_
  refine v_bipush (pc := 9) h dX6_walksTo_9 (v := 10) rfl ?_
  refine v_ialdL (pc := 11) h dX6_walksTo_11 (mA_1 hM).2.1 (mA_1 hM).2.2 (vpd rfl) (k := 10) rfl ?_
  refine v_icmp_ge (pc := 12) (t := 89) h dX6_walksTo_12 rfl (fun _ => ?_) (fun _ => ?_)
  · refine v_iload_n (pc := 89) h dX6_walksTo_89 2 rfl rfl ?_
    exact v_iret (pc := 90) h hr dX6_walksTo_90
  · refine v_aload_n (pc := 15) h dX6_walksTo_15 0 rfl rfl ?_
    refine v_iload_n (pc := 16) h dX6_walksTo_16 3 rfl rfl ?_
    refine v_callp (pc := 17) h dX6_walksTo_17 kX6_140 rfl hM.1 (tX6_doorOf hM i3_2 I3) (by decide) rfl rfl (Nat.le_of_ble_eq_true rfl) rfl (fun r5 => ?_)
    refine v_iload_n (pc := 20) h dX6_walksTo_20 1 rfl rfl ?_
    refine v_jn2 (fun t6 I7 => V g x 5 (0, 0) 56 [(0, .ref mo), (1, .int a1), (2, .int i2_1), (3, .int i3_2)] [.int t6] I7 r) (fun k8 hk8 => ?_) (fun t6 I7 => ?_)
    · refine v_jn1 (fun I9 => V g x 5 (0, 0) 55 [(0, .ref mo), (1, .int a1), (2, .int i2_1), (3, .int i3_2)] [] I9 r) (fun k10 hk10 => ?_) (fun I9 => ?_)
      · refine v_icmp_ne (pc := 21) (t := 55) h dX6_walksTo_21 rfl (fun _ => ?_) (fun _ => ?_)
        · exact hk10 I3
        · refine v_aload_n (pc := 24) h dX6_walksTo_24 0 rfl rfl ?_
          refine v_getp (pc := 25) h dX6_walksTo_25 fX6_7 rfl hM.1 (mA_1 hM).1 ?_
          refine v_iconst (pc := 28) h dX6_walksTo_28 (v := 3) rfl ?_
          refine v_ialdL (pc := 29) h dX6_walksTo_29 (mA_1 hM).2.1 (mA_1 hM).2.2 (vpd rfl) (k := 3) rfl ?_
          refine v_bipush (pc := 30) h dX6_walksTo_30 (v := 24) rfl ?_
          refine v_icmp_ge (pc := 32) (t := 55) h dX6_walksTo_32 rfl (fun _ => ?_) (fun _ => ?_)
          · exact hk10 I3
          · refine v_aload_n (pc := 35) h dX6_walksTo_35 0 rfl rfl ?_
            refine v_callp (pc := 36) h dX6_walksTo_36 kX6_312 rfl hM.1 (tX6_health hM I3) (by decide) rfl rfl (Nat.le_of_ble_eq_true rfl) rfl (fun r11 => ?_)
            refine v_if_le (pc := 39) (t := 55) h dX6_walksTo_39 rfl (fun _ => ?_) (fun _ => ?_)
            · exact hk10 I3
            · refine v_aload_n (pc := 42) h dX6_walksTo_42 0 rfl rfl ?_
              refine v_iload_n (pc := 43) h dX6_walksTo_43 3 rfl rfl ?_
              refine v_calli (pc := 44) h dX6_walksTo_44 kX6_371 rfl hM.1 (tX6_brings hM i3_2 I3) (by decide) rfl rfl (Nat.le_of_ble_eq_true rfl) rfl (fun r12 I13 => ?_)
              refine v_iconst (pc := 47) h dX6_walksTo_47 (v := (-1)) rfl ?_
              refine v_icmp_eq (pc := 48) (t := 55) h dX6_walksTo_48 rfl (fun _ => ?_) (fun _ => ?_)
              · exact hk10 I13
              · refine v_iconst (pc := 51) h dX6_walksTo_51 (v := 1) rfl ?_
                refine v_goto (pc := 52) (t := 56) h dX6_walksTo_52 rfl ?_
                exact hk8 (1 : Int32) I13
      · refine v_iconst (pc := 55) h dX6_walksTo_55 (v := 0) rfl ?_
        exact hk8 (0 : Int32) I9
    · refine v_istore (pc := 56) h dX6_walksTo_56 (by decide) (lv' := [(4, .int t6), (0, .ref mo), (1, .int a1), (2, .int i2_1), (3, .int i3_2)]) rfl ?_
      refine v_iload (pc := 58) h dX6_walksTo_58 0 rfl ?_
      refine v_jn3 (fun v2_14 v3_15 I16 => V g x 5 (0, 0) 86 [(0, .ref mo), (1, .int a1), (2, .int v2_14), (3, .int v3_15)] [] I16 r) (fun k17 hk17 => ?_) (fun v2_14 v3_15 I16 => ?_)
      · refine v_if_eq (pc := 60) (t := 82) h dX6_walksTo_60 rfl (fun _ => ?_) (fun _ => ?_)
        · refine v_iload_n (pc := 82) h dX6_walksTo_82 4 rfl rfl ?_
          refine v_iconst (pc := 83) h dX6_walksTo_83 (v := 1) rfl ?_
          refine v_iadd (pc := 84) h dX6_walksTo_84 ?_
          refine v_nmi (fun v18 => ?_)
          refine v_istore_n (pc := 85) h dX6_walksTo_85 rfl (by decide) (lv' := [(3, .int v18), (4, .int t6), (0, .ref mo), (1, .int a1), (2, .int i2_1)]) rfl ?_
          refine v_sub [2, 3, 4, 0] rfl ?_
          exact hk17 i2_1 v18 I7
        · refine v_iload_n (pc := 63) h dX6_walksTo_63 3 rfl rfl ?_
          refine v_iconst (pc := 64) h dX6_walksTo_64 (v := 1) rfl ?_
          refine v_iadd (pc := 65) h dX6_walksTo_65 ?_
          refine v_nmi (fun v19 => ?_)
          refine v_istore_n (pc := 66) h dX6_walksTo_66 rfl (by decide) (lv' := [(2, .int v19), (4, .int t6), (0, .ref mo), (1, .int a1), (3, .int i3_2)]) rfl ?_
          refine v_aload_n (pc := 67) h dX6_walksTo_67 2 rfl rfl ?_
          refine v_aload_n (pc := 68) h dX6_walksTo_68 2 rfl rfl ?_
          refine v_geti (pc := 69) h dX6_walksTo_69 fX6_374 rfl hM.1 ?_
          refine v_iconst (pc := 72) h dX6_walksTo_72 (v := 1) rfl ?_
          refine v_iload_n (pc := 73) h dX6_walksTo_73 3 rfl rfl ?_
          refine v_ishl (pc := 74) h dX6_walksTo_74 ?_
          refine v_ior (pc := 75) h dX6_walksTo_75 ?_
          refine v_puti (pc := 76) h dX6_walksTo_76 fX6_374 rfl hM.1 ?_
          refine v_nmI (fun I20 => ?_)
          refine v_goto (pc := 79) (t := 86) h dX6_walksTo_79 rfl ?_
          refine v_sub [2, 3, 0, 4] rfl ?_
          exact hk17 v19 i3_2 I20
      · refine v_goto (pc := 86) (t := 4) h dX6_walksTo_86 rfl ?_
        exact hX4 v2_14 v3_15 I16
set_option maxHeartbeats 4000000 in
theorem tX6_lettersAge {g : Gl} {mo : Nat} {r : Rh} (hM : MStr mo r)  (I : MI) : CtV g yX6_lettersAge cX6_lettersAge 3 2 [.ref mo] I r (pX6_lettersAge mo  I) := by
  refine CtV.mk (lv := [(0, .ref mo)]) (by decide) (Nat.le_of_ble_eq_true rfl) rfl (fun x Q h hr => ?_)
  unfold pX6_lettersAge
  refine v_iconst (pc := 0) h dX6_lettersAge_0 (v := 0) rfl ?_
  refine v_istore_n (pc := 1) h dX6_lettersAge_1 rfl (by decide) (lv' := [(1, .int (0 : Int32)), (0, .ref mo)]) rfl ?_
  refine v_sub [1, 0] rfl ?_
  refine L2.run (lv := fun i1_1 I2 => [(0, .ref mo), (1, .int i1_1)]) (st := fun i1_1 I2 => []) (Im := fun i1_1 I2 => I2) (r := fun i1_1 I2 => r) (fun X3 hX3 i1_1 I2 => ?_) (0 : Int32) I
  refine v_iload_n (pc := 2) h dX6_lettersAge_2 1 rfl rfl ?_
  refine v_aload_n (pc := 3) h dX6_lettersAge_3 0 rfl rfl ?_
  refine v_getp (pc := 4) h dX6_lettersAge_4 fX6_7 rfl hM.1 (mA_1 hM).1 ?_
  refine v_bipush (pc := 7) h dX6_lettersAge_7 (v := 10) rfl ?_
  refine v_ialdL (pc := 9) h dX6_lettersAge_9 (mA_1 hM).2.1 (mA_1 hM).2.2 (vpd rfl) (k := 10) rfl ?_
  refine v_icmp_ge (pc := 10) (t := 100) h dX6_lettersAge_10 rfl (fun _ => ?_) (fun _ => ?_)
  · exact v_vret (pc := 100) h hr dX6_lettersAge_100
  · refine v_aload_n (pc := 13) h dX6_lettersAge_13 0 rfl rfl ?_
    refine v_iload_n (pc := 14) h dX6_lettersAge_14 1 rfl rfl ?_
    refine v_callp (pc := 15) h dX6_lettersAge_15 kX6_136 rfl hM.1 (tX6_letterAt hM i1_1 I2) (by decide) rfl rfl (Nat.le_of_ble_eq_true rfl) rfl (fun r4 => ?_)
    refine v_istore_n (pc := 18) h dX6_lettersAge_18 rfl (by decide) (lv' := [(2, .int r4), (0, .ref mo), (1, .int i1_1)]) rfl ?_
    refine v_aload_n (pc := 19) h dX6_lettersAge_19 1 rfl rfl ?_
    refine v_getp (pc := 20) h dX6_lettersAge_20 fX6_7 rfl hM.1 (mA_1 hM).1 ?_
    refine v_iload_n (pc := 23) h dX6_lettersAge_23 0 rfl rfl ?_
    refine v_iconst (pc := 24) h dX6_lettersAge_24 (v := 4) rfl ?_
    refine v_iadd (pc := 25) h dX6_lettersAge_25 ?_
    refine v_aload_n (pc := 26) h dX6_lettersAge_26 1 rfl rfl ?_
    refine v_getp (pc := 27) h dX6_lettersAge_27 fX6_7 rfl hM.1 (mA_1 hM).1 ?_
    refine v_iload_n (pc := 30) h dX6_lettersAge_30 0 rfl rfl ?_
    refine v_iconst (pc := 31) h dX6_lettersAge_31 (v := 4) rfl ?_
    refine v_iadd (pc := 32) h dX6_lettersAge_32 ?_
    refine v_iald (pc := 33) h dX6_lettersAge_33 (mA_1 hM).2.1 (mA_1 hM).2.2 ?_
    refine v_iconst (pc := 34) h dX6_lettersAge_34 (v := 1) rfl ?_
    refine v_iadd (pc := 35) h dX6_lettersAge_35 ?_
    refine v_iast (pc := 36) h dX6_lettersAge_36 (mA_1 hM).2.1 (mA_1 hM).2.2 ?_
    refine v_nmI (fun I5 => ?_)
    refine v_aload_n (pc := 37) h dX6_lettersAge_37 1 rfl rfl ?_
    refine v_getp (pc := 38) h dX6_lettersAge_38 fX6_7 rfl hM.1 (mA_1 hM).1 ?_
    refine v_iload_n (pc := 41) h dX6_lettersAge_41 0 rfl rfl ?_
    refine v_iconst (pc := 42) h dX6_lettersAge_42 (v := 4) rfl ?_
    refine v_iadd (pc := 43) h dX6_lettersAge_43 ?_
    refine v_iald (pc := 44) h dX6_lettersAge_44 (mA_1 hM).2.1 (mA_1 hM).2.2 ?_
    refine v_bipush (pc := 45) h dX6_lettersAge_45 (v := 9) rfl ?_
    refine v_jn2 (fun v1_6 I7 => V g x 3 (0, 0) 97 [(0, .ref mo), (1, .int v1_6)] [] I7 r) (fun k8 hk8 => ?_) (fun v1_6 I7 => ?_)
    · refine v_icmp_ge (pc := 47) (t := 57) h dX6_lettersAge_47 rfl (fun _ => ?_) (fun _ => ?_)
      · refine v_aload_n (pc := 57) h dX6_lettersAge_57 1 rfl rfl ?_
        refine v_getp (pc := 58) h dX6_lettersAge_58 fX6_7 rfl hM.1 (mA_1 hM).1 ?_
        refine v_bipush (pc := 61) h dX6_lettersAge_61 (v := 7) rfl ?_
        refine v_aload_n (pc := 63) h dX6_lettersAge_63 1 rfl rfl ?_
        refine v_getp (pc := 64) h dX6_lettersAge_64 fX6_7 rfl hM.1 (mA_1 hM).1 ?_
        refine v_bipush (pc := 67) h dX6_lettersAge_67 (v := 7) rfl ?_
        refine v_ialdL (pc := 69) h dX6_lettersAge_69 (mA_1 hM).2.1 (mA_1 hM).2.2 (vpd rfl) (k := 7) rfl ?_
        refine v_iconst (pc := 70) h dX6_lettersAge_70 (v := 1) rfl ?_
        refine v_iadd (pc := 71) h dX6_lettersAge_71 ?_
        refine v_iastL (pc := 72) h dX6_lettersAge_72 (mA_1 hM).2.1 (mA_1 hM).2.2 (vpd rfl) (k := 7) rfl ?_
        refine v_nmI (fun I9 => ?_)
        refine v_aload_n (pc := 73) h dX6_lettersAge_73 1 rfl rfl ?_
        refine v_iconst (pc := 74) h dX6_lettersAge_74 (v := 3) rfl ?_
        refine v_aload_n (pc := 75) h dX6_lettersAge_75 1 rfl rfl ?_
        refine v_getp (pc := 76) h dX6_lettersAge_76 fX6_7 rfl hM.1 (mA_1 hM).1 ?_
        refine v_iload_n (pc := 79) h dX6_lettersAge_79 0 rfl rfl ?_
        refine v_iald (pc := 80) h dX6_lettersAge_80 (mA_1 hM).2.1 (mA_1 hM).2.2 ?_
        refine v_aload_n (pc := 81) h dX6_lettersAge_81 1 rfl rfl ?_
        refine v_getp (pc := 82) h dX6_lettersAge_82 fX6_7 rfl hM.1 (mA_1 hM).1 ?_
        refine v_iload_n (pc := 85) h dX6_lettersAge_85 0 rfl rfl ?_
        refine v_iconst (pc := 86) h dX6_lettersAge_86 (v := 1) rfl ?_
        refine v_iadd (pc := 87) h dX6_lettersAge_87 ?_
        refine v_iald (pc := 88) h dX6_lettersAge_88 (mA_1 hM).2.1 (mA_1 hM).2.2 ?_
        refine v_callv (pc := 89) h dX6_lettersAge_89 kX6_325 rfl hM.1 (tX6_notes hM (3 : Int32) (I9 (mo + 1) r4.toNatClampNeg) (I9 (mo + 1) (r4 + (1 : Int32)).toNatClampNeg) I9) (by decide) rfl rfl (Nat.le_of_ble_eq_true rfl) rfl (fun I10 => ?_)
        refine v_aload_n (pc := 92) h dX6_lettersAge_92 1 rfl rfl ?_
        refine v_iload_n (pc := 93) h dX6_lettersAge_93 2 rfl rfl ?_
        refine v_callv (pc := 94) h dX6_lettersAge_94 kX6_359 rfl hM.1 (tX6_goesOut hM i1_1 I10) (by decide) rfl rfl (Nat.le_of_ble_eq_true rfl) rfl (fun I11 => ?_)
        refine v_sub [1, 2] rfl ?_
        exact hk8 i1_1 I11
      · refine v_iload_n (pc := 50) h dX6_lettersAge_50 2 rfl rfl ?_
        refine v_iconst (pc := 51) h dX6_lettersAge_51 (v := 1) rfl ?_
        refine v_iadd (pc := 52) h dX6_lettersAge_52 ?_
        refine v_nmi (fun v12 => ?_)
        refine v_istore_n (pc := 53) h dX6_lettersAge_53 rfl (by decide) (lv' := [(1, .int v12), (2, .int r4), (0, .ref mo)]) rfl ?_
        refine v_goto (pc := 54) (t := 97) h dX6_lettersAge_54 rfl ?_
        refine v_sub [2, 0] rfl ?_
        exact hk8 v12 I5
    · refine v_goto (pc := 97) (t := 2) h dX6_lettersAge_97 rfl ?_
      exact hX3 v1_6 I7
set_option maxHeartbeats 4000000 in
theorem tX6_lies {g : Gl} {mo : Nat} {r : Rh} (hM : MStr mo r) (a1 : Int32) (a2 : Int32) (I : MI) : CtP g yX6_lies cX6_lies 3 (some .boolean) 0 [.ref mo, .int a1, .int a2] I r (pX6_lies mo a1 a2 I) := by
  refine CtP.mk (lv := [(0, .ref mo), (1, .int a1), (2, .int a2)]) (by decide) (Nat.le_of_ble_eq_true rfl) rfl (fun x Q h hr => ?_)
  unfold pX6_lies
  refine v_iload_n (pc := 0) h dX6_lies_0 1 rfl rfl ?_
  refine v_iload_n (pc := 1) h dX6_lies_1 2 rfl rfl ?_
  refine v_ishr (pc := 2) h dX6_lies_2 ?_
  refine v_iconst (pc := 3) h dX6_lies_3 (v := 1) rfl ?_
  refine v_iand (pc := 4) h dX6_lies_4 ?_
  refine v_iconst (pc := 5) h dX6_lies_5 (v := 1) rfl ?_
  refine v_icmp_ne (pc := 6) (t := 13) h dX6_lies_6 rfl (fun _ => ?_) (fun _ => ?_)
  · refine v_iconst (pc := 13) h dX6_lies_13 (v := 0) rfl ?_
    exact v_zretP (pc := 14) h hr (Or.inl rfl) dX6_lies_14
  · refine v_iconst (pc := 9) h dX6_lies_9 (v := 1) rfl ?_
    refine v_goto (pc := 10) (t := 14) h dX6_lies_10 rfl ?_
    exact v_zretP (pc := 14) h hr (Or.inr rfl) dX6_lies_14
set_option maxHeartbeats 4000000 in
theorem tX6_evening {g : Gl} {mo : Nat} {r : Rh} (hM : MStr mo r)  (I : MI) : CtV g yX6_evening cX6_evening 2 2 [.ref mo] I r (pX6_evening mo  I) := by
  refine CtV.mk (lv := [(0, .ref mo)]) (by decide) (Nat.le_of_ble_eq_true rfl) rfl (fun x Q h hr => ?_)
  unfold pX6_evening
  refine v_aload_n (pc := 0) h dX6_evening_0 0 rfl rfl ?_
  refine v_getp (pc := 1) h dX6_evening_1 fX6_7 rfl hM.1 (mA_1 hM).1 ?_
  refine v_iconst (pc := 4) h dX6_evening_4 (v := 5) rfl ?_
  refine v_aload_n (pc := 5) h dX6_evening_5 0 rfl rfl ?_
  refine v_bipush (pc := 6) h dX6_evening_6 (v := 99) rfl ?_
  refine v_aload_n (pc := 8) h dX6_evening_8 0 rfl rfl ?_
  refine v_getp (pc := 9) h dX6_evening_9 fX6_7 rfl hM.1 (mA_1 hM).1 ?_
  refine v_iconst (pc := 12) h dX6_evening_12 (v := 5) rfl ?_
  refine v_ialdL (pc := 13) h dX6_evening_13 (mA_1 hM).2.1 (mA_1 hM).2.2 (vpd rfl) (k := 5) rfl ?_
  refine v_iconst (pc := 14) h dX6_evening_14 (v := 5) rfl ?_
  refine v_iadd (pc := 15) h dX6_evening_15 ?_
  refine v_callp (pc := 16) h dX6_evening_16 kX6_353 rfl hM.1 (tX6_lesser hM (99 : Int32) ((I (mo + 1) 5) + (5 : Int32)) I) (by decide) rfl rfl (Nat.le_of_ble_eq_true rfl) rfl (fun r1 => ?_)
  refine v_iastL (pc := 19) h dX6_evening_19 (mA_1 hM).2.1 (mA_1 hM).2.2 (vpd rfl) (k := 5) rfl ?_
  refine v_nmI (fun I2 => ?_)
  refine v_aload_n (pc := 20) h dX6_evening_20 0 rfl rfl ?_
  refine v_aload_n (pc := 21) h dX6_evening_21 0 rfl rfl ?_
  refine v_getp (pc := 22) h dX6_evening_22 fX6_7 rfl hM.1 (mA_1 hM).1 ?_
  refine v_iconst (pc := 25) h dX6_evening_25 (v := 5) rfl ?_
  refine v_ialdL (pc := 26) h dX6_evening_26 (mA_1 hM).2.1 (mA_1 hM).2.2 (vpd rfl) (k := 5) rfl ?_
  refine v_bipush (pc := 27) h dX6_evening_27 (v := 50) rfl ?_
  refine v_jn1 (fun t3 => V g x 2 (0, 0) 47 [(0, .ref mo)] [.int t3, .ref mo] I2 r) (fun k4 hk4 => ?_) (fun t3 => ?_)
  · refine v_icmp_le (pc := 29) (t := 41) h dX6_evening_29 rfl (fun _ => ?_) (fun _ => ?_)
    · refine v_aload_n (pc := 41) h dX6_evening_41 0 rfl rfl ?_
      refine v_callp (pc := 42) h dX6_evening_42 kX6_312 rfl hM.1 (tX6_health hM I2) (by decide) rfl rfl (Nat.le_of_ble_eq_true rfl) rfl (fun r5 => ?_)
      refine v_iconst (pc := 45) h dX6_evening_45 (v := 3) rfl ?_
      refine v_iadd (pc := 46) h dX6_evening_46 ?_
      exact hk4 (r5 + (3 : Int32))
    · refine v_aload_n (pc := 32) h dX6_evening_32 0 rfl rfl ?_
      refine v_callp (pc := 33) h dX6_evening_33 kX6_312 rfl hM.1 (tX6_health hM I2) (by decide) rfl rfl (Nat.le_of_ble_eq_true rfl) rfl (fun r6 => ?_)
      refine v_iconst (pc := 36) h dX6_evening_36 (v := 5) rfl ?_
      refine v_isub (pc := 37) h dX6_evening_37 ?_
      refine v_goto (pc := 38) (t := 47) h dX6_evening_38 rfl ?_
      exact hk4 (r6 - (5 : Int32))
  · refine v_callv (pc := 47) h dX6_evening_47 kX6_154 rfl hM.1 (tX6_hasHealth hM t3 I2) (by decide) rfl rfl (Nat.le_of_ble_eq_true rfl) rfl (fun I7 => ?_)
    refine v_iconst (pc := 50) h dX6_evening_50 (v := 0) rfl ?_
    refine v_istore_n (pc := 51) h dX6_evening_51 rfl (by decide) (lv' := [(1, .int (0 : Int32)), (0, .ref mo)]) rfl ?_
    refine v_sub [1, 0] rfl ?_
    refine L2.run (lv := fun i1_8 I9 => [(0, .ref mo), (1, .int i1_8)]) (st := fun i1_8 I9 => []) (Im := fun i1_8 I9 => I9) (r := fun i1_8 I9 => r) (fun X10 hX10 i1_8 I9 => ?_) (0 : Int32) I7
    refine v_iload_n (pc := 52) h dX6_evening_52 1 rfl rfl ?_
    refine v_aload_n (pc := 53) h dX6_evening_53 0 rfl rfl ?_
    refine v_geti (pc := 54) h dX6_evening_54 fX6_129 rfl hM.1 ?_
    refine v_icmp_ge (pc := 57) (t := 116) h dX6_evening_57 rfl (fun _ => ?_) (fun _ => ?_)
    · refine v_aload_n (pc := 116) h dX6_evening_116 0 rfl rfl ?_
      refine v_getp (pc := 117) h dX6_evening_117 fX6_7 rfl hM.1 (mA_1 hM).1 ?_
      refine v_iconst (pc := 120) h dX6_evening_120 (v := 0) rfl ?_
      refine v_aload_n (pc := 121) h dX6_evening_121 0 rfl rfl ?_
      refine v_getp (pc := 122) h dX6_evening_122 fX6_7 rfl hM.1 (mA_1 hM).1 ?_
      refine v_iconst (pc := 125) h dX6_evening_125 (v := 0) rfl ?_
      refine v_ialdL (pc := 126) h dX6_evening_126 (mA_1 hM).2.1 (mA_1 hM).2.2 (vpd rfl) (k := 0) rfl ?_
      refine v_iconst (pc := 127) h dX6_evening_127 (v := 1) rfl ?_
      refine v_iadd (pc := 128) h dX6_evening_128 ?_
      refine v_iastL (pc := 129) h dX6_evening_129 (mA_1 hM).2.1 (mA_1 hM).2.2 (vpd rfl) (k := 0) rfl ?_
      refine v_nmI (fun I11 => ?_)
      exact v_vret (pc := 130) h hr dX6_evening_130
    · refine v_aload_n (pc := 60) h dX6_evening_60 0 rfl rfl ?_
      refine v_aload_n (pc := 61) h dX6_evening_61 0 rfl rfl ?_
      refine v_geti (pc := 62) h dX6_evening_62 fX6_374 rfl hM.1 ?_
      refine v_iload_n (pc := 65) h dX6_evening_65 1 rfl rfl ?_
      refine v_callp (pc := 66) h dX6_evening_66 kX6_377 rfl hM.1 (tX6_lies hM (I9 mo 40) i1_8 I9) (by decide) rfl rfl (Nat.le_of_ble_eq_true rfl) rfl (fun r12 => ?_)
      refine v_jn1 (fun I13 => V g x 2 (0, 0) 110 [(0, .ref mo), (1, .int i1_8)] [] I13 r) (fun k14 hk14 => ?_) (fun I13 => ?_)
      · refine v_if_ne (pc := 69) (t := 110) h dX6_evening_69 rfl (fun _ => ?_) (fun _ => ?_)
        · exact hk14 I9
        · refine v_aload_n (pc := 72) h dX6_evening_72 0 rfl rfl ?_
          refine v_iload_n (pc := 73) h dX6_evening_73 1 rfl rfl ?_
          refine v_aload_n (pc := 74) h dX6_evening_74 0 rfl rfl ?_
          refine v_getp (pc := 75) h dX6_evening_75 fX6_7 rfl hM.1 (mA_1 hM).1 ?_
          refine v_bipush (pc := 78) h dX6_evening_78 (v := 18) rfl ?_
          refine v_iload_n (pc := 80) h dX6_evening_80 1 rfl rfl ?_
          refine v_iadd (pc := 81) h dX6_evening_81 ?_
          refine v_iald (pc := 82) h dX6_evening_82 (mA_1 hM).2.1 (mA_1 hM).2.2 ?_
          refine v_jn1 (fun t15 => V g x 2 (0, 0) 107 [(0, .ref mo), (1, .int i1_8)] [.int t15, .int i1_8, .ref mo] I9 r) (fun k16 hk16 => ?_) (fun t15 => ?_)
          · refine v_if_le (pc := 83) (t := 90) h dX6_evening_83 rfl (fun _ => ?_) (fun _ => ?_)
            · refine v_aload_n (pc := 90) h dX6_evening_90 0 rfl rfl ?_
              refine v_getp (pc := 91) h dX6_evening_91 fX6_7 rfl hM.1 (mA_1 hM).1 ?_
              refine v_bipush (pc := 94) h dX6_evening_94 (v := 18) rfl ?_
              refine v_iload_n (pc := 96) h dX6_evening_96 1 rfl rfl ?_
              refine v_iadd (pc := 97) h dX6_evening_97 ?_
              refine v_iald (pc := 98) h dX6_evening_98 (mA_1 hM).2.1 (mA_1 hM).2.2 ?_
              refine v_if_ge (pc := 99) (t := 106) h dX6_evening_99 rfl (fun _ => ?_) (fun _ => ?_)
              · refine v_iconst (pc := 106) h dX6_evening_106 (v := 0) rfl ?_
                exact hk16 (0 : Int32)
              · refine v_iconst (pc := 102) h dX6_evening_102 (v := 1) rfl ?_
                refine v_goto (pc := 103) (t := 107) h dX6_evening_103 rfl ?_
                exact hk16 (1 : Int32)
            · refine v_iconst (pc := 86) h dX6_evening_86 (v := (-1)) rfl ?_
              refine v_goto (pc := 87) (t := 107) h dX6_evening_87 rfl ?_
              exact hk16 (-1 : Int32)
          · refine v_callv (pc := 107) h dX6_evening_107 kX6_329 rfl hM.1 (tX6_looks hM i1_8 t15 I9) (by decide) rfl rfl (Nat.le_of_ble_eq_true rfl) rfl (fun I17 => ?_)
            exact hk14 I17
      · refine v_iinc (pc := 110) h dX6_evening_110 1 rfl (w := (i1_8 + (1 : Int32))) rfl (by decide) (lv' := [(1, .int (i1_8 + (1 : Int32))), (0, .ref mo)]) rfl ?_
        refine v_goto (pc := 113) (t := 52) h dX6_evening_113 rfl ?_
        refine v_sub [1, 0] rfl ?_
        exact hX10 (i1_8 + (1 : Int32)) I13
set_option maxHeartbeats 4000000 in
theorem tX6_goesBy {g : Gl} {mo : Nat} {r : Rh} (hM : MStr mo r)  (I : MI) : CtI g yX6_goesBy cX6_goesBy 3 (some .int) 7 [.ref mo] I r (pX6_goesBy mo  I) := by
  refine CtI.mk (lv := [(0, .ref mo)]) (by decide) (Nat.le_of_ble_eq_true rfl) rfl (fun x Q h hr => ?_)
  unfold pX6_goesBy
  refine v_aload_n (pc := 0) h dX6_goesBy_0 0 rfl rfl ?_
  refine v_callv (pc := 1) h dX6_goesBy_1 kX6_381 rfl hM.1 (tX6_morning hM I) (by decide) rfl rfl (Nat.le_of_ble_eq_true rfl) rfl (fun I1 => ?_)
  refine v_aload_n (pc := 4) h dX6_goesBy_4 0 rfl rfl ?_
  refine v_iconst (pc := 5) h dX6_goesBy_5 (v := 0) rfl ?_
  refine v_puti (pc := 6) h dX6_goesBy_6 fX6_374 rfl hM.1 ?_
  refine v_nmI (fun I2 => ?_)
  refine v_iconst (pc := 9) h dX6_goesBy_9 (v := 0) rfl ?_
  refine v_istore_n (pc := 10) h dX6_goesBy_10 rfl (by decide) (lv' := [(1, .int (0 : Int32)), (0, .ref mo)]) rfl ?_
  refine v_iconst (pc := 11) h dX6_goesBy_11 (v := 0) rfl ?_
  refine v_istore_n (pc := 12) h dX6_goesBy_12 rfl (by decide) (lv' := [(2, .int (0 : Int32)), (1, .int (0 : Int32)), (0, .ref mo)]) rfl ?_
  refine v_sub [2, 1, 0] rfl ?_
  refine L3.run (lv := fun i1_3 i2_4 I5 => [(0, .ref mo), (1, .int i1_3), (2, .int i2_4)]) (st := fun i1_3 i2_4 I5 => []) (Im := fun i1_3 i2_4 I5 => I5) (r := fun i1_3 i2_4 I5 => r) (fun X6 hX6 i1_3 i2_4 I5 => ?_) (0 : Int32) (0 : Int32) I2
  refine v_iload_n (pc := 13) h dX6_goesBy_13 2 rfl rfl ?_
  refine v_aload_n (pc := 14) h dX6_goesBy_14 0 rfl rfl ?_
  refine v_geti (pc := 15) h dX6_goesBy_15 fX6_291 rfl hM.1 ?_
  refine v_icmp_ge (pc := 18) (t := 40) h dX6_goesBy_18 rfl (fun _ => ?_) (fun _ => ?_)
  · refine v_aload_n (pc := 40) h dX6_goesBy_40 0 rfl rfl ?_
    refine v_callv (pc := 41) h dX6_goesBy_41 kX6_387 rfl hM.1 (tX6_lettersAge hM I5) (by decide) rfl rfl (Nat.le_of_ble_eq_true rfl) rfl (fun I7 => ?_)
    refine v_aload_n (pc := 44) h dX6_goesBy_44 0 rfl rfl ?_
    refine v_callv (pc := 45) h dX6_goesBy_45 kX6_390 rfl hM.1 (tX6_evening hM I7) (by decide) rfl rfl (Nat.le_of_ble_eq_true rfl) rfl (fun I8 => ?_)
    refine v_iload_n (pc := 48) h dX6_goesBy_48 1 rfl rfl ?_
    exact v_iret (pc := 49) h hr dX6_goesBy_49
  · refine v_iload_n (pc := 21) h dX6_goesBy_21 1 rfl rfl ?_
    refine v_aload_n (pc := 22) h dX6_goesBy_22 0 rfl rfl ?_
    refine v_aload_n (pc := 23) h dX6_goesBy_23 0 rfl rfl ?_
    refine v_getp (pc := 24) h dX6_goesBy_24 fX6_62 rfl hM.1 (mA_35 hM).1 ?_
    refine v_iload_n (pc := 27) h dX6_goesBy_27 2 rfl rfl ?_
    refine v_iald (pc := 28) h dX6_goesBy_28 (mA_35 hM).2.1 (mA_35 hM).2.2 ?_
    refine v_calli (pc := 29) h dX6_goesBy_29 kX6_384 rfl hM.1 (tX6_walksTo hM (I5 (mo + 17) i2_4.toNatClampNeg) I5) (by decide) rfl rfl (Nat.le_of_ble_eq_true rfl) rfl (fun r9 I10 => ?_)
    refine v_iadd (pc := 32) h dX6_goesBy_32 ?_
    refine v_nmi (fun v11 => ?_)
    refine v_istore_n (pc := 33) h dX6_goesBy_33 rfl (by decide) (lv' := [(1, .int v11), (0, .ref mo), (2, .int i2_4)]) rfl ?_
    refine v_iinc (pc := 34) h dX6_goesBy_34 2 rfl (w := (i2_4 + (1 : Int32))) rfl (by decide) (lv' := [(2, .int (i2_4 + (1 : Int32))), (1, .int v11), (0, .ref mo)]) rfl ?_
    refine v_goto (pc := 37) (t := 13) h dX6_goesBy_37 rfl ?_
    refine v_sub [2, 1, 0] rfl ?_
    exact hX6 v11 (i2_4 + (1 : Int32)) I10
set_option maxHeartbeats 4000000 in
theorem tX6_days {g : Gl} {mo : Nat} {r : Rh} (hM : MStr mo r) (a1 : Int32) (I : MI) : CtI g yX6_days cX6_days 4 (some .int) 8 [.ref mo, .int a1] I r (pX6_days mo a1 I) := by
  refine CtI.mk (lv := [(0, .ref mo), (1, .int a1)]) (by decide) (Nat.le_of_ble_eq_true rfl) rfl (fun x Q h hr => ?_)
  unfold pX6_days
  refine v_aload_n (pc := 0) h dX6_days_0 0 rfl rfl ?_
  refine v_iconst (pc := 1) h dX6_days_1 (v := 0) rfl ?_
  refine v_puti (pc := 2) h dX6_days_2 fX6_116 rfl hM.1 ?_
  refine v_nmI (fun I1 => ?_)
  refine v_aload_n (pc := 5) h dX6_days_5 0 rfl rfl ?_
  refine v_iload_n (pc := 6) h dX6_days_6 1 rfl rfl ?_
  refine v_iconst (pc := 7) h dX6_days_7 (v := 1) rfl ?_
  refine v_bipush (pc := 8) h dX6_days_8 (v := 60) rfl ?_
  refine v_callp (pc := 10) h dX6_days_10 kX6_143 rfl hM.1 (tX6_isIn hM a1 (1 : Int32) (60 : Int32) I1) (by decide) rfl rfl (Nat.le_of_ble_eq_true rfl) rfl (fun r2 => ?_)
  refine v_if_eq (pc := 13) (t := 30) h dX6_days_13 rfl (fun _ => ?_) (fun _ => ?_)
  · refine v_iconst (pc := 30) h dX6_days_30 (v := (-1)) rfl ?_
    exact v_iret (pc := 31) h hr dX6_days_31
  · refine v_aload_n (pc := 16) h dX6_days_16 0 rfl rfl ?_
    refine v_getp (pc := 17) h dX6_days_17 fX6_7 rfl hM.1 (mA_1 hM).1 ?_
    refine v_iconst (pc := 20) h dX6_days_20 (v := 0) rfl ?_
    refine v_ialdL (pc := 21) h dX6_days_21 (mA_1 hM).2.1 (mA_1 hM).2.2 (vpd rfl) (k := 0) rfl ?_
    refine v_iload_n (pc := 22) h dX6_days_22 1 rfl rfl ?_
    refine v_iadd (pc := 23) h dX6_days_23 ?_
    refine v_sipush (pc := 24) h dX6_days_24 (v := 9999) rfl ?_
    refine v_icmp_le (pc := 27) (t := 32) h dX6_days_27 rfl (fun _ => ?_) (fun _ => ?_)
    · refine v_iconst (pc := 32) h dX6_days_32 (v := 0) rfl ?_
      refine v_istore_n (pc := 33) h dX6_days_33 rfl (by decide) (lv' := [(2, .int (0 : Int32)), (0, .ref mo), (1, .int a1)]) rfl ?_
      refine v_iconst (pc := 34) h dX6_days_34 (v := 0) rfl ?_
      refine v_istore_n (pc := 35) h dX6_days_35 rfl (by decide) (lv' := [(3, .int (0 : Int32)), (2, .int (0 : Int32)), (0, .ref mo), (1, .int a1)]) rfl ?_
      refine v_sub [2, 3, 1, 0] rfl ?_
      refine L3.run (lv := fun i2_3 i3_4 I5 => [(0, .ref mo), (1, .int a1), (2, .int i2_3), (3, .int i3_4)]) (st := fun i2_3 i3_4 I5 => []) (Im := fun i2_3 i3_4 I5 => I5) (r := fun i2_3 i3_4 I5 => r) (fun X6 hX6 i2_3 i3_4 I5 => ?_) (0 : Int32) (0 : Int32) I1
      refine v_iload_n (pc := 36) h dX6_days_36 3 rfl rfl ?_
      refine v_iload_n (pc := 37) h dX6_days_37 1 rfl rfl ?_
      refine v_icmp_ge (pc := 38) (t := 58) h dX6_days_38 rfl (fun _ => ?_) (fun _ => ?_)
      · refine v_iload_n (pc := 58) h dX6_days_58 2 rfl rfl ?_
        exact v_iret (pc := 59) h hr dX6_days_59
      · refine v_aload_n (pc := 41) h dX6_days_41 0 rfl rfl ?_
        refine v_callv (pc := 42) h dX6_days_42 kX6_365 rfl hM.1 (tX6_keepsAhead hM I5) (by decide) rfl rfl (Nat.le_of_ble_eq_true rfl) rfl (fun I7 => ?_)
        refine v_iload_n (pc := 45) h dX6_days_45 2 rfl rfl ?_
        refine v_aload_n (pc := 46) h dX6_days_46 0 rfl rfl ?_
        refine v_calli (pc := 47) h dX6_days_47 kX6_393 rfl hM.1 (tX6_goesBy hM I7) (by decide) rfl rfl (Nat.le_of_ble_eq_true rfl) rfl (fun r8 I9 => ?_)
        refine v_iadd (pc := 50) h dX6_days_50 ?_
        refine v_nmi (fun v10 => ?_)
        refine v_istore_n (pc := 51) h dX6_days_51 rfl (by decide) (lv' := [(2, .int v10), (0, .ref mo), (1, .int a1), (3, .int i3_4)]) rfl ?_
        refine v_iinc (pc := 52) h dX6_days_52 3 rfl (w := (i3_4 + (1 : Int32))) rfl (by decide) (lv' := [(3, .int (i3_4 + (1 : Int32))), (2, .int v10), (0, .ref mo), (1, .int a1)]) rfl ?_
        refine v_goto (pc := 55) (t := 36) h dX6_days_55 rfl ?_
        refine v_sub [2, 3, 1, 0] rfl ?_
        exact hX6 v10 (i3_4 + (1 : Int32)) I9
    · refine v_iconst (pc := 30) h dX6_days_30 (v := (-1)) rfl ?_
      exact v_iret (pc := 31) h hr dX6_days_31
set_option maxHeartbeats 4000000 in
theorem tX6_lettersFor {g : Gl} {mo : Nat} {r : Rh} (hM : MStr mo r) (a1 : Int32) (I : MI) : CtP g yX6_lettersFor cX6_lettersFor 4 (some .int) 2 [.ref mo, .int a1] I r (pX6_lettersFor mo a1 I) := by
  refine CtP.mk (lv := [(0, .ref mo), (1, .int a1)]) (by decide) (Nat.le_of_ble_eq_true rfl) rfl (fun x Q h hr => ?_)
  unfold pX6_lettersFor
  refine v_iconst (pc := 0) h dX6_lettersFor_0 (v := 0) rfl ?_
  refine v_istore_n (pc := 1) h dX6_lettersFor_1 rfl (by decide) (lv' := [(2, .int (0 : Int32)), (0, .ref mo), (1, .int a1)]) rfl ?_
  refine v_iconst (pc := 2) h dX6_lettersFor_2 (v := 0) rfl ?_
  refine v_istore_n (pc := 3) h dX6_lettersFor_3 rfl (by decide) (lv' := [(3, .int (0 : Int32)), (2, .int (0 : Int32)), (0, .ref mo), (1, .int a1)]) rfl ?_
  refine v_sub [2, 3, 1, 0] rfl ?_
  refine L2.run (lv := fun i2_1 i3_2 => [(0, .ref mo), (1, .int a1), (2, .int i2_1), (3, .int i3_2)]) (st := fun i2_1 i3_2 => []) (Im := fun i2_1 i3_2 => I) (r := fun i2_1 i3_2 => r) (fun X3 hX3 i2_1 i3_2 => ?_) (0 : Int32) (0 : Int32)
  refine v_iload_n (pc := 4) h dX6_lettersFor_4 3 rfl rfl ?_
  refine v_aload_n (pc := 5) h dX6_lettersFor_5 0 rfl rfl ?_
  refine v_getp (pc := 6) h dX6_lettersFor_6 fX6_7 rfl hM.1 (mA_1 hM).1 ?_
  refine v_bipush (pc := 9) h dX6_lettersFor_9 (v := 10) rfl ?_
  refine v_ialdL (pc := 11) h dX6_lettersFor_11 (mA_1 hM).2.1 (mA_1 hM).2.2 (vpd rfl) (k := 10) rfl ?_
  refine v_icmp_ge (pc := 12) (t := 34) h dX6_lettersFor_12 rfl (fun _ => ?_) (fun _ => ?_)
  · refine v_iload_n (pc := 34) h dX6_lettersFor_34 2 rfl rfl ?_
    exact v_iretP (pc := 35) h hr dX6_lettersFor_35
  · refine v_aload_n (pc := 15) h dX6_lettersFor_15 0 rfl rfl ?_
    refine v_iload_n (pc := 16) h dX6_lettersFor_16 3 rfl rfl ?_
    refine v_callp (pc := 17) h dX6_lettersFor_17 kX6_140 rfl hM.1 (tX6_doorOf hM i3_2 I) (by decide) rfl rfl (Nat.le_of_ble_eq_true rfl) rfl (fun r4 => ?_)
    refine v_iload_n (pc := 20) h dX6_lettersFor_20 1 rfl rfl ?_
    refine v_jn1 (fun v2_5 => V g x 4 (0, 0) 28 [(0, .ref mo), (1, .int a1), (2, .int v2_5), (3, .int i3_2)] [] I r) (fun k6 hk6 => ?_) (fun v2_5 => ?_)
    · refine v_icmp_ne (pc := 21) (t := 28) h dX6_lettersFor_21 rfl (fun _ => ?_) (fun _ => ?_)
      · exact hk6 i2_1
      · refine v_iload_n (pc := 24) h dX6_lettersFor_24 2 rfl rfl ?_
        refine v_iconst (pc := 25) h dX6_lettersFor_25 (v := 1) rfl ?_
        refine v_iadd (pc := 26) h dX6_lettersFor_26 ?_
        refine v_nmi (fun v7 => ?_)
        refine v_istore_n (pc := 27) h dX6_lettersFor_27 rfl (by decide) (lv' := [(2, .int v7), (0, .ref mo), (1, .int a1), (3, .int i3_2)]) rfl ?_
        refine v_sub [1, 2, 0, 3] rfl ?_
        exact hk6 v7
    · refine v_iinc (pc := 28) h dX6_lettersFor_28 3 rfl (w := (i3_2 + (1 : Int32))) rfl (by decide) (lv' := [(3, .int (i3_2 + (1 : Int32))), (0, .ref mo), (1, .int a1), (2, .int v2_5)]) rfl ?_
      refine v_goto (pc := 31) (t := 4) h dX6_lettersFor_31 rfl ?_
      refine v_sub [1, 2, 3, 0] rfl ?_
      exact hX3 v2_5 (i3_2 + (1 : Int32))
set_option maxHeartbeats 4000000 in
theorem tX6_of {g : Gl} {mo : Nat} {r : Rh} (hM : MStr mo r) (a1 : Int32) (a2 : Int32) (I : MI) : CtI g yX6_of cX6_of 4 (some .int) 3 [.ref mo, .int a1, .int a2] I r (pX6_of mo a1 a2 I) := by
  refine CtI.mk (lv := [(0, .ref mo), (1, .int a1), (2, .int a2)]) (by decide) (Nat.le_of_ble_eq_true rfl) rfl (fun x Q h hr => ?_)
  unfold pX6_of
  refine v_aload_n (pc := 0) h dX6_of_0 0 rfl rfl ?_
  refine v_iconst (pc := 1) h dX6_of_1 (v := 0) rfl ?_
  refine v_puti (pc := 2) h dX6_of_2 fX6_116 rfl hM.1 ?_
  refine v_nmI (fun I1 => ?_)
  refine v_aload_n (pc := 5) h dX6_of_5 0 rfl rfl ?_
  refine v_iload_n (pc := 6) h dX6_of_6 1 rfl rfl ?_
  refine v_callp (pc := 7) h dX6_of_7 kX6_147 rfl hM.1 (tX6_isDoor hM a1 I1) (by decide) rfl rfl (Nat.le_of_ble_eq_true rfl) rfl (fun r2 => ?_)
  refine v_if_ne (pc := 10) (t := 16) h dX6_of_10 rfl (fun _ => ?_) (fun _ => ?_)
  · refine v_iload_n (pc := 16) h dX6_of_16 2 rfl rfl ?_
    refine v_if_ne (pc := 17) (t := 30) h dX6_of_17 rfl (fun _ => ?_) (fun _ => ?_)
    · refine v_iload_n (pc := 30) h dX6_of_30 2 rfl rfl ?_
      refine v_iconst (pc := 31) h dX6_of_31 (v := 1) rfl ?_
      refine v_icmp_ne (pc := 32) (t := 42) h dX6_of_32 rfl (fun _ => ?_) (fun _ => ?_)
      · refine v_iload_n (pc := 42) h dX6_of_42 2 rfl rfl ?_
        refine v_iconst (pc := 43) h dX6_of_43 (v := 2) rfl ?_
        refine v_icmp_ne (pc := 44) (t := 57) h dX6_of_44 rfl (fun _ => ?_) (fun _ => ?_)
        · refine v_iload_n (pc := 57) h dX6_of_57 2 rfl rfl ?_
          refine v_iconst (pc := 58) h dX6_of_58 (v := 3) rfl ?_
          refine v_icmp_ne (pc := 59) (t := 72) h dX6_of_59 rfl (fun _ => ?_) (fun _ => ?_)
          · refine v_iload_n (pc := 72) h dX6_of_72 2 rfl rfl ?_
            refine v_iconst (pc := 73) h dX6_of_73 (v := 4) rfl ?_
            refine v_icmp_ne (pc := 74) (t := 83) h dX6_of_74 rfl (fun _ => ?_) (fun _ => ?_)
            · refine v_aload_n (pc := 83) h dX6_of_83 0 rfl rfl ?_
              refine v_iload_n (pc := 84) h dX6_of_84 2 rfl rfl ?_
              refine v_bipush (pc := 85) h dX6_of_85 (v := 10) rfl ?_
              refine v_bipush (pc := 87) h dX6_of_87 (v := 9) rfl ?_
              refine v_aload_n (pc := 89) h dX6_of_89 0 rfl rfl ?_
              refine v_geti (pc := 90) h dX6_of_90 fX6_129 rfl hM.1 ?_
              refine v_iadd (pc := 93) h dX6_of_93 ?_
              refine v_callp (pc := 94) h dX6_of_94 kX6_143 rfl hM.1 (tX6_isIn hM a2 (10 : Int32) ((9 : Int32) + (I1 mo 6)) I1) (by decide) rfl rfl (Nat.le_of_ble_eq_true rfl) rfl (fun r3 => ?_)
              refine v_if_ne (pc := 97) (t := 103) h dX6_of_97 rfl (fun _ => ?_) (fun _ => ?_)
              · refine v_aload_n (pc := 103) h dX6_of_103 0 rfl rfl ?_
                refine v_getp (pc := 104) h dX6_of_104 fX6_65 rfl hM.1 (mA_37 hM).1 ?_
                refine v_bipush (pc := 107) h dX6_of_107 (v := 12) rfl ?_
                refine v_iload_n (pc := 109) h dX6_of_109 1 rfl rfl ?_
                refine v_imul (pc := 110) h dX6_of_110 ?_
                refine v_iload_n (pc := 111) h dX6_of_111 2 rfl rfl ?_
                refine v_iadd (pc := 112) h dX6_of_112 ?_
                refine v_bipush (pc := 113) h dX6_of_113 (v := 10) rfl ?_
                refine v_isub (pc := 115) h dX6_of_115 ?_
                refine v_iald (pc := 116) h dX6_of_116 (mA_37 hM).2.1 (mA_37 hM).2.2 ?_
                refine v_nmi (fun v4 => ?_)
                refine v_istore_n (pc := 117) h dX6_of_117 rfl (by decide) (lv' := [(3, .int v4), (0, .ref mo), (1, .int a1), (2, .int a2)]) rfl ?_
                refine v_iload_n (pc := 118) h dX6_of_118 0 rfl rfl ?_
                refine v_if_ne (pc := 119) (t := 126) h dX6_of_119 rfl (fun _ => ?_) (fun _ => ?_)
                · refine v_iload_n (pc := 126) h dX6_of_126 0 rfl rfl ?_
                  exact v_iret (pc := 127) h hr dX6_of_127
                · refine v_iconst (pc := 122) h dX6_of_122 (v := (-1)) rfl ?_
                  refine v_goto (pc := 123) (t := 127) h dX6_of_123 rfl ?_
                  exact v_iret (pc := 127) h hr dX6_of_127
              · refine v_bipush (pc := 100) h dX6_of_100 (v := (-100)) rfl ?_
                exact v_iret (pc := 102) h hr dX6_of_102
            · refine v_aload_n (pc := 77) h dX6_of_77 0 rfl rfl ?_
              refine v_iload_n (pc := 78) h dX6_of_78 1 rfl rfl ?_
              refine v_callp (pc := 79) h dX6_of_79 kX6_396 rfl hM.1 (tX6_lettersFor hM a1 I1) (by decide) rfl rfl (Nat.le_of_ble_eq_true rfl) rfl (fun r5 => ?_)
              exact v_iret (pc := 82) h hr dX6_of_82
          · refine v_aload_n (pc := 62) h dX6_of_62 0 rfl rfl ?_
            refine v_getp (pc := 63) h dX6_of_63 fX6_7 rfl hM.1 (mA_1 hM).1 ?_
            refine v_bipush (pc := 66) h dX6_of_66 (v := 42) rfl ?_
            refine v_iload_n (pc := 68) h dX6_of_68 1 rfl rfl ?_
            refine v_iadd (pc := 69) h dX6_of_69 ?_
            refine v_iald (pc := 70) h dX6_of_70 (mA_1 hM).2.1 (mA_1 hM).2.2 ?_
            exact v_iret (pc := 71) h hr dX6_of_71
        · refine v_aload_n (pc := 47) h dX6_of_47 0 rfl rfl ?_
          refine v_getp (pc := 48) h dX6_of_48 fX6_7 rfl hM.1 (mA_1 hM).1 ?_
          refine v_bipush (pc := 51) h dX6_of_51 (v := 30) rfl ?_
          refine v_iload_n (pc := 53) h dX6_of_53 1 rfl rfl ?_
          refine v_iadd (pc := 54) h dX6_of_54 ?_
          refine v_iald (pc := 55) h dX6_of_55 (mA_1 hM).2.1 (mA_1 hM).2.2 ?_
          exact v_iret (pc := 56) h hr dX6_of_56
      · refine v_aload_n (pc := 35) h dX6_of_35 0 rfl rfl ?_
        refine v_getp (pc := 36) h dX6_of_36 fX6_19 rfl hM.1 (mA_7 hM).1 ?_
        refine v_iload_n (pc := 39) h dX6_of_39 1 rfl rfl ?_
        refine v_iald (pc := 40) h dX6_of_40 (mA_7 hM).2.1 (mA_7 hM).2.2 ?_
        exact v_iret (pc := 41) h hr dX6_of_41
    · refine v_aload_n (pc := 20) h dX6_of_20 0 rfl rfl ?_
      refine v_getp (pc := 21) h dX6_of_21 fX6_7 rfl hM.1 (mA_1 hM).1 ?_
      refine v_bipush (pc := 24) h dX6_of_24 (v := 18) rfl ?_
      refine v_iload_n (pc := 26) h dX6_of_26 1 rfl rfl ?_
      refine v_iadd (pc := 27) h dX6_of_27 ?_
      refine v_iald (pc := 28) h dX6_of_28 (mA_1 hM).2.1 (mA_1 hM).2.2 ?_
      exact v_iret (pc := 29) h hr dX6_of_29
  · refine v_bipush (pc := 13) h dX6_of_13 (v := (-100)) rfl ?_
    exact v_iret (pc := 15) h hr dX6_of_15
set_option maxHeartbeats 4000000 in
theorem tX6_letter {g : Gl} {mo : Nat} {r : Rh} (hM : MStr mo r) (a1 : Int32) (a2 : Int32) (I : MI) : CtI g yX6_letter cX6_letter 3 (some .int) 5 [.ref mo, .int a1, .int a2] I r (pX6_letter mo a1 a2 I) := by
  refine CtI.mk (lv := [(0, .ref mo), (1, .int a1), (2, .int a2)]) (by decide) (Nat.le_of_ble_eq_true rfl) rfl (fun x Q h hr => ?_)
  unfold pX6_letter
  refine v_aload_n (pc := 0) h dX6_letter_0 0 rfl rfl ?_
  refine v_iconst (pc := 1) h dX6_letter_1 (v := 0) rfl ?_
  refine v_puti (pc := 2) h dX6_letter_2 fX6_116 rfl hM.1 ?_
  refine v_nmI (fun I1 => ?_)
  refine v_aload_n (pc := 5) h dX6_letter_5 0 rfl rfl ?_
  refine v_iload_n (pc := 6) h dX6_letter_6 1 rfl rfl ?_
  refine v_iconst (pc := 7) h dX6_letter_7 (v := 0) rfl ?_
  refine v_aload_n (pc := 8) h dX6_letter_8 0 rfl rfl ?_
  refine v_getp (pc := 9) h dX6_letter_9 fX6_7 rfl hM.1 (mA_1 hM).1 ?_
  refine v_bipush (pc := 12) h dX6_letter_12 (v := 10) rfl ?_
  refine v_ialdL (pc := 14) h dX6_letter_14 (mA_1 hM).2.1 (mA_1 hM).2.2 (vpd rfl) (k := 10) rfl ?_
  refine v_iconst (pc := 15) h dX6_letter_15 (v := 1) rfl ?_
  refine v_isub (pc := 16) h dX6_letter_16 ?_
  refine v_callp (pc := 17) h dX6_letter_17 kX6_143 rfl hM.1 (tX6_isIn hM a1 (0 : Int32) ((I1 (mo + 1) 10) - (1 : Int32)) I1) (by decide) rfl rfl (Nat.le_of_ble_eq_true rfl) rfl (fun r2 => ?_)
  refine v_if_eq (pc := 20) (t := 34) h dX6_letter_20 rfl (fun _ => ?_) (fun _ => ?_)
  · refine v_iconst (pc := 34) h dX6_letter_34 (v := (-1)) rfl ?_
    exact v_iret (pc := 35) h hr dX6_letter_35
  · refine v_aload_n (pc := 23) h dX6_letter_23 0 rfl rfl ?_
    refine v_iload_n (pc := 24) h dX6_letter_24 2 rfl rfl ?_
    refine v_iconst (pc := 25) h dX6_letter_25 (v := 0) rfl ?_
    refine v_bipush (pc := 26) h dX6_letter_26 (v := 7) rfl ?_
    refine v_callp (pc := 28) h dX6_letter_28 kX6_143 rfl hM.1 (tX6_isIn hM a2 (0 : Int32) (7 : Int32) I1) (by decide) rfl rfl (Nat.le_of_ble_eq_true rfl) rfl (fun r3 => ?_)
    refine v_if_ne (pc := 31) (t := 36) h dX6_letter_31 rfl (fun _ => ?_) (fun _ => ?_)
    · refine v_iload_n (pc := 36) h dX6_letter_36 2 rfl rfl ?_
      refine v_iconst (pc := 37) h dX6_letter_37 (v := 5) rfl ?_
      refine v_icmp_ge (pc := 38) (t := 54) h dX6_letter_38 rfl (fun _ => ?_) (fun _ => ?_)
      · refine v_aload_n (pc := 54) h dX6_letter_54 0 rfl rfl ?_
        refine v_iload_n (pc := 55) h dX6_letter_55 1 rfl rfl ?_
        refine v_callv (pc := 56) h dX6_letter_56 kX6_341 rfl hM.1 (tX6_asksOf hM a1 I1) (by decide) rfl rfl (Nat.le_of_ble_eq_true rfl) rfl (fun I4 => ?_)
        refine v_iload_n (pc := 59) h dX6_letter_59 2 rfl rfl ?_
        refine v_iconst (pc := 60) h dX6_letter_60 (v := 5) rfl ?_
        refine v_icmp_ne (pc := 61) (t := 71) h dX6_letter_61 rfl (fun _ => ?_) (fun _ => ?_)
        · refine v_iload_n (pc := 71) h dX6_letter_71 2 rfl rfl ?_
          refine v_bipush (pc := 72) h dX6_letter_72 (v := 6) rfl ?_
          refine v_icmp_ne (pc := 74) (t := 84) h dX6_letter_74 rfl (fun _ => ?_) (fun _ => ?_)
          · refine v_aload_n (pc := 84) h dX6_letter_84 0 rfl rfl ?_
            refine v_calli (pc := 85) h dX6_letter_85 kX6_362 rfl hM.1 (tX6_tiresNow hM I4) (by decide) rfl rfl (Nat.le_of_ble_eq_true rfl) rfl (fun r5 I6 => ?_)
            exact v_iret (pc := 88) h hr dX6_letter_88
          · refine v_aload_n (pc := 77) h dX6_letter_77 0 rfl rfl ?_
            refine v_calli (pc := 78) h dX6_letter_78 kX6_350 rfl hM.1 (tX6_givesNow hM I4) (by decide) rfl rfl (Nat.le_of_ble_eq_true rfl) rfl (fun r7 I8 => ?_)
            refine v_goto (pc := 81) (t := 88) h dX6_letter_81 rfl ?_
            exact v_iret (pc := 88) h hr dX6_letter_88
        · refine v_aload_n (pc := 64) h dX6_letter_64 0 rfl rfl ?_
          refine v_calli (pc := 65) h dX6_letter_65 kX6_344 rfl hM.1 (tX6_opensNow hM I4) (by decide) rfl rfl (Nat.le_of_ble_eq_true rfl) rfl (fun r9 I10 => ?_)
          refine v_goto (pc := 68) (t := 88) h dX6_letter_68 rfl ?_
          exact v_iret (pc := 88) h hr dX6_letter_88
      · refine v_aload_n (pc := 41) h dX6_letter_41 0 rfl rfl ?_
        refine v_getp (pc := 42) h dX6_letter_42 fX6_7 rfl hM.1 (mA_1 hM).1 ?_
        refine v_aload_n (pc := 45) h dX6_letter_45 0 rfl rfl ?_
        refine v_iload_n (pc := 46) h dX6_letter_46 1 rfl rfl ?_
        refine v_callp (pc := 47) h dX6_letter_47 kX6_136 rfl hM.1 (tX6_letterAt hM a1 I1) (by decide) rfl rfl (Nat.le_of_ble_eq_true rfl) rfl (fun r11 => ?_)
        refine v_iload_n (pc := 50) h dX6_letter_50 2 rfl rfl ?_
        refine v_iadd (pc := 51) h dX6_letter_51 ?_
        refine v_iald (pc := 52) h dX6_letter_52 (mA_1 hM).2.1 (mA_1 hM).2.2 ?_
        exact v_iret (pc := 53) h hr dX6_letter_53
    · refine v_iconst (pc := 34) h dX6_letter_34 (v := (-1)) rfl ?_
      exact v_iret (pc := 35) h hr dX6_letter_35
set_option maxHeartbeats 4000000 in
theorem tX6_given {g : Gl} {mo : Nat} {r : Rh} (hM : MStr mo r) (a1 : Int32) (I : MI) : CtI g yX6_given cX6_given 2 (some .int) 1 [.ref mo, .int a1] I r (pX6_given mo a1 I) := by
  refine CtI.mk (lv := [(0, .ref mo), (1, .int a1)]) (by decide) (Nat.le_of_ble_eq_true rfl) rfl (fun x Q h hr => ?_)
  unfold pX6_given
  refine v_aload_n (pc := 0) h dX6_given_0 0 rfl rfl ?_
  refine v_iconst (pc := 1) h dX6_given_1 (v := 0) rfl ?_
  refine v_puti (pc := 2) h dX6_given_2 fX6_116 rfl hM.1 ?_
  refine v_nmI (fun I1 => ?_)
  refine v_aload_n (pc := 5) h dX6_given_5 0 rfl rfl ?_
  refine v_iload_n (pc := 6) h dX6_given_6 1 rfl rfl ?_
  refine v_iconst (pc := 7) h dX6_given_7 (v := 0) rfl ?_
  refine v_bipush (pc := 8) h dX6_given_8 (v := 6) rfl ?_
  refine v_callp (pc := 10) h dX6_given_10 kX6_143 rfl hM.1 (tX6_isIn hM a1 (0 : Int32) (6 : Int32) I1) (by decide) rfl rfl (Nat.le_of_ble_eq_true rfl) rfl (fun r2 => ?_)
  refine v_if_eq (pc := 13) (t := 28) h dX6_given_13 rfl (fun _ => ?_) (fun _ => ?_)
  · refine v_iconst (pc := 28) h dX6_given_28 (v := (-1)) rfl ?_
    exact v_iret (pc := 29) h hr dX6_given_29
  · refine v_aload_n (pc := 16) h dX6_given_16 0 rfl rfl ?_
    refine v_getp (pc := 17) h dX6_given_17 fX6_7 rfl hM.1 (mA_1 hM).1 ?_
    refine v_bipush (pc := 20) h dX6_given_20 (v := 11) rfl ?_
    refine v_iload_n (pc := 22) h dX6_given_22 1 rfl rfl ?_
    refine v_iadd (pc := 23) h dX6_given_23 ?_
    refine v_iald (pc := 24) h dX6_given_24 (mA_1 hM).2.1 (mA_1 hM).2.2 ?_
    refine v_goto (pc := 25) (t := 29) h dX6_given_25 rfl ?_
    exact v_iret (pc := 29) h hr dX6_given_29
set_option maxHeartbeats 4000000 in
theorem tX6_book {g : Gl} {mo : Nat} {r : Rh} (hM : MStr mo r) (a1 : Int32) (a2 : Int32) (I : MI) : CtI g yX6_book cX6_book 3 (some .int) 1 [.ref mo, .int a1, .int a2] I r (pX6_book mo a1 a2 I) := by
  refine CtI.mk (lv := [(0, .ref mo), (1, .int a1), (2, .int a2)]) (by decide) (Nat.le_of_ble_eq_true rfl) rfl (fun x Q h hr => ?_)
  unfold pX6_book
  refine v_aload_n (pc := 0) h dX6_book_0 0 rfl rfl ?_
  refine v_iconst (pc := 1) h dX6_book_1 (v := 0) rfl ?_
  refine v_puti (pc := 2) h dX6_book_2 fX6_116 rfl hM.1 ?_
  refine v_nmI (fun I1 => ?_)
  refine v_aload_n (pc := 5) h dX6_book_5 0 rfl rfl ?_
  refine v_iload_n (pc := 6) h dX6_book_6 1 rfl rfl ?_
  refine v_iconst (pc := 7) h dX6_book_7 (v := 0) rfl ?_
  refine v_aload_n (pc := 8) h dX6_book_8 0 rfl rfl ?_
  refine v_getp (pc := 9) h dX6_book_9 fX6_7 rfl hM.1 (mA_1 hM).1 ?_
  refine v_iconst (pc := 12) h dX6_book_12 (v := 2) rfl ?_
  refine v_ialdL (pc := 13) h dX6_book_13 (mA_1 hM).2.1 (mA_1 hM).2.2 (vpd rfl) (k := 2) rfl ?_
  refine v_iconst (pc := 14) h dX6_book_14 (v := 1) rfl ?_
  refine v_isub (pc := 15) h dX6_book_15 ?_
  refine v_callp (pc := 16) h dX6_book_16 kX6_143 rfl hM.1 (tX6_isIn hM a1 (0 : Int32) ((I1 (mo + 1) 2) - (1 : Int32)) I1) (by decide) rfl rfl (Nat.le_of_ble_eq_true rfl) rfl (fun r2 => ?_)
  refine v_jn0 (V g x 3 (0, 0) 45 [] [] I1 r) (fun k3 hk3 => ?_) ?_
  · refine v_if_eq (pc := 19) (t := 45) h dX6_book_19 rfl (fun _ => ?_) (fun _ => ?_)
    · refine v_sub [] rfl ?_
      exact hk3
    · refine v_aload_n (pc := 22) h dX6_book_22 0 rfl rfl ?_
      refine v_iload_n (pc := 23) h dX6_book_23 2 rfl rfl ?_
      refine v_iconst (pc := 24) h dX6_book_24 (v := 0) rfl ?_
      refine v_iconst (pc := 25) h dX6_book_25 (v := 3) rfl ?_
      refine v_callp (pc := 26) h dX6_book_26 kX6_143 rfl hM.1 (tX6_isIn hM a2 (0 : Int32) (3 : Int32) I1) (by decide) rfl rfl (Nat.le_of_ble_eq_true rfl) rfl (fun r4 => ?_)
      refine v_if_eq (pc := 29) (t := 45) h dX6_book_29 rfl (fun _ => ?_) (fun _ => ?_)
      · refine v_sub [] rfl ?_
        exact hk3
      · refine v_aload_n (pc := 32) h dX6_book_32 0 rfl rfl ?_
        refine v_getp (pc := 33) h dX6_book_33 fX6_22 rfl hM.1 (mA_8 hM).1 ?_
        refine v_iconst (pc := 36) h dX6_book_36 (v := 4) rfl ?_
        refine v_iload_n (pc := 37) h dX6_book_37 1 rfl rfl ?_
        refine v_imul (pc := 38) h dX6_book_38 ?_
        refine v_iload_n (pc := 39) h dX6_book_39 2 rfl rfl ?_
        refine v_iadd (pc := 40) h dX6_book_40 ?_
        refine v_iald (pc := 41) h dX6_book_41 (mA_8 hM).2.1 (mA_8 hM).2.2 ?_
        refine v_goto (pc := 42) (t := 47) h dX6_book_42 rfl ?_
        exact v_iret (pc := 47) h hr dX6_book_47
  · refine v_bipush (pc := 45) h dX6_book_45 (v := (-2)) rfl ?_
    exact v_iret (pc := 47) h hr dX6_book_47
set_option maxHeartbeats 4000000 in
theorem tX6_thinks {g : Gl} {mo : Nat} {r : Rh} (hM : MStr mo r)  (I : MI) : CtV g yX6_thinks cX6_thinks 2 0 [.ref mo] I r (pX6_thinks mo  I) := by
  refine CtV.mk (lv := [(0, .ref mo)]) (by decide) (Nat.le_of_ble_eq_true rfl) rfl (fun x Q h hr => ?_)
  unfold pX6_thinks
  refine v_iconst (pc := 0) h dX6_thinks_0 (v := 0) rfl ?_
  refine v_istore_n (pc := 1) h dX6_thinks_1 rfl (by decide) (lv' := [(1, .int (0 : Int32)), (0, .ref mo)]) rfl ?_
  refine v_sub [1, 0] rfl ?_
  refine L2.run (lv := fun i1_1 I2 => [(0, .ref mo), (1, .int i1_1)]) (st := fun i1_1 I2 => []) (Im := fun i1_1 I2 => I2) (r := fun i1_1 I2 => r) (fun X3 hX3 i1_1 I2 => ?_) (0 : Int32) I
  refine v_iload_n (pc := 2) h dX6_thinks_2 1 rfl rfl ?_
  refine v_sipush (pc := 3) h dX6_thinks_3 (v := 174) rfl ?_
  refine v_icmp_ge (pc := 6) (t := 27) h dX6_thinks_6 rfl (fun _ => ?_) (fun _ => ?_)
  · refine v_aload_n (pc := 27) h dX6_thinks_27 0 rfl rfl ?_
    refine v_iconst (pc := 28) h dX6_thinks_28 (v := 1) rfl ?_
    refine v_putz (pc := 29) h dX6_thinks_29 fX6_123 rfl (Or.inr rfl) hM.1 ?_
    refine v_nmI (fun I4 => ?_)
    exact v_vret (pc := 32) h hr dX6_thinks_32
  · refine v_aload_n (pc := 9) h dX6_thinks_9 0 rfl rfl ?_
    refine v_getp (pc := 10) h dX6_thinks_10 fX6_16 rfl hM.1 (mA_4 hM).1 ?_
    refine v_iload_n (pc := 13) h dX6_thinks_13 1 rfl rfl ?_
    refine v_aload_n (pc := 14) h dX6_thinks_14 0 rfl rfl ?_
    refine v_getp (pc := 15) h dX6_thinks_15 fX6_7 rfl hM.1 (mA_1 hM).1 ?_
    refine v_iload_n (pc := 18) h dX6_thinks_18 1 rfl rfl ?_
    refine v_iald (pc := 19) h dX6_thinks_19 (mA_1 hM).2.1 (mA_1 hM).2.2 ?_
    refine v_iast (pc := 20) h dX6_thinks_20 (mA_4 hM).2.1 (mA_4 hM).2.2 ?_
    refine v_nmI (fun I5 => ?_)
    refine v_iinc (pc := 21) h dX6_thinks_21 1 rfl (w := (i1_1 + (1 : Int32))) rfl (by decide) (lv' := [(1, .int (i1_1 + (1 : Int32))), (0, .ref mo)]) rfl ?_
    refine v_goto (pc := 24) (t := 2) h dX6_thinks_24 rfl ?_
    refine v_sub [1, 0] rfl ?_
    exact hX3 (i1_1 + (1 : Int32)) I5
set_option maxHeartbeats 4000000 in
theorem tX6_endsThought {g : Gl} {mo : Nat} {r : Rh} (hM : MStr mo r)  (I : MI) : CtV g yX6_endsThought cX6_endsThought 2 0 [.ref mo] I r (pX6_endsThought mo  I) := by
  refine CtV.mk (lv := [(0, .ref mo)]) (by decide) (Nat.le_of_ble_eq_true rfl) rfl (fun x Q h hr => ?_)
  unfold pX6_endsThought
  refine v_iconst (pc := 0) h dX6_endsThought_0 (v := 0) rfl ?_
  refine v_istore_n (pc := 1) h dX6_endsThought_1 rfl (by decide) (lv' := [(1, .int (0 : Int32)), (0, .ref mo)]) rfl ?_
  refine v_sub [1, 0] rfl ?_
  refine L2.run (lv := fun i1_1 I2 => [(0, .ref mo), (1, .int i1_1)]) (st := fun i1_1 I2 => []) (Im := fun i1_1 I2 => I2) (r := fun i1_1 I2 => r) (fun X3 hX3 i1_1 I2 => ?_) (0 : Int32) I
  refine v_iload_n (pc := 2) h dX6_endsThought_2 1 rfl rfl ?_
  refine v_sipush (pc := 3) h dX6_endsThought_3 (v := 174) rfl ?_
  refine v_icmp_ge (pc := 6) (t := 27) h dX6_endsThought_6 rfl (fun _ => ?_) (fun _ => ?_)
  · refine v_aload_n (pc := 27) h dX6_endsThought_27 0 rfl rfl ?_
    refine v_iconst (pc := 28) h dX6_endsThought_28 (v := 0) rfl ?_
    refine v_putz (pc := 29) h dX6_endsThought_29 fX6_123 rfl (Or.inl rfl) hM.1 ?_
    refine v_nmI (fun I4 => ?_)
    exact v_vret (pc := 32) h hr dX6_endsThought_32
  · refine v_aload_n (pc := 9) h dX6_endsThought_9 0 rfl rfl ?_
    refine v_getp (pc := 10) h dX6_endsThought_10 fX6_7 rfl hM.1 (mA_1 hM).1 ?_
    refine v_iload_n (pc := 13) h dX6_endsThought_13 1 rfl rfl ?_
    refine v_aload_n (pc := 14) h dX6_endsThought_14 0 rfl rfl ?_
    refine v_getp (pc := 15) h dX6_endsThought_15 fX6_16 rfl hM.1 (mA_4 hM).1 ?_
    refine v_iload_n (pc := 18) h dX6_endsThought_18 1 rfl rfl ?_
    refine v_iald (pc := 19) h dX6_endsThought_19 (mA_4 hM).2.1 (mA_4 hM).2.2 ?_
    refine v_iast (pc := 20) h dX6_endsThought_20 (mA_1 hM).2.1 (mA_1 hM).2.2 ?_
    refine v_nmI (fun I5 => ?_)
    refine v_iinc (pc := 21) h dX6_endsThought_21 1 rfl (w := (i1_1 + (1 : Int32))) rfl (by decide) (lv' := [(1, .int (i1_1 + (1 : Int32))), (0, .ref mo)]) rfl ?_
    refine v_goto (pc := 24) (t := 2) h dX6_endsThought_24 rfl ?_
    refine v_sub [1, 0] rfl ?_
    exact hX3 (i1_1 + (1 : Int32)) I5
set_option maxHeartbeats 4000000 in
theorem tX6_goes {g : Gl} {mo : Nat} {r : Rh} (hM : MStr mo r) (a1 : Int32) (a2 : Int32) (I : MI) : CtI g yX6_goes cX6_goes 4 (some .int) 8 [.ref mo, .int a1, .int a2] I r (pX6_goes mo a1 a2 I) := by
  refine CtI.mk (lv := [(0, .ref mo), (1, .int a1), (2, .int a2)]) (by decide) (Nat.le_of_ble_eq_true rfl) rfl (fun x Q h hr => ?_)
  unfold pX6_goes
  refine v_aload_n (pc := 0) h dX6_goes_0 0 rfl rfl ?_
  refine v_iconst (pc := 1) h dX6_goes_1 (v := 0) rfl ?_
  refine v_puti (pc := 2) h dX6_goes_2 fX6_116 rfl hM.1 ?_
  refine v_nmI (fun I1 => ?_)
  refine v_aload_n (pc := 5) h dX6_goes_5 0 rfl rfl ?_
  refine v_iload_n (pc := 6) h dX6_goes_6 1 rfl rfl ?_
  refine v_iconst (pc := 7) h dX6_goes_7 (v := 1) rfl ?_
  refine v_bipush (pc := 8) h dX6_goes_8 (v := 60) rfl ?_
  refine v_callp (pc := 10) h dX6_goes_10 kX6_143 rfl hM.1 (tX6_isIn hM a1 (1 : Int32) (60 : Int32) I1) (by decide) rfl rfl (Nat.le_of_ble_eq_true rfl) rfl (fun r2 => ?_)
  refine v_if_eq (pc := 13) (t := 26) h dX6_goes_13 rfl (fun _ => ?_) (fun _ => ?_)
  · refine v_iconst (pc := 26) h dX6_goes_26 (v := (-1)) rfl ?_
    exact v_iret (pc := 27) h hr dX6_goes_27
  · refine v_aload_n (pc := 16) h dX6_goes_16 0 rfl rfl ?_
    refine v_iload_n (pc := 17) h dX6_goes_17 2 rfl rfl ?_
    refine v_iconst (pc := 18) h dX6_goes_18 (v := 0) rfl ?_
    refine v_iconst (pc := 19) h dX6_goes_19 (v := 3) rfl ?_
    refine v_callp (pc := 20) h dX6_goes_20 kX6_143 rfl hM.1 (tX6_isIn hM a2 (0 : Int32) (3 : Int32) I1) (by decide) rfl rfl (Nat.le_of_ble_eq_true rfl) rfl (fun r3 => ?_)
    refine v_if_ne (pc := 23) (t := 28) h dX6_goes_23 rfl (fun _ => ?_) (fun _ => ?_)
    · refine v_aload_n (pc := 28) h dX6_goes_28 0 rfl rfl ?_
      refine v_callv (pc := 29) h dX6_goes_29 kX6_399 rfl hM.1 (tX6_thinks hM I1) (by decide) rfl rfl (Nat.le_of_ble_eq_true rfl) rfl (fun I4 => ?_)
      refine v_iconst (pc := 32) h dX6_goes_32 (v := 0) rfl ?_
      refine v_istore_n (pc := 33) h dX6_goes_33 rfl (by decide) (lv' := [(3, .int (0 : Int32)), (0, .ref mo), (1, .int a1), (2, .int a2)]) rfl ?_
      refine v_sub [1, 2, 3, 0] rfl ?_
      refine L2.run (lv := fun i3_5 I6 => [(0, .ref mo), (1, .int a1), (2, .int a2), (3, .int i3_5)]) (st := fun i3_5 I6 => []) (Im := fun i3_5 I6 => I6) (r := fun i3_5 I6 => r) (fun X7 hX7 i3_5 I6 => ?_) (0 : Int32) I4
      refine v_iload_n (pc := 34) h dX6_goes_34 3 rfl rfl ?_
      refine v_iload_n (pc := 35) h dX6_goes_35 1 rfl rfl ?_
      refine v_icmp_ge (pc := 36) (t := 50) h dX6_goes_36 rfl (fun _ => ?_) (fun _ => ?_)
      · refine v_iload_n (pc := 50) h dX6_goes_50 2 rfl rfl ?_
        refine v_jn1 (fun t8 => V g x 4 (0, 0) 97 [(0, .ref mo)] [.int t8] I6 r) (fun k9 hk9 => ?_) (fun t8 => ?_)
        · refine v_if_ne (pc := 51) (t := 61) h dX6_goes_51 rfl (fun _ => ?_) (fun _ => ?_)
          · refine v_iload_n (pc := 61) h dX6_goes_61 2 rfl rfl ?_
            refine v_iconst (pc := 62) h dX6_goes_62 (v := 1) rfl ?_
            refine v_icmp_ne (pc := 63) (t := 75) h dX6_goes_63 rfl (fun _ => ?_) (fun _ => ?_)
            · refine v_iload_n (pc := 75) h dX6_goes_75 2 rfl rfl ?_
              refine v_iconst (pc := 76) h dX6_goes_76 (v := 2) rfl ?_
              refine v_icmp_ne (pc := 77) (t := 90) h dX6_goes_77 rfl (fun _ => ?_) (fun _ => ?_)
              · refine v_aload_n (pc := 90) h dX6_goes_90 0 rfl rfl ?_
                refine v_getp (pc := 91) h dX6_goes_91 fX6_7 rfl hM.1 (mA_1 hM).1 ?_
                refine v_bipush (pc := 94) h dX6_goes_94 (v := 7) rfl ?_
                refine v_ialdL (pc := 96) h dX6_goes_96 (mA_1 hM).2.1 (mA_1 hM).2.2 (vpd rfl) (k := 7) rfl ?_
                refine v_sub [0] rfl ?_
                exact hk9 (I6 (mo + 1) 7)
              · refine v_aload_n (pc := 80) h dX6_goes_80 0 rfl rfl ?_
                refine v_getp (pc := 81) h dX6_goes_81 fX6_7 rfl hM.1 (mA_1 hM).1 ?_
                refine v_bipush (pc := 84) h dX6_goes_84 (v := 10) rfl ?_
                refine v_ialdL (pc := 86) h dX6_goes_86 (mA_1 hM).2.1 (mA_1 hM).2.2 (vpd rfl) (k := 10) rfl ?_
                refine v_goto (pc := 87) (t := 97) h dX6_goes_87 rfl ?_
                refine v_sub [0] rfl ?_
                exact hk9 (I6 (mo + 1) 10)
            · refine v_aload_n (pc := 66) h dX6_goes_66 0 rfl rfl ?_
              refine v_getp (pc := 67) h dX6_goes_67 fX6_7 rfl hM.1 (mA_1 hM).1 ?_
              refine v_iconst (pc := 70) h dX6_goes_70 (v := 5) rfl ?_
              refine v_ialdL (pc := 71) h dX6_goes_71 (mA_1 hM).2.1 (mA_1 hM).2.2 (vpd rfl) (k := 5) rfl ?_
              refine v_goto (pc := 72) (t := 97) h dX6_goes_72 rfl ?_
              refine v_sub [0] rfl ?_
              exact hk9 (I6 (mo + 1) 5)
          · refine v_aload_n (pc := 54) h dX6_goes_54 0 rfl rfl ?_
            refine v_callp (pc := 55) h dX6_goes_55 kX6_312 rfl hM.1 (tX6_health hM I6) (by decide) rfl rfl (Nat.le_of_ble_eq_true rfl) rfl (fun r10 => ?_)
            refine v_goto (pc := 58) (t := 97) h dX6_goes_58 rfl ?_
            refine v_sub [0] rfl ?_
            exact hk9 r10
        · refine v_istore_n (pc := 97) h dX6_goes_97 rfl (by decide) (lv' := [(3, .int t8), (0, .ref mo)]) rfl ?_
          refine v_aload_n (pc := 98) h dX6_goes_98 1 rfl rfl ?_
          refine v_callv (pc := 99) h dX6_goes_99 kX6_402 rfl hM.1 (tX6_endsThought hM I6) (by decide) rfl rfl (Nat.le_of_ble_eq_true rfl) rfl (fun I11 => ?_)
          refine v_iload_n (pc := 102) h dX6_goes_102 0 rfl rfl ?_
          exact v_iret (pc := 103) h hr dX6_goes_103
      · refine v_aload_n (pc := 39) h dX6_goes_39 0 rfl rfl ?_
        refine v_calli (pc := 40) h dX6_goes_40 kX6_393 rfl hM.1 (tX6_goesBy hM I6) (by decide) rfl rfl (Nat.le_of_ble_eq_true rfl) rfl (fun r12 I13 => ?_)
        refine v_pop (pc := 43) h dX6_goes_43 rfl ?_
        refine v_iinc (pc := 44) h dX6_goes_44 3 rfl (w := (i3_5 + (1 : Int32))) rfl (by decide) (lv' := [(3, .int (i3_5 + (1 : Int32))), (0, .ref mo), (1, .int a1), (2, .int a2)]) rfl ?_
        refine v_goto (pc := 47) (t := 34) h dX6_goes_47 rfl ?_
        refine v_sub [1, 2, 3, 0] rfl ?_
        exact hX7 (i3_5 + (1 : Int32)) I13
    · refine v_iconst (pc := 26) h dX6_goes_26 (v := (-1)) rfl ?_
      exact v_iret (pc := 27) h hr dX6_goes_27
set_option maxHeartbeats 4000000 in
theorem tX6_findsGoals {g : Gl} {mo : Nat} {r : Rh} (hM : MStr mo r) (a1 : Int32) (I : MI) : CtV g yX6_findsGoals cX6_findsGoals 3 3 [.ref mo, .int a1] I r (pX6_findsGoals mo a1 I) := by
  refine CtV.mk (lv := [(0, .ref mo), (1, .int a1)]) (by decide) (Nat.le_of_ble_eq_true rfl) rfl (fun x Q h hr => ?_)
  unfold pX6_findsGoals
  refine v_aload_n (pc := 0) h dX6_findsGoals_0 0 rfl rfl ?_
  refine v_iconst (pc := 1) h dX6_findsGoals_1 (v := 0) rfl ?_
  refine v_puti (pc := 2) h dX6_findsGoals_2 fX6_406 rfl hM.1 ?_
  refine v_nmI (fun I1 => ?_)
  refine v_iconst (pc := 5) h dX6_findsGoals_5 (v := 0) rfl ?_
  refine v_istore_n (pc := 6) h dX6_findsGoals_6 rfl (by decide) (lv' := [(2, .int (0 : Int32)), (0, .ref mo), (1, .int a1)]) rfl ?_
  refine v_sub [1, 2, 0] rfl ?_
  refine L2.run (lv := fun i2_2 I3 => [(0, .ref mo), (1, .int a1), (2, .int i2_2)]) (st := fun i2_2 I3 => []) (Im := fun i2_2 I3 => I3) (r := fun i2_2 I3 => r) (fun X4 hX4 i2_2 I3 => ?_) (0 : Int32) I1
  refine v_iload_n (pc := 7) h dX6_findsGoals_7 2 rfl rfl ?_
  refine v_aload_n (pc := 8) h dX6_findsGoals_8 0 rfl rfl ?_
  refine v_geti (pc := 9) h dX6_findsGoals_9 fX6_129 rfl hM.1 ?_
  refine v_icmp_ge (pc := 12) (t := 57) h dX6_findsGoals_12 rfl (fun _ => ?_) (fun _ => ?_)
  · exact v_vret (pc := 57) h hr dX6_findsGoals_57
  · refine v_iload_n (pc := 15) h dX6_findsGoals_15 2 rfl rfl ?_
    refine v_iload_n (pc := 16) h dX6_findsGoals_16 1 rfl rfl ?_
    refine v_jn1 (fun I5 => V g x 3 (0, 0) 51 [(0, .ref mo), (1, .int a1), (2, .int i2_2)] [] I5 r) (fun k6 hk6 => ?_) (fun I5 => ?_)
    · refine v_icmp_eq (pc := 17) (t := 51) h dX6_findsGoals_17 rfl (fun _ => ?_) (fun _ => ?_)
      · exact hk6 I3
      · refine v_aload_n (pc := 20) h dX6_findsGoals_20 0 rfl rfl ?_
        refine v_iload_n (pc := 21) h dX6_findsGoals_21 2 rfl rfl ?_
        refine v_callp (pc := 22) h dX6_findsGoals_22 kX6_396 rfl hM.1 (tX6_lettersFor hM i2_2 I3) (by decide) rfl rfl (Nat.le_of_ble_eq_true rfl) rfl (fun r7 => ?_)
        refine v_if_ne (pc := 25) (t := 31) h dX6_findsGoals_25 rfl (fun _ => ?_) (fun _ => ?_)
        · refine v_aload_n (pc := 31) h dX6_findsGoals_31 0 rfl rfl ?_
          refine v_getp (pc := 32) h dX6_findsGoals_32 fX6_77 rfl hM.1 (mA_43 hM).1 ?_
          refine v_aload_n (pc := 35) h dX6_findsGoals_35 0 rfl rfl ?_
          refine v_geti (pc := 36) h dX6_findsGoals_36 fX6_406 rfl hM.1 ?_
          refine v_iload_n (pc := 39) h dX6_findsGoals_39 2 rfl rfl ?_
          refine v_iast (pc := 40) h dX6_findsGoals_40 (mA_43 hM).2.1 (mA_43 hM).2.2 ?_
          refine v_nmI (fun I8 => ?_)
          refine v_aload_n (pc := 41) h dX6_findsGoals_41 0 rfl rfl ?_
          refine v_aload_n (pc := 42) h dX6_findsGoals_42 0 rfl rfl ?_
          refine v_geti (pc := 43) h dX6_findsGoals_43 fX6_406 rfl hM.1 ?_
          refine v_iconst (pc := 46) h dX6_findsGoals_46 (v := 1) rfl ?_
          refine v_iadd (pc := 47) h dX6_findsGoals_47 ?_
          refine v_puti (pc := 48) h dX6_findsGoals_48 fX6_406 rfl hM.1 ?_
          refine v_nmI (fun I9 => ?_)
          exact hk6 I9
        · refine v_goto (pc := 28) (t := 51) h dX6_findsGoals_28 rfl ?_
          exact hk6 I3
    · refine v_iinc (pc := 51) h dX6_findsGoals_51 2 rfl (w := (i2_2 + (1 : Int32))) rfl (by decide) (lv' := [(2, .int (i2_2 + (1 : Int32))), (0, .ref mo), (1, .int a1)]) rfl ?_
      refine v_goto (pc := 54) (t := 7) h dX6_findsGoals_54 rfl ?_
      refine v_sub [1, 2, 0] rfl ?_
      exact hX4 (i2_2 + (1 : Int32)) I5
set_option maxHeartbeats 4000000 in
theorem tX6_findsWays {g : Gl} {mo : Nat} {r : Rh} (hM : MStr mo r)  (I : MI) : CtV g yX6_findsWays cX6_findsWays 4 1 [.ref mo] I r (pX6_findsWays mo  I) := by
  refine CtV.mk (lv := [(0, .ref mo)]) (by decide) (Nat.le_of_ble_eq_true rfl) rfl (fun x Q h hr => ?_)
  unfold pX6_findsWays
  refine v_iconst (pc := 0) h dX6_findsWays_0 (v := 0) rfl ?_
  refine v_istore_n (pc := 1) h dX6_findsWays_1 rfl (by decide) (lv' := [(1, .int (0 : Int32)), (0, .ref mo)]) rfl ?_
  refine v_sub [1, 0] rfl ?_
  refine L2.run (lv := fun i1_1 I2 => [(0, .ref mo), (1, .int i1_1)]) (st := fun i1_1 I2 => []) (Im := fun i1_1 I2 => I2) (r := fun i1_1 I2 => r) (fun X3 hX3 i1_1 I2 => ?_) (0 : Int32) I
  refine v_iload_n (pc := 2) h dX6_findsWays_2 1 rfl rfl ?_
  refine v_aload_n (pc := 3) h dX6_findsWays_3 0 rfl rfl ?_
  refine v_geti (pc := 4) h dX6_findsWays_4 fX6_129 rfl hM.1 ?_
  refine v_icmp_ge (pc := 7) (t := 83) h dX6_findsWays_7 rfl (fun _ => ?_) (fun _ => ?_)
  · refine v_iconst (pc := 83) h dX6_findsWays_83 (v := 0) rfl ?_
    refine v_istore_n (pc := 84) h dX6_findsWays_84 rfl (by decide) (lv' := [(1, .int (0 : Int32)), (0, .ref mo)]) rfl ?_
    refine v_sub [1, 0] rfl ?_
    refine L2.run (lv := fun i1_4 I5 => [(0, .ref mo), (1, .int i1_4)]) (st := fun i1_4 I5 => []) (Im := fun i1_4 I5 => I5) (r := fun i1_4 I5 => r) (fun X6 hX6 i1_4 I5 => ?_) (0 : Int32) I2
    refine v_iload_n (pc := 85) h dX6_findsWays_85 1 rfl rfl ?_
    refine v_aload_n (pc := 86) h dX6_findsWays_86 0 rfl rfl ?_
    refine v_geti (pc := 87) h dX6_findsWays_87 fX6_129 rfl hM.1 ?_
    refine v_icmp_ge (pc := 90) (t := 180) h dX6_findsWays_90 rfl (fun _ => ?_) (fun _ => ?_)
    · exact v_vret (pc := 180) h hr dX6_findsWays_180
    · refine v_iconst (pc := 93) h dX6_findsWays_93 (v := 0) rfl ?_
      refine v_istore_n (pc := 94) h dX6_findsWays_94 rfl (by decide) (lv' := [(2, .int (0 : Int32)), (0, .ref mo), (1, .int i1_4)]) rfl ?_
      refine v_sub [1, 2, 0] rfl ?_
      refine L2.run (lv := fun i2_7 I8 => [(0, .ref mo), (1, .int i1_4), (2, .int i2_7)]) (st := fun i2_7 I8 => []) (Im := fun i2_7 I8 => I8) (r := fun i2_7 I8 => r) (fun X9 hX9 i2_7 I8 => ?_) (0 : Int32) I5
      refine v_iload_n (pc := 95) h dX6_findsWays_95 2 rfl rfl ?_
      refine v_aload_n (pc := 96) h dX6_findsWays_96 0 rfl rfl ?_
      refine v_geti (pc := 97) h dX6_findsWays_97 fX6_129 rfl hM.1 ?_
      refine v_icmp_ge (pc := 100) (t := 174) h dX6_findsWays_100 rfl (fun _ => ?_) (fun _ => ?_)
      · refine v_iinc (pc := 174) h dX6_findsWays_174 1 rfl (w := (i1_4 + (1 : Int32))) rfl (by decide) (lv' := [(1, .int (i1_4 + (1 : Int32))), (0, .ref mo), (2, .int i2_7)]) rfl ?_
        refine v_goto (pc := 177) (t := 85) h dX6_findsWays_177 rfl ?_
        refine v_sub [1, 0] rfl ?_
        exact hX6 (i1_4 + (1 : Int32)) I8
      · refine v_iconst (pc := 103) h dX6_findsWays_103 (v := 0) rfl ?_
        refine v_istore_n (pc := 104) h dX6_findsWays_104 rfl (by decide) (lv' := [(3, .int (0 : Int32)), (0, .ref mo), (1, .int i1_4), (2, .int i2_7)]) rfl ?_
        refine v_sub [1, 2, 3, 0] rfl ?_
        refine L2.run (lv := fun i3_10 I11 => [(0, .ref mo), (1, .int i1_4), (2, .int i2_7), (3, .int i3_10)]) (st := fun i3_10 I11 => []) (Im := fun i3_10 I11 => I11) (r := fun i3_10 I11 => r) (fun X12 hX12 i3_10 I11 => ?_) (0 : Int32) I8
        refine v_iload_n (pc := 105) h dX6_findsWays_105 3 rfl rfl ?_
        refine v_aload_n (pc := 106) h dX6_findsWays_106 0 rfl rfl ?_
        refine v_geti (pc := 107) h dX6_findsWays_107 fX6_129 rfl hM.1 ?_
        refine v_icmp_ge (pc := 110) (t := 168) h dX6_findsWays_110 rfl (fun _ => ?_) (fun _ => ?_)
        · refine v_iinc (pc := 168) h dX6_findsWays_168 2 rfl (w := (i2_7 + (1 : Int32))) rfl (by decide) (lv' := [(2, .int (i2_7 + (1 : Int32))), (0, .ref mo), (1, .int i1_4), (3, .int i3_10)]) rfl ?_
          refine v_goto (pc := 171) (t := 95) h dX6_findsWays_171 rfl ?_
          refine v_sub [1, 2, 0] rfl ?_
          exact hX9 (i2_7 + (1 : Int32)) I11
        · refine v_aload_n (pc := 113) h dX6_findsWays_113 0 rfl rfl ?_
          refine v_getp (pc := 114) h dX6_findsWays_114 fX6_74 rfl hM.1 (mA_41 hM).1 ?_
          refine v_bipush (pc := 117) h dX6_findsWays_117 (v := 12) rfl ?_
          refine v_iload_n (pc := 119) h dX6_findsWays_119 2 rfl rfl ?_
          refine v_imul (pc := 120) h dX6_findsWays_120 ?_
          refine v_iload_n (pc := 121) h dX6_findsWays_121 3 rfl rfl ?_
          refine v_iadd (pc := 122) h dX6_findsWays_122 ?_
          refine v_aload_n (pc := 123) h dX6_findsWays_123 0 rfl rfl ?_
          refine v_aload_n (pc := 124) h dX6_findsWays_124 0 rfl rfl ?_
          refine v_getp (pc := 125) h dX6_findsWays_125 fX6_74 rfl hM.1 (mA_41 hM).1 ?_
          refine v_bipush (pc := 128) h dX6_findsWays_128 (v := 12) rfl ?_
          refine v_iload_n (pc := 130) h dX6_findsWays_130 2 rfl rfl ?_
          refine v_imul (pc := 131) h dX6_findsWays_131 ?_
          refine v_iload_n (pc := 132) h dX6_findsWays_132 3 rfl rfl ?_
          refine v_iadd (pc := 133) h dX6_findsWays_133 ?_
          refine v_iald (pc := 134) h dX6_findsWays_134 (mA_41 hM).2.1 (mA_41 hM).2.2 ?_
          refine v_aload_n (pc := 135) h dX6_findsWays_135 0 rfl rfl ?_
          refine v_getp (pc := 136) h dX6_findsWays_136 fX6_74 rfl hM.1 (mA_41 hM).1 ?_
          refine v_bipush (pc := 139) h dX6_findsWays_139 (v := 12) rfl ?_
          refine v_iload_n (pc := 141) h dX6_findsWays_141 2 rfl rfl ?_
          refine v_imul (pc := 142) h dX6_findsWays_142 ?_
          refine v_iload_n (pc := 143) h dX6_findsWays_143 1 rfl rfl ?_
          refine v_iadd (pc := 144) h dX6_findsWays_144 ?_
          refine v_iald (pc := 145) h dX6_findsWays_145 (mA_41 hM).2.1 (mA_41 hM).2.2 ?_
          refine v_aload_n (pc := 146) h dX6_findsWays_146 0 rfl rfl ?_
          refine v_getp (pc := 147) h dX6_findsWays_147 fX6_74 rfl hM.1 (mA_41 hM).1 ?_
          refine v_bipush (pc := 150) h dX6_findsWays_150 (v := 12) rfl ?_
          refine v_iload_n (pc := 152) h dX6_findsWays_152 1 rfl rfl ?_
          refine v_imul (pc := 153) h dX6_findsWays_153 ?_
          refine v_iload_n (pc := 154) h dX6_findsWays_154 3 rfl rfl ?_
          refine v_iadd (pc := 155) h dX6_findsWays_155 ?_
          refine v_iald (pc := 156) h dX6_findsWays_156 (mA_41 hM).2.1 (mA_41 hM).2.2 ?_
          refine v_iadd (pc := 157) h dX6_findsWays_157 ?_
          refine v_callp (pc := 158) h dX6_findsWays_158 kX6_353 rfl hM.1 (tX6_lesser hM (I11 (mo + 21) (((12 : Int32) * i2_7) + i3_10).toNatClampNeg) ((I11 (mo + 21) (((12 : Int32) * i2_7) + i1_4).toNatClampNeg) + (I11 (mo + 21) (((12 : Int32) * i1_4) + i3_10).toNatClampNeg)) I11) (by decide) rfl rfl (Nat.le_of_ble_eq_true rfl) rfl (fun r13 => ?_)
          refine v_iast (pc := 161) h dX6_findsWays_161 (mA_41 hM).2.1 (mA_41 hM).2.2 ?_
          refine v_nmI (fun I14 => ?_)
          refine v_iinc (pc := 162) h dX6_findsWays_162 3 rfl (w := (i3_10 + (1 : Int32))) rfl (by decide) (lv' := [(3, .int (i3_10 + (1 : Int32))), (0, .ref mo), (1, .int i1_4), (2, .int i2_7)]) rfl ?_
          refine v_goto (pc := 165) (t := 105) h dX6_findsWays_165 rfl ?_
          refine v_sub [1, 2, 3, 0] rfl ?_
          exact hX12 (i3_10 + (1 : Int32)) I14
  · refine v_iconst (pc := 10) h dX6_findsWays_10 (v := 0) rfl ?_
    refine v_istore_n (pc := 11) h dX6_findsWays_11 rfl (by decide) (lv' := [(2, .int (0 : Int32)), (0, .ref mo), (1, .int i1_1)]) rfl ?_
    refine v_sub [1, 2, 0] rfl ?_
    refine L2.run (lv := fun i2_15 I16 => [(0, .ref mo), (1, .int i1_1), (2, .int i2_15)]) (st := fun i2_15 I16 => []) (Im := fun i2_15 I16 => I16) (r := fun i2_15 I16 => r) (fun X17 hX17 i2_15 I16 => ?_) (0 : Int32) I2
    refine v_iload_n (pc := 12) h dX6_findsWays_12 2 rfl rfl ?_
    refine v_aload_n (pc := 13) h dX6_findsWays_13 0 rfl rfl ?_
    refine v_geti (pc := 14) h dX6_findsWays_14 fX6_129 rfl hM.1 ?_
    refine v_icmp_ge (pc := 17) (t := 77) h dX6_findsWays_17 rfl (fun _ => ?_) (fun _ => ?_)
    · refine v_iinc (pc := 77) h dX6_findsWays_77 1 rfl (w := (i1_1 + (1 : Int32))) rfl (by decide) (lv' := [(1, .int (i1_1 + (1 : Int32))), (0, .ref mo), (2, .int i2_15)]) rfl ?_
      refine v_goto (pc := 80) (t := 2) h dX6_findsWays_80 rfl ?_
      refine v_sub [1, 0] rfl ?_
      exact hX3 (i1_1 + (1 : Int32)) I16
    · refine v_aload_n (pc := 20) h dX6_findsWays_20 0 rfl rfl ?_
      refine v_getp (pc := 21) h dX6_findsWays_21 fX6_74 rfl hM.1 (mA_41 hM).1 ?_
      refine v_bipush (pc := 24) h dX6_findsWays_24 (v := 12) rfl ?_
      refine v_iload_n (pc := 26) h dX6_findsWays_26 1 rfl rfl ?_
      refine v_imul (pc := 27) h dX6_findsWays_27 ?_
      refine v_iload_n (pc := 28) h dX6_findsWays_28 2 rfl rfl ?_
      refine v_iadd (pc := 29) h dX6_findsWays_29 ?_
      refine v_iload_n (pc := 30) h dX6_findsWays_30 1 rfl rfl ?_
      refine v_iload_n (pc := 31) h dX6_findsWays_31 2 rfl rfl ?_
      refine v_jn1 (fun t18 => V g x 4 (0, 0) 70 [(0, .ref mo), (1, .int i1_1), (2, .int i2_15)] [.int t18, .int (((12 : Int32) * i1_1) + i2_15), .ref (mo + 21)] I16 r) (fun k19 hk19 => ?_) (fun t18 => ?_)
      · refine v_icmp_ne (pc := 32) (t := 39) h dX6_findsWays_32 rfl (fun _ => ?_) (fun _ => ?_)
        · refine v_aload_n (pc := 39) h dX6_findsWays_39 0 rfl rfl ?_
          refine v_getp (pc := 40) h dX6_findsWays_40 fX6_65 rfl hM.1 (mA_37 hM).1 ?_
          refine v_bipush (pc := 43) h dX6_findsWays_43 (v := 12) rfl ?_
          refine v_iload_n (pc := 45) h dX6_findsWays_45 1 rfl rfl ?_
          refine v_imul (pc := 46) h dX6_findsWays_46 ?_
          refine v_iload_n (pc := 47) h dX6_findsWays_47 2 rfl rfl ?_
          refine v_iadd (pc := 48) h dX6_findsWays_48 ?_
          refine v_iald (pc := 49) h dX6_findsWays_49 (mA_37 hM).2.1 (mA_37 hM).2.2 ?_
          refine v_if_ne (pc := 50) (t := 59) h dX6_findsWays_50 rfl (fun _ => ?_) (fun _ => ?_)
          · refine v_aload_n (pc := 59) h dX6_findsWays_59 0 rfl rfl ?_
            refine v_getp (pc := 60) h dX6_findsWays_60 fX6_65 rfl hM.1 (mA_37 hM).1 ?_
            refine v_bipush (pc := 63) h dX6_findsWays_63 (v := 12) rfl ?_
            refine v_iload_n (pc := 65) h dX6_findsWays_65 1 rfl rfl ?_
            refine v_imul (pc := 66) h dX6_findsWays_66 ?_
            refine v_iload_n (pc := 67) h dX6_findsWays_67 2 rfl rfl ?_
            refine v_iadd (pc := 68) h dX6_findsWays_68 ?_
            refine v_iald (pc := 69) h dX6_findsWays_69 (mA_37 hM).2.1 (mA_37 hM).2.2 ?_
            exact hk19 (I16 (mo + 18) (((12 : Int32) * i1_1) + i2_15).toNatClampNeg)
          · refine v_ldcw (pc := 53) h dX6_findsWays_53 (v := (100000000)) q1921 ?_
            refine v_goto (pc := 56) (t := 70) h dX6_findsWays_56 rfl ?_
            exact hk19 (100000000 : Int32)
        · refine v_iconst (pc := 35) h dX6_findsWays_35 (v := 0) rfl ?_
          refine v_goto (pc := 36) (t := 70) h dX6_findsWays_36 rfl ?_
          exact hk19 (0 : Int32)
      · refine v_iast (pc := 70) h dX6_findsWays_70 (mA_41 hM).2.1 (mA_41 hM).2.2 ?_
        refine v_nmI (fun I20 => ?_)
        refine v_iinc (pc := 71) h dX6_findsWays_71 2 rfl (w := (i2_15 + (1 : Int32))) rfl (by decide) (lv' := [(2, .int (i2_15 + (1 : Int32))), (0, .ref mo), (1, .int i1_1)]) rfl ?_
        refine v_goto (pc := 74) (t := 12) h dX6_findsWays_74 rfl ?_
        refine v_sub [1, 2, 0] rfl ?_
        exact hX17 (i2_15 + (1 : Int32)) I20
