/-! the component: the walks -/
set_option maxRecDepth 100000
set_option maxHeartbeats 4000000 in
theorem tX0_word {g : Gl}  (o : Nat) (a1 : Int32) (I : MI) (r : Rh) (h_o : KpS o r) : CtV g yX0_word cX0_word 3 1 [.ref o, .int a1] I r (pX0_word o a1 I r) := by
  refine CtV.mk (lv := [(0, .ref o), (1, .int a1)]) (by decide) (Nat.le_of_ble_eq_true rfl) rfl (fun x Q h hr => ?_)
  unfold pX0_word
  refine v_bipush (pc := 0) h dX0_word_0 (v := 24) rfl ?_
  refine v_istore_n (pc := 2) h dX0_word_2 rfl (by decide) (lv' := [(2, .int (24 : Int32)), (0, .ref o), (1, .int a1)]) rfl ?_
  refine v_sub [1, 2, 0] rfl ?_
  refine L2.run (lv := fun i2_1 I2 => [(0, .ref o), (1, .int a1), (2, .int i2_1)]) (st := fun i2_1 I2 => []) (Im := fun i2_1 I2 => I2) (r := fun i2_1 I2 => r) (fun X3 hX3 i2_1 I2 => ?_) (24 : Int32) I
  refine v_iload_n (pc := 3) h dX0_word_3 2 rfl rfl ?_
  refine v_if_lt (pc := 4) (t := 36) h dX0_word_4 rfl (fun _ => ?_) (fun _ => ?_)
  · exact v_vret (pc := 36) h hr dX0_word_36
  · refine v_aload_n (pc := 7) h dX0_word_7 0 rfl rfl ?_
    refine v_getp (pc := 8) h dX0_word_8 fX0_9 rfl (KpS.c h_o) (KpS.tape h_o).1 ?_
    refine v_aload_n (pc := 11) h dX0_word_11 0 rfl rfl ?_
    refine v_geti (pc := 12) h dX0_word_12 fX0_71 rfl (KpS.c h_o) ?_
    refine v_iload_n (pc := 15) h dX0_word_15 1 rfl rfl ?_
    refine v_iload_n (pc := 16) h dX0_word_16 2 rfl rfl ?_
    refine v_ishr (pc := 17) h dX0_word_17 ?_
    refine v_i2b (pc := 18) h dX0_word_18 ?_
    refine v_bast (pc := 19) h dX0_word_19 (KpS.tape h_o).2.1 (KpS.tape h_o).2.2 ?_
    refine v_nmI (fun I4 => ?_)
    refine v_aload_n (pc := 20) h dX0_word_20 0 rfl rfl ?_
    refine v_dup (pc := 21) h dX0_word_21 rfl ?_
    refine v_geti (pc := 22) h dX0_word_22 fX0_71 rfl (KpS.c h_o) ?_
    refine v_iconst (pc := 25) h dX0_word_25 (v := 1) rfl ?_
    refine v_iadd (pc := 26) h dX0_word_26 ?_
    refine v_puti (pc := 27) h dX0_word_27 fX0_71 rfl (KpS.c h_o) ?_
    refine v_nmI (fun I5 => ?_)
    refine v_iinc (pc := 30) h dX0_word_30 2 rfl (w := (i2_1 + (-8 : Int32))) rfl (by decide) (lv' := [(2, .int (i2_1 + (-8 : Int32))), (0, .ref o), (1, .int a1)]) rfl ?_
    refine v_goto (pc := 33) (t := 3) h dX0_word_33 rfl ?_
    refine v_sub [1, 2, 0] rfl ?_
    exact hX3 (i2_1 + (-8 : Int32)) I5
set_option maxHeartbeats 4000000 in
theorem tX0_feed {g : Gl}  (o : Nat) (a1 : Int32) (a2 : Int32) (a3 : Int32) (a4 : Int32) (a5 : Int32) (I : MI) (r : Rh) (h_o : KpS o r) : CtI g yX0_feed cX0_feed 6 (some .int) 2 [.ref o, .int a1, .int a2, .int a3, .int a4, .int a5] I r (pX0_feed o a1 a2 a3 a4 a5 I r) := by
  refine CtI.mk (lv := [(0, .ref o), (1, .int a1), (2, .int a2), (3, .int a3), (4, .int a4), (5, .int a5)]) (by decide) (Nat.le_of_ble_eq_true rfl) rfl (fun x Q h hr => ?_)
  unfold pX0_feed
  refine v_aload_n (pc := 0) h dX0_feed_0 0 rfl rfl ?_
  refine v_geti (pc := 1) h dX0_feed_1 fX0_71 rfl (KpS.c h_o) ?_
  refine v_bipush (pc := 4) h dX0_feed_4 (v := 20) rfl ?_
  refine v_iadd (pc := 6) h dX0_feed_6 ?_
  refine v_sipush (pc := 7) h dX0_feed_7 (v := 400) rfl ?_
  refine v_icmp_le (pc := 10) (t := 15) h dX0_feed_10 rfl (fun _ => ?_) (fun _ => ?_)
  · refine v_aload_n (pc := 15) h dX0_feed_15 0 rfl rfl ?_
    refine v_iload_n (pc := 16) h dX0_feed_16 1 rfl rfl ?_
    refine v_callV (pc := 17) h dX0_feed_17 kX0_74 rfl (KpS.c h_o) (tX0_word o a1 I r h_o) (by decide) rfl rfl (Nat.le_of_ble_eq_true rfl) ⟨Nat.zero_le _, Nat.zero_le _⟩ (fun I1 => ?_)
    refine v_aload_n (pc := 20) h dX0_feed_20 0 rfl rfl ?_
    refine v_iload_n (pc := 21) h dX0_feed_21 2 rfl rfl ?_
    refine v_callV (pc := 22) h dX0_feed_22 kX0_74 rfl (KpS.c h_o) (tX0_word o a2 I1 r h_o) (by decide) rfl rfl (Nat.le_of_ble_eq_true rfl) ⟨Nat.zero_le _, Nat.zero_le _⟩ (fun I2 => ?_)
    refine v_aload_n (pc := 25) h dX0_feed_25 0 rfl rfl ?_
    refine v_iload_n (pc := 26) h dX0_feed_26 3 rfl rfl ?_
    refine v_callV (pc := 27) h dX0_feed_27 kX0_74 rfl (KpS.c h_o) (tX0_word o a3 I2 r h_o) (by decide) rfl rfl (Nat.le_of_ble_eq_true rfl) ⟨Nat.zero_le _, Nat.zero_le _⟩ (fun I3 => ?_)
    refine v_aload_n (pc := 30) h dX0_feed_30 0 rfl rfl ?_
    refine v_iload (pc := 31) h dX0_feed_31 4 rfl ?_
    refine v_callV (pc := 33) h dX0_feed_33 kX0_74 rfl (KpS.c h_o) (tX0_word o a4 I3 r h_o) (by decide) rfl rfl (Nat.le_of_ble_eq_true rfl) ⟨Nat.zero_le _, Nat.zero_le _⟩ (fun I4 => ?_)
    refine v_aload_n (pc := 36) h dX0_feed_36 0 rfl rfl ?_
    refine v_iload (pc := 37) h dX0_feed_37 5 rfl ?_
    refine v_callV (pc := 39) h dX0_feed_39 kX0_74 rfl (KpS.c h_o) (tX0_word o a5 I4 r h_o) (by decide) rfl rfl (Nat.le_of_ble_eq_true rfl) ⟨Nat.zero_le _, Nat.zero_le _⟩ (fun I5 => ?_)
    refine v_aload_n (pc := 42) h dX0_feed_42 0 rfl rfl ?_
    refine v_geti (pc := 43) h dX0_feed_43 fX0_71 rfl (KpS.c h_o) ?_
    exact v_iret (pc := 46) h hr dX0_feed_46
  · refine v_iconst (pc := 13) h dX0_feed_13 (v := (-1)) rfl ?_
    exact v_iret (pc := 14) h hr dX0_feed_14
set_option maxHeartbeats 4000000 in
theorem tX0_isIn {g : Gl}  (a1 : Int32) (a2 : Int32) (a3 : Int32) (I : MI) (r : Rh)  : CtP g yX0_isIn cX0_isIn 3 (some .boolean) 1 [.int a1, .int a2, .int a3] I r (pX0_isIn a1 a2 a3 I r) := by
  refine CtP.mk (lv := [(0, .int a1), (1, .int a2), (2, .int a3)]) (by decide) (Nat.le_of_ble_eq_true rfl) rfl (fun x Q h hr => ?_)
  unfold pX0_isIn
  refine v_iload_n (pc := 0) h dX0_isIn_0 0 rfl rfl ?_
  refine v_iload_n (pc := 1) h dX0_isIn_1 1 rfl rfl ?_
  refine v_jn0 (V g x 3 (0, 0) 14 [] [] I r) (fun k1 hk1 => ?_) ?_
  · refine v_icmp_lt (pc := 2) (t := 14) h dX0_isIn_2 rfl (fun _ => ?_) (fun _ => ?_)
    · refine v_sub [] rfl ?_
      exact hk1
    · refine v_iload_n (pc := 5) h dX0_isIn_5 0 rfl rfl ?_
      refine v_iload_n (pc := 6) h dX0_isIn_6 2 rfl rfl ?_
      refine v_icmp_gt (pc := 7) (t := 14) h dX0_isIn_7 rfl (fun _ => ?_) (fun _ => ?_)
      · refine v_sub [] rfl ?_
        exact hk1
      · refine v_iconst (pc := 10) h dX0_isIn_10 (v := 1) rfl ?_
        refine v_goto (pc := 11) (t := 15) h dX0_isIn_11 rfl ?_
        exact v_zretP (pc := 15) h hr (Or.inr rfl) dX0_isIn_15
  · refine v_iconst (pc := 14) h dX0_isIn_14 (v := 0) rfl ?_
    exact v_zretP (pc := 15) h hr (Or.inl rfl) dX0_isIn_15
set_option maxHeartbeats 4000000 in
theorem tX0_end {g : Gl}  (o : Nat) (a1 : Int32) (I : MI) (r : Rh) (h_o : KpS o r) : CtI g yX0_end cX0_end 2 (some .boolean) 2 [.ref o, .int a1] I r (pX0_end o a1 I r) := by
  refine CtI.mk (lv := [(0, .ref o), (1, .int a1)]) (by decide) (Nat.le_of_ble_eq_true rfl) rfl (fun x Q h hr => ?_)
  unfold pX0_end
  refine v_iload_n (pc := 0) h dX0_end_0 1 rfl rfl ?_
  refine v_iconst (pc := 1) h dX0_end_1 (v := 0) rfl ?_
  refine v_aload_n (pc := 2) h dX0_end_2 0 rfl rfl ?_
  refine v_geti (pc := 3) h dX0_end_3 fX0_71 rfl (KpS.c h_o) ?_
  refine v_callsp (pc := 6) h dX0_end_6 sX0_78 (tX0_isIn a1 (0 : Int32) (I o 1) I r ) (by decide) rfl rfl (Nat.le_of_ble_eq_true rfl) ⟨Nat.zero_le _, Nat.zero_le _⟩ (fun r1 => ?_)
  refine v_if_ne (pc := 9) (t := 14) h dX0_end_9 rfl (fun _ => ?_) (fun _ => ?_)
  · refine v_aload_n (pc := 14) h dX0_end_14 0 rfl rfl ?_
    refine v_iload_n (pc := 15) h dX0_end_15 1 rfl rfl ?_
    refine v_puti (pc := 16) h dX0_end_16 fX0_71 rfl (KpS.c h_o) ?_
    refine v_nmI (fun I2 => ?_)
    refine v_iconst (pc := 19) h dX0_end_19 (v := 1) rfl ?_
    exact v_zret (pc := 20) h hr (Or.inr rfl) dX0_end_20
  · refine v_iconst (pc := 12) h dX0_end_12 (v := 0) rfl ?_
    exact v_zret (pc := 13) h hr (Or.inl rfl) dX0_end_13
set_option maxHeartbeats 4000000 in
theorem tX0_forgets {g : Gl}  (o : Nat) (I : MI) (r : Rh) (h_o : KpS o r) : CtI g yX0_forgets cX0_forgets 1 (some .boolean) 1 [.ref o] I r (pX0_forgets o I r) := by
  refine CtI.mk (lv := [(0, .ref o)]) (by decide) (Nat.le_of_ble_eq_true rfl) rfl (fun x Q h hr => ?_)
  unfold pX0_forgets
  refine v_aload_n (pc := 0) h dX0_forgets_0 0 rfl rfl ?_
  refine v_iconst (pc := 1) h dX0_forgets_1 (v := 0) rfl ?_
  refine v_puti (pc := 2) h dX0_forgets_2 fX0_144 rfl (KpS.c h_o) ?_
  refine v_nmI (fun I1 => ?_)
  refine v_iconst (pc := 5) h dX0_forgets_5 (v := 1) rfl ?_
  exact v_zret (pc := 6) h hr (Or.inr rfl) dX0_forgets_6
set_option maxHeartbeats 4000000 in
theorem tX0_fault {g : Gl}  (o : Nat) (a1 : Int32) (I : MI) (r : Rh) (h_o : KpS o r) : CtP g yX0_fault cX0_fault 2 (some .int) 1 [.ref o, .int a1] I r (pX0_fault o a1 I r) := by
  refine CtP.mk (lv := [(0, .ref o), (1, .int a1)]) (by decide) (Nat.le_of_ble_eq_true rfl) rfl (fun x Q h hr => ?_)
  unfold pX0_fault
  refine v_iload_n (pc := 0) h dX0_fault_0 1 rfl rfl ?_
  refine v_if_ne (pc := 1) (t := 11) h dX0_fault_1 rfl (fun _ => ?_) (fun _ => ?_)
  · refine v_iload_n (pc := 11) h dX0_fault_11 1 rfl rfl ?_
    refine v_iconst (pc := 12) h dX0_fault_12 (v := 1) rfl ?_
    refine v_icmp_ne (pc := 13) (t := 23) h dX0_fault_13 rfl (fun _ => ?_) (fun _ => ?_)
    · refine v_iconst (pc := 23) h dX0_fault_23 (v := (-1)) rfl ?_
      exact v_iretP (pc := 24) h hr dX0_fault_24
    · refine v_aload_n (pc := 16) h dX0_fault_16 0 rfl rfl ?_
      refine v_geti (pc := 17) h dX0_fault_17 fX0_13 rfl (KpS.c h_o) ?_
      refine v_goto (pc := 20) (t := 24) h dX0_fault_20 rfl ?_
      exact v_iretP (pc := 24) h hr dX0_fault_24
  · refine v_aload_n (pc := 4) h dX0_fault_4 0 rfl rfl ?_
    refine v_geti (pc := 5) h dX0_fault_5 fX0_129 rfl (KpS.c h_o) ?_
    refine v_goto (pc := 8) (t := 24) h dX0_fault_8 rfl ?_
    exact v_iretP (pc := 24) h hr dX0_fault_24
set_option maxHeartbeats 4000000 in
theorem tX5_begins {g : Gl}  (o : Nat) (a1 : Int32) (a2 : Int32) (a3 : Int32) (I : MI) (r : Rh) (h_o : rK r o = 5) : CtV g yX5_begins cX5_begins 4 1 [.ref o, .int a1, .int a2, .int a3] I r (pX5_begins o a1 a2 a3 I r) := by
  refine CtV.mk (lv := [(0, .ref o), (1, .int a1), (2, .int a2), (3, .int a3)]) (by decide) (Nat.le_of_ble_eq_true rfl) rfl (fun x Q h hr => ?_)
  unfold pX5_begins
  refine v_aload_n (pc := 0) h dX5_begins_0 0 rfl rfl ?_
  refine v_iload_n (pc := 1) h dX5_begins_1 1 rfl rfl ?_
  refine v_puti (pc := 2) h dX5_begins_2 fX5_7 rfl h_o ?_
  refine v_nmI (fun I1 => ?_)
  refine v_aload_n (pc := 5) h dX5_begins_5 0 rfl rfl ?_
  refine v_iload_n (pc := 6) h dX5_begins_6 2 rfl rfl ?_
  refine v_puti (pc := 7) h dX5_begins_7 fX5_13 rfl h_o ?_
  refine v_nmI (fun I2 => ?_)
  refine v_aload_n (pc := 10) h dX5_begins_10 0 rfl rfl ?_
  refine v_iload_n (pc := 11) h dX5_begins_11 3 rfl rfl ?_
  refine v_puti (pc := 12) h dX5_begins_12 fX5_16 rfl h_o ?_
  refine v_nmI (fun I3 => ?_)
  refine v_aload_n (pc := 15) h dX5_begins_15 0 rfl rfl ?_
  refine v_iconst (pc := 16) h dX5_begins_16 (v := 0) rfl ?_
  refine v_puti (pc := 17) h dX5_begins_17 fX5_19 rfl h_o ?_
  refine v_nmI (fun I4 => ?_)
  exact v_vret (pc := 20) h hr dX5_begins_20
set_option maxHeartbeats 4000000 in
theorem tX5_takes {g : Gl}  (o : Nat) (a1 : Nat) (I : MI) (r : Rh) (h_o : rK r o = 5) (h_a1 : rK r a1 = 5) : CtV g yX5_takes cX5_takes 2 2 [.ref o, .ref a1] I r (pX5_takes o a1 I r) := by
  refine CtV.mk (lv := [(0, .ref o), (1, .ref a1)]) (by decide) (Nat.le_of_ble_eq_true rfl) rfl (fun x Q h hr => ?_)
  unfold pX5_takes
  refine v_aload_n (pc := 0) h dX5_takes_0 0 rfl rfl ?_
  refine v_aload_n (pc := 1) h dX5_takes_1 1 rfl rfl ?_
  refine v_geti (pc := 2) h dX5_takes_2 fX5_7 rfl h_a1 ?_
  refine v_aload_n (pc := 5) h dX5_takes_5 1 rfl rfl ?_
  refine v_geti (pc := 6) h dX5_takes_6 fX5_13 rfl h_a1 ?_
  refine v_aload_n (pc := 9) h dX5_takes_9 1 rfl rfl ?_
  refine v_geti (pc := 10) h dX5_takes_10 fX5_16 rfl h_a1 ?_
  refine v_callV (pc := 13) h dX5_takes_13 kX5_22 rfl h_o (tX5_begins o (I a1 0) (I a1 1) (I a1 2) I r h_o) (by decide) rfl rfl (Nat.le_of_ble_eq_true rfl) ⟨Nat.zero_le _, Nat.zero_le _⟩ (fun I1 => ?_)
  refine v_aload_n (pc := 16) h dX5_takes_16 0 rfl rfl ?_
  refine v_aload_n (pc := 17) h dX5_takes_17 1 rfl rfl ?_
  refine v_geti (pc := 18) h dX5_takes_18 fX5_19 rfl h_a1 ?_
  refine v_puti (pc := 21) h dX5_takes_21 fX5_19 rfl h_o ?_
  refine v_nmI (fun I2 => ?_)
  exact v_vret (pc := 24) h hr dX5_takes_24
set_option maxHeartbeats 4000000 in
theorem tX3_begins {g : Gl}  (o : Nat) (a1 : Int32) (a2 : Int32) (a3 : Int32) (a4 : Int32) (I : MI) (r : Rh) (h_o : rK r o = 3) : CtV g yX3_begins cX3_begins 5 1 [.ref o, .int a1, .int a2, .int a3, .int a4] I r (pX3_begins o a1 a2 a3 a4 I r) := by
  refine CtV.mk (lv := [(0, .ref o), (1, .int a1), (2, .int a2), (3, .int a3), (4, .int a4)]) (by decide) (Nat.le_of_ble_eq_true rfl) rfl (fun x Q h hr => ?_)
  unfold pX3_begins
  refine v_aload_n (pc := 0) h dX3_begins_0 0 rfl rfl ?_
  refine v_iload_n (pc := 1) h dX3_begins_1 1 rfl rfl ?_
  refine v_puti (pc := 2) h dX3_begins_2 fX3_7 rfl h_o ?_
  refine v_nmI (fun I1 => ?_)
  refine v_aload_n (pc := 5) h dX3_begins_5 0 rfl rfl ?_
  refine v_iload_n (pc := 6) h dX3_begins_6 2 rfl rfl ?_
  refine v_puti (pc := 7) h dX3_begins_7 fX3_13 rfl h_o ?_
  refine v_nmI (fun I2 => ?_)
  refine v_aload_n (pc := 10) h dX3_begins_10 0 rfl rfl ?_
  refine v_iload_n (pc := 11) h dX3_begins_11 3 rfl rfl ?_
  refine v_puti (pc := 12) h dX3_begins_12 fX3_16 rfl h_o ?_
  refine v_nmI (fun I3 => ?_)
  refine v_aload_n (pc := 15) h dX3_begins_15 0 rfl rfl ?_
  refine v_iload (pc := 16) h dX3_begins_16 4 rfl ?_
  refine v_puti (pc := 18) h dX3_begins_18 fX3_19 rfl h_o ?_
  refine v_nmI (fun I4 => ?_)
  refine v_aload_n (pc := 21) h dX3_begins_21 0 rfl rfl ?_
  refine v_iconst (pc := 22) h dX3_begins_22 (v := 0) rfl ?_
  refine v_puti (pc := 23) h dX3_begins_23 fX3_22 rfl h_o ?_
  refine v_nmI (fun I5 => ?_)
  exact v_vret (pc := 26) h hr dX3_begins_26
set_option maxHeartbeats 4000000 in
theorem tX3_takes {g : Gl}  (o : Nat) (a1 : Nat) (I : MI) (r : Rh) (h_o : rK r o = 3) (h_a1 : rK r a1 = 3) : CtV g yX3_takes cX3_takes 2 2 [.ref o, .ref a1] I r (pX3_takes o a1 I r) := by
  refine CtV.mk (lv := [(0, .ref o), (1, .ref a1)]) (by decide) (Nat.le_of_ble_eq_true rfl) rfl (fun x Q h hr => ?_)
  unfold pX3_takes
  refine v_aload_n (pc := 0) h dX3_takes_0 0 rfl rfl ?_
  refine v_aload_n (pc := 1) h dX3_takes_1 1 rfl rfl ?_
  refine v_geti (pc := 2) h dX3_takes_2 fX3_7 rfl h_a1 ?_
  refine v_aload_n (pc := 5) h dX3_takes_5 1 rfl rfl ?_
  refine v_geti (pc := 6) h dX3_takes_6 fX3_13 rfl h_a1 ?_
  refine v_aload_n (pc := 9) h dX3_takes_9 1 rfl rfl ?_
  refine v_geti (pc := 10) h dX3_takes_10 fX3_16 rfl h_a1 ?_
  refine v_aload_n (pc := 13) h dX3_takes_13 1 rfl rfl ?_
  refine v_geti (pc := 14) h dX3_takes_14 fX3_19 rfl h_a1 ?_
  refine v_callV (pc := 17) h dX3_takes_17 kX3_25 rfl h_o (tX3_begins o (I a1 0) (I a1 1) (I a1 2) (I a1 3) I r h_o) (by decide) rfl rfl (Nat.le_of_ble_eq_true rfl) ⟨Nat.zero_le _, Nat.zero_le _⟩ (fun I1 => ?_)
  refine v_aload_n (pc := 20) h dX3_takes_20 0 rfl rfl ?_
  refine v_aload_n (pc := 21) h dX3_takes_21 1 rfl rfl ?_
  refine v_geti (pc := 22) h dX3_takes_22 fX3_22 rfl h_a1 ?_
  refine v_puti (pc := 25) h dX3_takes_25 fX3_22 rfl h_o ?_
  refine v_nmI (fun I2 => ?_)
  exact v_vret (pc := 28) h hr dX3_takes_28
set_option maxHeartbeats 4000000 in
theorem tX2_takes {g : Gl}  (o : Nat) (a1 : Nat) (I : MI) (r : Rh) (h_o : BgS o r) (h_a1 : BgS a1 r) : CtV g yX2_takes cX2_takes 3 3 [.ref o, .ref a1] I r (pX2_takes o a1 I r) := by
  refine CtV.mk (lv := [(0, .ref o), (1, .ref a1)]) (by decide) (Nat.le_of_ble_eq_true rfl) rfl (fun x Q h hr => ?_)
  unfold pX2_takes
  refine v_aload_n (pc := 0) h dX2_takes_0 0 rfl rfl ?_
  refine v_aload_n (pc := 1) h dX2_takes_1 1 rfl rfl ?_
  refine v_geti (pc := 2) h dX2_takes_2 fX2_18 rfl h_a1.1 ?_
  refine v_puti (pc := 5) h dX2_takes_5 fX2_18 rfl h_o.1 ?_
  refine v_nmI (fun I1 => ?_)
  refine v_iconst (pc := 8) h dX2_takes_8 (v := 0) rfl ?_
  refine v_istore_n (pc := 9) h dX2_takes_9 rfl (by decide) (lv' := [(2, .int (0 : Int32)), (0, .ref o), (1, .ref a1)]) rfl ?_
  refine v_sub [1, 2, 0] rfl ?_
  refine L2.run (lv := fun i2_2 I3 => [(0, .ref o), (1, .ref a1), (2, .int i2_2)]) (st := fun i2_2 I3 => []) (Im := fun i2_2 I3 => I3) (r := fun i2_2 I3 => r) (fun X4 hX4 i2_2 I3 => ?_) (0 : Int32) I1
  refine v_iload_n (pc := 10) h dX2_takes_10 2 rfl rfl ?_
  refine v_aload_n (pc := 11) h dX2_takes_11 0 rfl rfl ?_
  refine v_geti (pc := 12) h dX2_takes_12 fX2_18 rfl h_o.1 ?_
  refine v_icmp_ge (pc := 15) (t := 39) h dX2_takes_15 rfl (fun _ => ?_) (fun _ => ?_)
  · exact v_vret (pc := 39) h hr dX2_takes_39
  · refine v_aload_n (pc := 18) h dX2_takes_18 0 rfl rfl ?_
    refine v_getp (pc := 19) h dX2_takes_19 fX2_11 rfl h_o.1 h_o.2.1 ?_
    refine v_iload_n (pc := 22) h dX2_takes_22 2 rfl rfl ?_
    refine v_aaldx (pc := 23) h dX2_takes_23 (t := 3) h_o.2.2.1 rfl rfl h_o.2.2.2.1 (fun b5 h6 h7 => ?_)
    refine v_aload_n (pc := 24) h dX2_takes_24 1 rfl rfl ?_
    refine v_getp (pc := 25) h dX2_takes_25 fX2_11 rfl h_a1.1 h_a1.2.1 ?_
    refine v_iload_n (pc := 28) h dX2_takes_28 2 rfl rfl ?_
    refine v_aaldx (pc := 29) h dX2_takes_29 (t := 3) h_a1.2.2.1 rfl rfl h_a1.2.2.2.1 (fun b8 h9 h10 => ?_)
    refine v_callV (pc := 30) h dX2_takes_30 kX2_32 rfl (BgS.lt h_o h6 h7) (tX3_takes b5 b8 I3 r (BgS.lt h_o h6 h7) (BgS.lt h_a1 h9 h10)) (by decide) rfl rfl (Nat.le_of_ble_eq_true rfl) ⟨Nat.zero_le _, Nat.zero_le _⟩ (fun I11 => ?_)
    refine v_iinc (pc := 33) h dX2_takes_33 2 rfl (w := (i2_2 + (1 : Int32))) rfl (by decide) (lv' := [(2, .int (i2_2 + (1 : Int32))), (0, .ref o), (1, .ref a1)]) rfl ?_
    refine v_goto (pc := 36) (t := 10) h dX2_takes_36 rfl ?_
    refine v_sub [1, 2, 0] rfl ?_
    exact hX4 (i2_2 + (1 : Int32)) I11
set_option maxHeartbeats 4000000 in
theorem tX1_moves {g : Gl}  (o : Nat) (a1 : Nat) (I : MI) (r : Rh) (h_o : WkS o r) (h_a1 : WkS a1 r) : CtV g yX1_moves cX1_moves 3 4 [.ref o, .ref a1] I r (pX1_moves o a1 I r) := by
  refine CtV.mk (lv := [(0, .ref o), (1, .ref a1)]) (by decide) (Nat.le_of_ble_eq_true rfl) rfl (fun x Q h hr => ?_)
  unfold pX1_moves
  refine v_iconst (pc := 0) h dX1_moves_0 (v := 0) rfl ?_
  refine v_istore_n (pc := 1) h dX1_moves_1 rfl (by decide) (lv' := [(2, .int (0 : Int32)), (0, .ref o), (1, .ref a1)]) rfl ?_
  refine v_sub [1, 2, 0] rfl ?_
  refine L2.run (lv := fun i2_1 I2 => [(0, .ref o), (1, .ref a1), (2, .int i2_1)]) (st := fun i2_1 I2 => []) (Im := fun i2_1 I2 => I2) (r := fun i2_1 I2 => r) (fun X3 hX3 i2_1 I2 => ?_) (0 : Int32) I
  refine v_iload_n (pc := 2) h dX1_moves_2 2 rfl rfl ?_
  refine v_bipush (pc := 3) h dX1_moves_3 (v := 12) rfl ?_
  refine v_icmp_ge (pc := 5) (t := 29) h dX1_moves_5 rfl (fun _ => ?_) (fun _ => ?_)
  · refine v_iconst (pc := 29) h dX1_moves_29 (v := 0) rfl ?_
    refine v_istore_n (pc := 30) h dX1_moves_30 rfl (by decide) (lv' := [(2, .int (0 : Int32)), (0, .ref o), (1, .ref a1)]) rfl ?_
    refine v_sub [1, 2, 0] rfl ?_
    refine L2.run (lv := fun i2_4 I5 => [(0, .ref o), (1, .ref a1), (2, .int i2_4)]) (st := fun i2_4 I5 => []) (Im := fun i2_4 I5 => I5) (r := fun i2_4 I5 => r) (fun X6 hX6 i2_4 I5 => ?_) (0 : Int32) I2
    refine v_iload_n (pc := 31) h dX1_moves_31 2 rfl rfl ?_
    refine v_bipush (pc := 32) h dX1_moves_32 (v := 7) rfl ?_
    refine v_icmp_ge (pc := 34) (t := 55) h dX1_moves_34 rfl (fun _ => ?_) (fun _ => ?_)
    · refine v_aload_n (pc := 55) h dX1_moves_55 0 rfl rfl ?_
      refine v_getp (pc := 56) h dX1_moves_56 fX1_20 rfl (WkS.c h_o) (WkS.bag h_o).1 ?_
      refine v_aload_n (pc := 59) h dX1_moves_59 1 rfl rfl ?_
      refine v_getp (pc := 60) h dX1_moves_60 fX1_20 rfl (WkS.c h_a1) (WkS.bag h_a1).1 ?_
      refine v_callV (pc := 63) h dX1_moves_63 kX1_82 rfl (WkS.bag h_o).2.1 (tX2_takes (o + 2) (a1 + 2) I5 r (WkS.bag h_o).2 (WkS.bag h_a1).2) (by decide) rfl rfl (Nat.le_of_ble_eq_true rfl) ⟨Nat.zero_le _, Nat.zero_le _⟩ (fun I7 => ?_)
      refine v_aload_n (pc := 66) h dX1_moves_66 0 rfl rfl ?_
      refine v_aload_n (pc := 67) h dX1_moves_67 1 rfl rfl ?_
      refine v_geti (pc := 68) h dX1_moves_68 fX1_73 rfl (WkS.c h_a1) ?_
      refine v_puti (pc := 71) h dX1_moves_71 fX1_73 rfl (WkS.c h_o) ?_
      refine v_nmI (fun I8 => ?_)
      refine v_aload_n (pc := 74) h dX1_moves_74 0 rfl rfl ?_
      refine v_aload_n (pc := 75) h dX1_moves_75 1 rfl rfl ?_
      refine v_geti (pc := 76) h dX1_moves_76 fX1_85 rfl (WkS.c h_a1) ?_
      refine v_puti (pc := 79) h dX1_moves_79 fX1_85 rfl (WkS.c h_o) ?_
      refine v_nmI (fun I9 => ?_)
      refine v_aload_n (pc := 82) h dX1_moves_82 0 rfl rfl ?_
      refine v_aload_n (pc := 83) h dX1_moves_83 1 rfl rfl ?_
      refine v_geti (pc := 84) h dX1_moves_84 fX1_88 rfl (WkS.c h_a1) ?_
      refine v_puti (pc := 87) h dX1_moves_87 fX1_88 rfl (WkS.c h_o) ?_
      refine v_nmI (fun I10 => ?_)
      refine v_aload_n (pc := 90) h dX1_moves_90 0 rfl rfl ?_
      refine v_aload_n (pc := 91) h dX1_moves_91 1 rfl rfl ?_
      refine v_geti (pc := 92) h dX1_moves_92 fX1_91 rfl (WkS.c h_a1) ?_
      refine v_puti (pc := 95) h dX1_moves_95 fX1_91 rfl (WkS.c h_o) ?_
      refine v_nmI (fun I11 => ?_)
      refine v_aload_n (pc := 98) h dX1_moves_98 0 rfl rfl ?_
      refine v_aload_n (pc := 99) h dX1_moves_99 1 rfl rfl ?_
      refine v_geti (pc := 100) h dX1_moves_100 fX1_94 rfl (WkS.c h_a1) ?_
      refine v_puti (pc := 103) h dX1_moves_103 fX1_94 rfl (WkS.c h_o) ?_
      refine v_nmI (fun I12 => ?_)
      refine v_aload_n (pc := 106) h dX1_moves_106 0 rfl rfl ?_
      refine v_aload_n (pc := 107) h dX1_moves_107 1 rfl rfl ?_
      refine v_geti (pc := 108) h dX1_moves_108 fX1_97 rfl (WkS.c h_a1) ?_
      refine v_puti (pc := 111) h dX1_moves_111 fX1_97 rfl (WkS.c h_o) ?_
      refine v_nmI (fun I13 => ?_)
      refine v_aload_n (pc := 114) h dX1_moves_114 0 rfl rfl ?_
      refine v_aload_n (pc := 115) h dX1_moves_115 1 rfl rfl ?_
      refine v_geti (pc := 116) h dX1_moves_116 fX1_100 rfl (WkS.c h_a1) ?_
      refine v_puti (pc := 119) h dX1_moves_119 fX1_100 rfl (WkS.c h_o) ?_
      refine v_nmI (fun I14 => ?_)
      refine v_aload_n (pc := 122) h dX1_moves_122 0 rfl rfl ?_
      refine v_aload_n (pc := 123) h dX1_moves_123 1 rfl rfl ?_
      refine v_geti (pc := 124) h dX1_moves_124 fX1_103 rfl (WkS.c h_a1) ?_
      refine v_puti (pc := 127) h dX1_moves_127 fX1_103 rfl (WkS.c h_o) ?_
      refine v_nmI (fun I15 => ?_)
      refine v_aload_n (pc := 130) h dX1_moves_130 0 rfl rfl ?_
      refine v_aload_n (pc := 131) h dX1_moves_131 1 rfl rfl ?_
      refine v_geti (pc := 132) h dX1_moves_132 fX1_106 rfl (WkS.c h_a1) ?_
      refine v_puti (pc := 135) h dX1_moves_135 fX1_106 rfl (WkS.c h_o) ?_
      refine v_nmI (fun I16 => ?_)
      refine v_aload_n (pc := 138) h dX1_moves_138 0 rfl rfl ?_
      refine v_aload_n (pc := 139) h dX1_moves_139 1 rfl rfl ?_
      refine v_geti (pc := 140) h dX1_moves_140 fX1_109 rfl (WkS.c h_a1) ?_
      refine v_puti (pc := 143) h dX1_moves_143 fX1_109 rfl (WkS.c h_o) ?_
      refine v_nmI (fun I17 => ?_)
      exact v_vret (pc := 146) h hr dX1_moves_146
    · refine v_aload_n (pc := 37) h dX1_moves_37 0 rfl rfl ?_
      refine v_getp (pc := 38) h dX1_moves_38 fX1_24 rfl (WkS.c h_o) (WkS.given h_o).1 ?_
      refine v_iload_n (pc := 41) h dX1_moves_41 2 rfl rfl ?_
      refine v_aload_n (pc := 42) h dX1_moves_42 1 rfl rfl ?_
      refine v_getp (pc := 43) h dX1_moves_43 fX1_24 rfl (WkS.c h_a1) (WkS.given h_a1).1 ?_
      refine v_iload_n (pc := 46) h dX1_moves_46 2 rfl rfl ?_
      refine v_iald (pc := 47) h dX1_moves_47 (WkS.given h_a1).2.1 (WkS.given h_a1).2.2 ?_
      refine v_iast (pc := 48) h dX1_moves_48 (WkS.given h_o).2.1 (WkS.given h_o).2.2 ?_
      refine v_nmI (fun I18 => ?_)
      refine v_iinc (pc := 49) h dX1_moves_49 2 rfl (w := (i2_4 + (1 : Int32))) rfl (by decide) (lv' := [(2, .int (i2_4 + (1 : Int32))), (0, .ref o), (1, .ref a1)]) rfl ?_
      refine v_goto (pc := 52) (t := 31) h dX1_moves_52 rfl ?_
      refine v_sub [1, 2, 0] rfl ?_
      exact hX6 (i2_4 + (1 : Int32)) I18
  · refine v_aload_n (pc := 8) h dX1_moves_8 0 rfl rfl ?_
    refine v_getp (pc := 9) h dX1_moves_9 fX1_11 rfl (WkS.c h_o) (WkS.dr h_o).1 ?_
    refine v_iload_n (pc := 12) h dX1_moves_12 2 rfl rfl ?_
    refine v_aaldk (pc := 13) h dX1_moves_13 (t := 2) (WkS.dr h_o).2.1 rfl rfl (WkS.dr h_o).2.2 (fun hin => ((WkS.doors h_o) _ (vp_lt hin)).1) (fun h19 => ?_)
    refine v_aload_n (pc := 14) h dX1_moves_14 1 rfl rfl ?_
    refine v_getp (pc := 15) h dX1_moves_15 fX1_11 rfl (WkS.c h_a1) (WkS.dr h_a1).1 ?_
    refine v_iload_n (pc := 18) h dX1_moves_18 2 rfl rfl ?_
    refine v_aaldk (pc := 19) h dX1_moves_19 (t := 2) (WkS.dr h_a1).2.1 rfl rfl (WkS.dr h_a1).2.2 (fun hin => ((WkS.doors h_a1) _ (vp_lt hin)).1) (fun h20 => ?_)
    refine v_callV (pc := 20) h dX1_moves_20 kX1_78 rfl ((WkS.doors h_o) _ (vp_lt h19)).2 (tX5_takes (o + 247 + i2_1.toNatClampNeg) (a1 + 247 + i2_1.toNatClampNeg) I2 r ((WkS.doors h_o) _ (vp_lt h19)).2 ((WkS.doors h_a1) _ (vp_lt h20)).2) (by decide) rfl rfl (Nat.le_of_ble_eq_true rfl) ⟨Nat.zero_le _, Nat.zero_le _⟩ (fun I21 => ?_)
    refine v_iinc (pc := 23) h dX1_moves_23 2 rfl (w := (i2_1 + (1 : Int32))) rfl (by decide) (lv' := [(2, .int (i2_1 + (1 : Int32))), (0, .ref o), (1, .ref a1)]) rfl ?_
    refine v_goto (pc := 26) (t := 2) h dX1_moves_26 rfl ?_
    refine v_sub [1, 2, 0] rfl ?_
    exact hX3 (i2_1 + (1 : Int32)) I21
set_option maxHeartbeats 4000000 in
theorem tX0_undo {g : Gl}  (o : Nat) (I : MI) (r : Rh) (h_o : KpS o r) : CtI g yX0_undo cX0_undo 1 (some .boolean) 5 [.ref o] I r (pX0_undo o I r) := by
  refine CtI.mk (lv := [(0, .ref o)]) (by decide) (Nat.le_of_ble_eq_true rfl) rfl (fun x Q h hr => ?_)
  unfold pX0_undo
  refine v_aload_n (pc := 0) h dX0_undo_0 0 rfl rfl ?_
  refine v_geti (pc := 1) h dX0_undo_1 fX0_144 rfl (KpS.c h_o) ?_
  refine v_if_ne (pc := 4) (t := 9) h dX0_undo_4 rfl (fun _ => ?_) (fun _ => ?_)
  · refine v_aload_n (pc := 9) h dX0_undo_9 0 rfl rfl ?_
    refine v_dup (pc := 10) h dX0_undo_10 rfl ?_
    refine v_geti (pc := 11) h dX0_undo_11 fX0_144 rfl (KpS.c h_o) ?_
    refine v_iconst (pc := 14) h dX0_undo_14 (v := 1) rfl ?_
    refine v_isub (pc := 15) h dX0_undo_15 ?_
    refine v_puti (pc := 16) h dX0_undo_16 fX0_144 rfl (KpS.c h_o) ?_
    refine v_nmI (fun I1 => ?_)
    refine v_aload_n (pc := 19) h dX0_undo_19 0 rfl rfl ?_
    refine v_getp (pc := 20) h dX0_undo_20 fX0_20 rfl (KpS.c h_o) (KpS.walk h_o).1 ?_
    refine v_aload_n (pc := 23) h dX0_undo_23 0 rfl rfl ?_
    refine v_getp (pc := 24) h dX0_undo_24 fX0_30 rfl (KpS.c h_o) (KpS.back h_o).1 ?_
    refine v_aload_n (pc := 27) h dX0_undo_27 0 rfl rfl ?_
    refine v_geti (pc := 28) h dX0_undo_28 fX0_144 rfl (KpS.c h_o) ?_
    refine v_aaldx (pc := 31) h dX0_undo_31 (t := 4) (KpS.back h_o).2.1 rfl rfl (KpS.back h_o).2.2 (fun b2 h3 h4 => ?_)
    refine v_callV (pc := 32) h dX0_undo_32 kX0_147 rfl (WkS.c (KpS.walk h_o).2) (tX1_moves (o + 2) b2 I1 r (KpS.walk h_o).2 (KpS.bk h_o h3 h4)) (by decide) rfl rfl (Nat.le_of_ble_eq_true rfl) ⟨Nat.zero_le _, Nat.zero_le _⟩ (fun I5 => ?_)
    refine v_iconst (pc := 35) h dX0_undo_35 (v := 1) rfl ?_
    exact v_zret (pc := 36) h hr (Or.inr rfl) dX0_undo_36
  · refine v_iconst (pc := 7) h dX0_undo_7 (v := 0) rfl ?_
    exact v_zret (pc := 8) h hr (Or.inl rfl) dX0_undo_8
set_option maxHeartbeats 4000000 in
theorem tX0_state {g : Gl}  (o : Nat) (a1 : Int32) (I : MI) (r : Rh) (h_o : KpS o r) : CtI g yX0_state cX0_state 3 (some .int) 2 [.ref o, .int a1] I r (pX0_state o a1 I r) := by
  refine CtI.mk (lv := [(0, .ref o), (1, .int a1)]) (by decide) (Nat.le_of_ble_eq_true rfl) rfl (fun x Q h hr => ?_)
  unfold pX0_state
  refine v_aload_n (pc := 0) h dX0_state_0 0 rfl rfl ?_
  refine v_getp (pc := 1) h dX0_state_1 fX0_20 rfl (KpS.c h_o) (KpS.walk h_o).1 ?_
  refine v_geti (pc := 4) h dX0_state_4 fX0_158 rfl (WkS.c (KpS.walk h_o).2) ?_
  refine v_nmi (fun v1 => ?_)
  refine v_istore_n (pc := 7) h dX0_state_7 rfl (by decide) (lv' := [(2, .int v1), (0, .ref o), (1, .int a1)]) rfl ?_
  refine v_aload_n (pc := 8) h dX0_state_8 1 rfl rfl ?_
  refine v_getp (pc := 9) h dX0_state_9 fX0_20 rfl (KpS.c h_o) (KpS.walk h_o).1 ?_
  refine v_iload_n (pc := 12) h dX0_state_12 2 rfl rfl ?_
  refine v_puti (pc := 13) h dX0_state_13 fX0_158 rfl (WkS.c (KpS.walk h_o).2) ?_
  refine v_nmI (fun I2 => ?_)
  refine v_aload_n (pc := 16) h dX0_state_16 1 rfl rfl ?_
  refine v_callI (pc := 17) h dX0_state_17 kX0_105 rfl (KpS.c h_o) (tX0_forgets o I2 r h_o) (by decide) rfl rfl (Nat.le_of_ble_eq_true rfl) ⟨Nat.zero_le _, Nat.zero_le _⟩ (fun r3 I4 => ?_)
  refine v_pop (pc := 20) h dX0_state_20 rfl ?_
  refine v_iload_n (pc := 21) h dX0_state_21 0 rfl rfl ?_
  exact v_iret (pc := 22) h hr dX0_state_22
set_option maxHeartbeats 4000000 in
theorem tX0_door_2 {g : Gl}  (o : Nat) (a1 : Int32) (I : MI) (r : Rh) (h_o : KpS o r) : CtA g yX0_door_2 cX0_door_2 2 (some (.object "KindPostman$Door")) 1 [.ref o, .int a1] I r (pX0_door_2 o a1 I r) := by
  refine CtA.mk (lv := [(0, .ref o), (1, .int a1)]) (by decide) (Nat.le_of_ble_eq_true rfl) rfl (fun x Q h hr => ?_)
  unfold pX0_door_2
  refine v_aload_n (pc := 0) h dX0_door_2_0 0 rfl rfl ?_
  refine v_getp (pc := 1) h dX0_door_2_1 fX0_20 rfl (KpS.c h_o) (KpS.walk h_o).1 ?_
  refine v_getp (pc := 4) h dX0_door_2_4 fX0_154 rfl (WkS.c (KpS.walk h_o).2) (WkS.dr (KpS.walk h_o).2).1 ?_
  refine v_iload_n (pc := 7) h dX0_door_2_7 1 rfl rfl ?_
  refine v_aaldk (pc := 8) h dX0_door_2_8 (t := 2) (WkS.dr (KpS.walk h_o).2).2.1 rfl rfl (WkS.dr (KpS.walk h_o).2).2.2 (fun hin => ((WkS.doors (KpS.walk h_o).2) _ (vp_lt hin)).1) (fun h1 => ?_)
  exact v_aretA (pc := 9) h hr (Or.inl ⟨_, rfl⟩) dX0_door_2_9
set_option maxHeartbeats 4000000 in
theorem tX0_door {g : Gl}  (o : Nat) (a1 : Int32) (a2 : Int32) (a3 : Int32) (I : MI) (r : Rh) (h_o : KpS o r) : CtI g yX0_door cX0_door 4 (some .int) 2 [.ref o, .int a1, .int a2, .int a3] I r (pX0_door o a1 a2 a3 I r) := by
  refine CtI.mk (lv := [(0, .ref o), (1, .int a1), (2, .int a2), (3, .int a3)]) (by decide) (Nat.le_of_ble_eq_true rfl) rfl (fun x Q h hr => ?_)
  unfold pX0_door
  refine v_iload_n (pc := 0) h dX0_door_0 1 rfl rfl ?_
  refine v_bipush (pc := 1) h dX0_door_1 (v := (-9)) rfl ?_
  refine v_bipush (pc := 3) h dX0_door_3 (v := 9) rfl ?_
  refine v_callsp (pc := 5) h dX0_door_5 sX0_78 (tX0_isIn a1 (-9 : Int32) (9 : Int32) I r ) (by decide) rfl rfl (Nat.le_of_ble_eq_true rfl) ⟨Nat.zero_le _, Nat.zero_le _⟩ (fun r1 => ?_)
  refine v_if_eq (pc := 8) (t := 44) h dX0_door_8 rfl (fun _ => ?_) (fun _ => ?_)
  · refine v_iconst (pc := 44) h dX0_door_44 (v := (-1)) rfl ?_
    exact v_iret (pc := 45) h hr dX0_door_45
  · refine v_iload_n (pc := 11) h dX0_door_11 2 rfl rfl ?_
    refine v_iconst (pc := 12) h dX0_door_12 (v := 0) rfl ?_
    refine v_bipush (pc := 13) h dX0_door_13 (v := 9) rfl ?_
    refine v_callsp (pc := 15) h dX0_door_15 sX0_78 (tX0_isIn a2 (0 : Int32) (9 : Int32) I r ) (by decide) rfl rfl (Nat.le_of_ble_eq_true rfl) ⟨Nat.zero_le _, Nat.zero_le _⟩ (fun r2 => ?_)
    refine v_if_eq (pc := 18) (t := 44) h dX0_door_18 rfl (fun _ => ?_) (fun _ => ?_)
    · refine v_iconst (pc := 44) h dX0_door_44 (v := (-1)) rfl ?_
      exact v_iret (pc := 45) h hr dX0_door_45
    · refine v_iload_n (pc := 21) h dX0_door_21 3 rfl rfl ?_
      refine v_iconst (pc := 22) h dX0_door_22 (v := 0) rfl ?_
      refine v_sipush (pc := 23) h dX0_door_23 (v := 999) rfl ?_
      refine v_callsp (pc := 26) h dX0_door_26 sX0_78 (tX0_isIn a3 (0 : Int32) (999 : Int32) I r ) (by decide) rfl rfl (Nat.le_of_ble_eq_true rfl) ⟨Nat.zero_le _, Nat.zero_le _⟩ (fun r3 => ?_)
      refine v_if_eq (pc := 29) (t := 44) h dX0_door_29 rfl (fun _ => ?_) (fun _ => ?_)
      · refine v_iconst (pc := 44) h dX0_door_44 (v := (-1)) rfl ?_
        exact v_iret (pc := 45) h hr dX0_door_45
      · refine v_aload_n (pc := 32) h dX0_door_32 0 rfl rfl ?_
        refine v_getp (pc := 33) h dX0_door_33 fX0_20 rfl (KpS.c h_o) (KpS.walk h_o).1 ?_
        refine v_geti (pc := 36) h dX0_door_36 fX0_151 rfl (WkS.c (KpS.walk h_o).2) ?_
        refine v_bipush (pc := 39) h dX0_door_39 (v := 12) rfl ?_
        refine v_icmp_ne (pc := 41) (t := 46) h dX0_door_41 rfl (fun _ => ?_) (fun _ => ?_)
        · refine v_aload_n (pc := 46) h dX0_door_46 0 rfl rfl ?_
          refine v_aload_n (pc := 47) h dX0_door_47 0 rfl rfl ?_
          refine v_getp (pc := 48) h dX0_door_48 fX0_20 rfl (KpS.c h_o) (KpS.walk h_o).1 ?_
          refine v_geti (pc := 51) h dX0_door_51 fX0_151 rfl (WkS.c (KpS.walk h_o).2) ?_
          refine v_callA (pc := 54) h dX0_door_54 kX0_161 rfl (KpS.c h_o) (tX0_door_2 o (I (o + 2) 14) I r h_o) (by decide) rfl rfl (Nat.le_of_ble_eq_true rfl) ⟨Nat.zero_le _, Nat.zero_le _⟩ (fun b4 => ?_)
          refine v_and (fun h5 => ?_)
          refine v_iload_n (pc := 57) h dX0_door_57 1 rfl rfl ?_
          refine v_iload_n (pc := 58) h dX0_door_58 2 rfl rfl ?_
          refine v_iload_n (pc := 59) h dX0_door_59 3 rfl rfl ?_
          refine v_callV (pc := 60) h dX0_door_60 kX0_164 rfl h5 (tX5_begins b4 a1 a2 a3 I r h5) (by decide) rfl rfl (Nat.le_of_ble_eq_true rfl) ⟨Nat.zero_le _, Nat.zero_le _⟩ (fun I6 => ?_)
          refine v_aload_n (pc := 63) h dX0_door_63 0 rfl rfl ?_
          refine v_getp (pc := 64) h dX0_door_64 fX0_20 rfl (KpS.c h_o) (KpS.walk h_o).1 ?_
          refine v_dup (pc := 67) h dX0_door_67 rfl ?_
          refine v_geti (pc := 68) h dX0_door_68 fX0_151 rfl (WkS.c (KpS.walk h_o).2) ?_
          refine v_iconst (pc := 71) h dX0_door_71 (v := 1) rfl ?_
          refine v_iadd (pc := 72) h dX0_door_72 ?_
          refine v_puti (pc := 73) h dX0_door_73 fX0_151 rfl (WkS.c (KpS.walk h_o).2) ?_
          refine v_nmI (fun I7 => ?_)
          refine v_aload_n (pc := 76) h dX0_door_76 0 rfl rfl ?_
          refine v_callI (pc := 77) h dX0_door_77 kX0_105 rfl (KpS.c h_o) (tX0_forgets o I7 r h_o) (by decide) rfl rfl (Nat.le_of_ble_eq_true rfl) ⟨Nat.zero_le _, Nat.zero_le _⟩ (fun r8 I9 => ?_)
          refine v_pop (pc := 80) h dX0_door_80 rfl ?_
          refine v_aload_n (pc := 81) h dX0_door_81 0 rfl rfl ?_
          refine v_getp (pc := 82) h dX0_door_82 fX0_20 rfl (KpS.c h_o) (KpS.walk h_o).1 ?_
          refine v_geti (pc := 85) h dX0_door_85 fX0_151 rfl (WkS.c (KpS.walk h_o).2) ?_
          refine v_iconst (pc := 88) h dX0_door_88 (v := 1) rfl ?_
          refine v_isub (pc := 89) h dX0_door_89 ?_
          exact v_iret (pc := 90) h hr dX0_door_90
        · refine v_iconst (pc := 44) h dX0_door_44 (v := (-1)) rfl ?_
          exact v_iret (pc := 45) h hr dX0_door_45
set_option maxHeartbeats 4000000 in
theorem tX0_isDoor {g : Gl}  (o : Nat) (a1 : Int32) (I : MI) (r : Rh) (h_o : KpS o r) : CtP g yX0_isDoor cX0_isDoor 2 (some .boolean) 2 [.ref o, .int a1] I r (pX0_isDoor o a1 I r) := by
  refine CtP.mk (lv := [(0, .ref o), (1, .int a1)]) (by decide) (Nat.le_of_ble_eq_true rfl) rfl (fun x Q h hr => ?_)
  unfold pX0_isDoor
  refine v_iload_n (pc := 0) h dX0_isDoor_0 1 rfl rfl ?_
  refine v_iconst (pc := 1) h dX0_isDoor_1 (v := 0) rfl ?_
  refine v_aload_n (pc := 2) h dX0_isDoor_2 0 rfl rfl ?_
  refine v_getp (pc := 3) h dX0_isDoor_3 fX0_20 rfl (KpS.c h_o) (KpS.walk h_o).1 ?_
  refine v_geti (pc := 6) h dX0_isDoor_6 fX0_151 rfl (WkS.c (KpS.walk h_o).2) ?_
  refine v_iconst (pc := 9) h dX0_isDoor_9 (v := 1) rfl ?_
  refine v_isub (pc := 10) h dX0_isDoor_10 ?_
  refine v_callsp (pc := 11) h dX0_isDoor_11 sX0_78 (tX0_isIn a1 (0 : Int32) ((I (o + 2) 14) - (1 : Int32)) I r ) (by decide) rfl rfl (Nat.le_of_ble_eq_true rfl) ⟨Nat.zero_le _, Nat.zero_le _⟩ (fun r1 => ?_)
  exact v_zretPE (pc := 14) h hr dX0_isDoor_14
set_option maxHeartbeats 4000000 in
theorem tX0_canSet {g : Gl}  (o : Nat) (a1 : Int32) (a2 : Int32) (a3 : Int32) (I : MI) (r : Rh) (h_o : KpS o r) : CtP g yX0_canSet cX0_canSet 4 (some .boolean) 3 [.ref o, .int a1, .int a2, .int a3] I r (pX0_canSet o a1 a2 a3 I r) := by
  refine CtP.mk (lv := [(0, .ref o), (1, .int a1), (2, .int a2), (3, .int a3)]) (by decide) (Nat.le_of_ble_eq_true rfl) rfl (fun x Q h hr => ?_)
  unfold pX0_canSet
  refine v_iload_n (pc := 0) h dX0_canSet_0 1 rfl rfl ?_
  refine v_ite (fun hc1 => ?_) (fun hc1 => ?_)
  · refine v_tswi (pc := 1) (t := 28) h dX0_canSet_1 (k := 0) hc1 (by decide) (by decide) rfl rfl ?_
    refine v_aload_n (pc := 28) h dX0_canSet_28 0 rfl rfl ?_
    refine v_iload_n (pc := 29) h dX0_canSet_29 2 rfl rfl ?_
    refine v_callP (pc := 30) h dX0_canSet_30 kX0_170 rfl (KpS.c h_o) (tX0_isDoor o a2 I r h_o) (by decide) rfl rfl (Nat.le_of_ble_eq_true rfl) ⟨Nat.zero_le _, Nat.zero_le _⟩ (fun r2 => ?_)
    refine v_jn0 (V g x 4 (0, 0) 51 [] [] I r) (fun k3 hk3 => ?_) ?_
    · refine v_if_eq (pc := 33) (t := 51) h dX0_canSet_33 rfl (fun _ => ?_) (fun _ => ?_)
      · refine v_sub [] rfl ?_
        exact hk3
      · refine v_iload_n (pc := 36) h dX0_canSet_36 3 rfl rfl ?_
        refine v_bipush (pc := 37) h dX0_canSet_37 (v := (-9)) rfl ?_
        refine v_bipush (pc := 39) h dX0_canSet_39 (v := 9) rfl ?_
        refine v_callsp (pc := 41) h dX0_canSet_41 sX0_78 (tX0_isIn a3 (-9 : Int32) (9 : Int32) I r ) (by decide) rfl rfl (Nat.le_of_ble_eq_true rfl) ⟨Nat.zero_le _, Nat.zero_le _⟩ (fun r4 => ?_)
        refine v_if_eq (pc := 44) (t := 51) h dX0_canSet_44 rfl (fun _ => ?_) (fun _ => ?_)
        · refine v_sub [] rfl ?_
          exact hk3
        · refine v_iconst (pc := 47) h dX0_canSet_47 (v := 1) rfl ?_
          refine v_goto (pc := 48) (t := 52) h dX0_canSet_48 rfl ?_
          exact v_zretP (pc := 52) h hr (Or.inr rfl) dX0_canSet_52
    · refine v_iconst (pc := 51) h dX0_canSet_51 (v := 0) rfl ?_
      exact v_zretP (pc := 52) h hr (Or.inl rfl) dX0_canSet_52
  · refine v_ite (fun hc5 => ?_) (fun hc5 => ?_)
    · refine v_tswi (pc := 1) (t := 53) h dX0_canSet_1 (k := 1) hc5 (by decide) (by decide) rfl rfl ?_
      refine v_aload_n (pc := 53) h dX0_canSet_53 0 rfl rfl ?_
      refine v_iload_n (pc := 54) h dX0_canSet_54 2 rfl rfl ?_
      refine v_callP (pc := 55) h dX0_canSet_55 kX0_170 rfl (KpS.c h_o) (tX0_isDoor o a2 I r h_o) (by decide) rfl rfl (Nat.le_of_ble_eq_true rfl) ⟨Nat.zero_le _, Nat.zero_le _⟩ (fun r6 => ?_)
      refine v_jn0 (V g x 4 (0, 0) 75 [] [] I r) (fun k7 hk7 => ?_) ?_
      · refine v_if_eq (pc := 58) (t := 75) h dX0_canSet_58 rfl (fun _ => ?_) (fun _ => ?_)
        · refine v_sub [] rfl ?_
          exact hk7
        · refine v_iload_n (pc := 61) h dX0_canSet_61 3 rfl rfl ?_
          refine v_iconst (pc := 62) h dX0_canSet_62 (v := 0) rfl ?_
          refine v_bipush (pc := 63) h dX0_canSet_63 (v := 9) rfl ?_
          refine v_callsp (pc := 65) h dX0_canSet_65 sX0_78 (tX0_isIn a3 (0 : Int32) (9 : Int32) I r ) (by decide) rfl rfl (Nat.le_of_ble_eq_true rfl) ⟨Nat.zero_le _, Nat.zero_le _⟩ (fun r8 => ?_)
          refine v_if_eq (pc := 68) (t := 75) h dX0_canSet_68 rfl (fun _ => ?_) (fun _ => ?_)
          · refine v_sub [] rfl ?_
            exact hk7
          · refine v_iconst (pc := 71) h dX0_canSet_71 (v := 1) rfl ?_
            refine v_goto (pc := 72) (t := 76) h dX0_canSet_72 rfl ?_
            exact v_zretP (pc := 76) h hr (Or.inr rfl) dX0_canSet_76
      · refine v_iconst (pc := 75) h dX0_canSet_75 (v := 0) rfl ?_
        exact v_zretP (pc := 76) h hr (Or.inl rfl) dX0_canSet_76
    · refine v_ite (fun hc9 => ?_) (fun hc9 => ?_)
      · refine v_tswi (pc := 1) (t := 77) h dX0_canSet_1 (k := 2) hc9 (by decide) (by decide) rfl rfl ?_
        refine v_aload_n (pc := 77) h dX0_canSet_77 0 rfl rfl ?_
        refine v_iload_n (pc := 78) h dX0_canSet_78 2 rfl rfl ?_
        refine v_callP (pc := 79) h dX0_canSet_79 kX0_170 rfl (KpS.c h_o) (tX0_isDoor o a2 I r h_o) (by decide) rfl rfl (Nat.le_of_ble_eq_true rfl) ⟨Nat.zero_le _, Nat.zero_le _⟩ (fun r10 => ?_)
        refine v_jn0 (V g x 4 (0, 0) 100 [] [] I r) (fun k11 hk11 => ?_) ?_
        · refine v_if_eq (pc := 82) (t := 100) h dX0_canSet_82 rfl (fun _ => ?_) (fun _ => ?_)
          · refine v_sub [] rfl ?_
            exact hk11
          · refine v_iload_n (pc := 85) h dX0_canSet_85 3 rfl rfl ?_
            refine v_iconst (pc := 86) h dX0_canSet_86 (v := 0) rfl ?_
            refine v_sipush (pc := 87) h dX0_canSet_87 (v := 999) rfl ?_
            refine v_callsp (pc := 90) h dX0_canSet_90 sX0_78 (tX0_isIn a3 (0 : Int32) (999 : Int32) I r ) (by decide) rfl rfl (Nat.le_of_ble_eq_true rfl) ⟨Nat.zero_le _, Nat.zero_le _⟩ (fun r12 => ?_)
            refine v_if_eq (pc := 93) (t := 100) h dX0_canSet_93 rfl (fun _ => ?_) (fun _ => ?_)
            · refine v_sub [] rfl ?_
              exact hk11
            · refine v_iconst (pc := 96) h dX0_canSet_96 (v := 1) rfl ?_
              refine v_goto (pc := 97) (t := 101) h dX0_canSet_97 rfl ?_
              exact v_zretP (pc := 101) h hr (Or.inr rfl) dX0_canSet_101
        · refine v_iconst (pc := 100) h dX0_canSet_100 (v := 0) rfl ?_
          exact v_zretP (pc := 101) h hr (Or.inl rfl) dX0_canSet_101
      · refine v_tswd (pc := 1) (t := 102) h dX0_canSet_1 (by have e0 := lv_neT hc1 (show (0 : Int32).toInt = 0 from rfl); have e1 := lv_neT hc5 (show (1 : Int32).toInt = 1 from rfl); have e2 := lv_neT hc9 (show (2 : Int32).toInt = 2 from rfl); omega) rfl ?_
        refine v_iload_n (pc := 102) h dX0_canSet_102 1 rfl rfl ?_
        refine v_iconst (pc := 103) h dX0_canSet_103 (v := 3) rfl ?_
        refine v_iconst (pc := 104) h dX0_canSet_104 (v := 4) rfl ?_
        refine v_callsp (pc := 105) h dX0_canSet_105 sX0_78 (tX0_isIn a1 (3 : Int32) (4 : Int32) I r ) (by decide) rfl rfl (Nat.le_of_ble_eq_true rfl) ⟨Nat.zero_le _, Nat.zero_le _⟩ (fun r13 => ?_)
        refine v_jn0 (V g x 4 (0, 0) 125 [] [] I r) (fun k14 hk14 => ?_) ?_
        · refine v_if_eq (pc := 108) (t := 125) h dX0_canSet_108 rfl (fun _ => ?_) (fun _ => ?_)
          · refine v_sub [] rfl ?_
            exact hk14
          · refine v_iload_n (pc := 111) h dX0_canSet_111 3 rfl rfl ?_
            refine v_iconst (pc := 112) h dX0_canSet_112 (v := 0) rfl ?_
            refine v_bipush (pc := 113) h dX0_canSet_113 (v := 99) rfl ?_
            refine v_callsp (pc := 115) h dX0_canSet_115 sX0_78 (tX0_isIn a3 (0 : Int32) (99 : Int32) I r ) (by decide) rfl rfl (Nat.le_of_ble_eq_true rfl) ⟨Nat.zero_le _, Nat.zero_le _⟩ (fun r15 => ?_)
            refine v_if_eq (pc := 118) (t := 125) h dX0_canSet_118 rfl (fun _ => ?_) (fun _ => ?_)
            · refine v_sub [] rfl ?_
              exact hk14
            · refine v_iconst (pc := 121) h dX0_canSet_121 (v := 1) rfl ?_
              refine v_goto (pc := 122) (t := 126) h dX0_canSet_122 rfl ?_
              exact v_zretP (pc := 126) h hr (Or.inr rfl) dX0_canSet_126
        · refine v_iconst (pc := 125) h dX0_canSet_125 (v := 0) rfl ?_
          exact v_zretP (pc := 126) h hr (Or.inl rfl) dX0_canSet_126
set_option maxHeartbeats 4000000 in
theorem tX0_set {g : Gl}  (o : Nat) (a1 : Int32) (a2 : Int32) (a3 : Int32) (I : MI) (r : Rh) (h_o : KpS o r) : CtI g yX0_set cX0_set 4 (some .boolean) 4 [.ref o, .int a1, .int a2, .int a3] I r (pX0_set o a1 a2 a3 I r) := by
  refine CtI.mk (lv := [(0, .ref o), (1, .int a1), (2, .int a2), (3, .int a3)]) (by decide) (Nat.le_of_ble_eq_true rfl) rfl (fun x Q h hr => ?_)
  unfold pX0_set
  refine v_aload_n (pc := 0) h dX0_set_0 0 rfl rfl ?_
  refine v_iload_n (pc := 1) h dX0_set_1 1 rfl rfl ?_
  refine v_iload_n (pc := 2) h dX0_set_2 2 rfl rfl ?_
  refine v_iload_n (pc := 3) h dX0_set_3 3 rfl rfl ?_
  refine v_callP (pc := 4) h dX0_set_4 kX0_174 rfl (KpS.c h_o) (tX0_canSet o a1 a2 a3 I r h_o) (by decide) rfl rfl (Nat.le_of_ble_eq_true rfl) ⟨Nat.zero_le _, Nat.zero_le _⟩ (fun r1 => ?_)
  refine v_if_ne (pc := 7) (t := 12) h dX0_set_7 rfl (fun _ => ?_) (fun _ => ?_)
  · refine v_iload_n (pc := 12) h dX0_set_12 1 rfl rfl ?_
    refine v_jn1 (fun I2 => V g x 4 (0, 0) 99 [(0, .ref o)] [] I2 r) (fun k3 hk3 => ?_) (fun I2 => ?_)
    · refine v_ite (fun hc4 => ?_) (fun hc4 => ?_)
      · refine v_tswi (pc := 13) (t := 44) h dX0_set_13 (k := 0) hc4 (by decide) (by decide) rfl rfl ?_
        refine v_aload_n (pc := 44) h dX0_set_44 0 rfl rfl ?_
        refine v_iload_n (pc := 45) h dX0_set_45 2 rfl rfl ?_
        refine v_callA (pc := 46) h dX0_set_46 kX0_161 rfl (KpS.c h_o) (tX0_door_2 o a2 I r h_o) (by decide) rfl rfl (Nat.le_of_ble_eq_true rfl) ⟨Nat.zero_le _, Nat.zero_le _⟩ (fun b5 => ?_)
        refine v_and (fun h6 => ?_)
        refine v_iload_n (pc := 49) h dX0_set_49 3 rfl rfl ?_
        refine v_puti (pc := 50) h dX0_set_50 fX0_177 rfl h6 ?_
        refine v_nmI (fun I7 => ?_)
        refine v_goto (pc := 53) (t := 99) h dX0_set_53 rfl ?_
        refine v_sub [0] rfl ?_
        exact hk3 I7
      · refine v_ite (fun hc8 => ?_) (fun hc8 => ?_)
        · refine v_tswi (pc := 13) (t := 56) h dX0_set_13 (k := 1) hc8 (by decide) (by decide) rfl rfl ?_
          refine v_aload_n (pc := 56) h dX0_set_56 0 rfl rfl ?_
          refine v_iload_n (pc := 57) h dX0_set_57 2 rfl rfl ?_
          refine v_callA (pc := 58) h dX0_set_58 kX0_161 rfl (KpS.c h_o) (tX0_door_2 o a2 I r h_o) (by decide) rfl rfl (Nat.le_of_ble_eq_true rfl) ⟨Nat.zero_le _, Nat.zero_le _⟩ (fun b9 => ?_)
          refine v_and (fun h10 => ?_)
          refine v_iload_n (pc := 61) h dX0_set_61 3 rfl rfl ?_
          refine v_puti (pc := 62) h dX0_set_62 fX0_180 rfl h10 ?_
          refine v_nmI (fun I11 => ?_)
          refine v_goto (pc := 65) (t := 99) h dX0_set_65 rfl ?_
          refine v_sub [0] rfl ?_
          exact hk3 I11
        · refine v_ite (fun hc12 => ?_) (fun hc12 => ?_)
          · refine v_tswi (pc := 13) (t := 68) h dX0_set_13 (k := 2) hc12 (by decide) (by decide) rfl rfl ?_
            refine v_aload_n (pc := 68) h dX0_set_68 0 rfl rfl ?_
            refine v_iload_n (pc := 69) h dX0_set_69 2 rfl rfl ?_
            refine v_callA (pc := 70) h dX0_set_70 kX0_161 rfl (KpS.c h_o) (tX0_door_2 o a2 I r h_o) (by decide) rfl rfl (Nat.le_of_ble_eq_true rfl) ⟨Nat.zero_le _, Nat.zero_le _⟩ (fun b13 => ?_)
            refine v_and (fun h14 => ?_)
            refine v_iload_n (pc := 73) h dX0_set_73 3 rfl rfl ?_
            refine v_puti (pc := 74) h dX0_set_74 fX0_183 rfl h14 ?_
            refine v_nmI (fun I15 => ?_)
            refine v_goto (pc := 77) (t := 99) h dX0_set_77 rfl ?_
            refine v_sub [0] rfl ?_
            exact hk3 I15
          · refine v_ite (fun hc16 => ?_) (fun hc16 => ?_)
            · refine v_tswi (pc := 13) (t := 80) h dX0_set_13 (k := 3) hc16 (by decide) (by decide) rfl rfl ?_
              refine v_aload_n (pc := 80) h dX0_set_80 0 rfl rfl ?_
              refine v_getp (pc := 81) h dX0_set_81 fX0_20 rfl (KpS.c h_o) (KpS.walk h_o).1 ?_
              refine v_iload_n (pc := 84) h dX0_set_84 3 rfl rfl ?_
              refine v_puti (pc := 85) h dX0_set_85 fX0_186 rfl (WkS.c (KpS.walk h_o).2) ?_
              refine v_nmI (fun I17 => ?_)
              refine v_goto (pc := 88) (t := 99) h dX0_set_88 rfl ?_
              refine v_sub [0] rfl ?_
              exact hk3 I17
            · refine v_tswd (pc := 13) (t := 91) h dX0_set_13 (by have e0 := lv_neT hc4 (show (0 : Int32).toInt = 0 from rfl); have e1 := lv_neT hc8 (show (1 : Int32).toInt = 1 from rfl); have e2 := lv_neT hc12 (show (2 : Int32).toInt = 2 from rfl); have e3 := lv_neT hc16 (show (3 : Int32).toInt = 3 from rfl); omega) rfl ?_
              refine v_aload_n (pc := 91) h dX0_set_91 0 rfl rfl ?_
              refine v_getp (pc := 92) h dX0_set_92 fX0_20 rfl (KpS.c h_o) (KpS.walk h_o).1 ?_
              refine v_iload_n (pc := 95) h dX0_set_95 3 rfl rfl ?_
              refine v_puti (pc := 96) h dX0_set_96 fX0_189 rfl (WkS.c (KpS.walk h_o).2) ?_
              refine v_nmI (fun I18 => ?_)
              refine v_sub [0] rfl ?_
              exact hk3 I18
    · refine v_aload_n (pc := 99) h dX0_set_99 0 rfl rfl ?_
      refine v_callI (pc := 100) h dX0_set_100 kX0_105 rfl (KpS.c h_o) (tX0_forgets o I2 r h_o) (by decide) rfl rfl (Nat.le_of_ble_eq_true rfl) ⟨Nat.zero_le _, Nat.zero_le _⟩ (fun r19 I20 => ?_)
      exact v_zretE (pc := 103) h hr dX0_set_103
  · refine v_iconst (pc := 10) h dX0_set_10 (v := 0) rfl ?_
    exact v_zret (pc := 11) h hr (Or.inl rfl) dX0_set_11
set_option maxHeartbeats 4000000 in
theorem tX0_isKind {g : Gl}  (a1 : Int32) (I : MI) (r : Rh)  : CtP g yX0_isKind cX0_isKind 1 (some .boolean) 2 [.int a1] I r (pX0_isKind a1 I r) := by
  refine CtP.mk (lv := [(0, .int a1)]) (by decide) (Nat.le_of_ble_eq_true rfl) rfl (fun x Q h hr => ?_)
  unfold pX0_isKind
  refine v_iload_n (pc := 0) h dX0_isKind_0 0 rfl rfl ?_
  refine v_iconst (pc := 1) h dX0_isKind_1 (v := 0) rfl ?_
  refine v_bipush (pc := 2) h dX0_isKind_2 (v := 6) rfl ?_
  refine v_callsp (pc := 4) h dX0_isKind_4 sX0_78 (tX0_isIn a1 (0 : Int32) (6 : Int32) I r ) (by decide) rfl rfl (Nat.le_of_ble_eq_true rfl) ⟨Nat.zero_le _, Nat.zero_le _⟩ (fun r1 => ?_)
  exact v_zretPE (pc := 7) h hr dX0_isKind_7
set_option maxHeartbeats 4000000 in
theorem tX0_remembers {g : Gl}  (o : Nat) (I : MI) (r : Rh) (h_o : KpS o r) : CtW g yX0_remembers cX0_remembers 3 5 0 0 [.ref o] I r (pX0_remembers o I r) := by
  refine CtW.mk (lv := [(0, .ref o)]) (by decide) (Nat.le_of_ble_eq_true rfl) rfl (fun x Q h hr hnm => ?_)
  unfold pX0_remembers
  refine v_aload_n (pc := 0) h dX0_remembers_0 0 rfl rfl ?_
  refine v_geti (pc := 1) h dX0_remembers_1 fX0_144 rfl (KpS.c h_o) ?_
  refine v_bipush (pc := 4) h dX0_remembers_4 (v := 6) rfl ?_
  refine v_jn2 (fun I1 r2 => V g x 3 (0, 0) 61 [(0, .ref o)] [] I1 r2) (fun k3 hk3 => ?_) (fun I1 r2 => ?_)
  · refine v_icmp_ne (pc := 6) (t := 61) h dX0_remembers_6 rfl (fun _ => ?_) (fun _ => ?_)
    · exact hk3 I r
    · refine v_aload_n (pc := 9) h dX0_remembers_9 0 rfl rfl ?_
      refine v_getp (pc := 10) h dX0_remembers_10 fX0_30 rfl (KpS.c h_o) (KpS.back h_o).1 ?_
      refine v_iconst (pc := 13) h dX0_remembers_13 (v := 0) rfl ?_
      refine v_aaldx (pc := 14) h dX0_remembers_14 (t := 4) (KpS.back h_o).2.1 rfl rfl (KpS.back h_o).2.2 (fun b5 h6 h7 => ?_)
      refine v_astore_n (pc := 15) h dX0_remembers_15 rfl (by decide) (lv' := [(1, .ref b5), (0, .ref o)]) rfl ?_
      refine v_iconst (pc := 16) h dX0_remembers_16 (v := 1) rfl ?_
      refine v_istore_n (pc := 17) h dX0_remembers_17 rfl (by decide) (lv' := [(2, .int (1 : Int32)), (1, .ref b5), (0, .ref o)]) rfl ?_
      refine v_sub [2, 1, 0] rfl ?_
      refine L2.run (lv := fun i2_8 r9 => [(0, .ref o), (1, .ref b5), (2, .int i2_8)]) (st := fun i2_8 r9 => []) (Im := fun i2_8 r9 => I) (r := fun i2_8 r9 => r9) (fun X10 hX10 i2_8 r9 => ?_) (1 : Int32) r
      refine v_and (fun h11 => ?_)
      refine v_and (fun h12 => ?_)
      refine v_iload_n (pc := 18) h dX0_remembers_18 2 rfl rfl ?_
      refine v_bipush (pc := 19) h dX0_remembers_19 (v := 6) rfl ?_
      refine v_icmp_ge (pc := 21) (t := 44) h dX0_remembers_21 rfl (fun _ => ?_) (fun _ => ?_)
      · refine v_aload_n (pc := 44) h dX0_remembers_44 0 rfl rfl ?_
        refine v_getp (pc := 45) h dX0_remembers_45 fX0_30 rfl (KpS.c h11) (KpS.back h11).1 ?_
        refine v_iconst (pc := 48) h dX0_remembers_48 (v := 5) rfl ?_
        refine v_aload_n (pc := 49) h dX0_remembers_49 1 rfl rfl ?_
        refine v_aast (pc := 50) h dX0_remembers_50 (t := 4) (KpS.back h11).2.1 rfl (c := 1) rfl (WkS.c h12) (KpS.back h11).2.2 ?_
        refine v_nmr (fun r13 => ?_)
        refine v_and (fun h14 => ?_)
        refine v_and (fun h15 => ?_)
        refine v_aload_n (pc := 51) h dX0_remembers_51 0 rfl rfl ?_
        refine v_dup (pc := 52) h dX0_remembers_52 rfl ?_
        refine v_geti (pc := 53) h dX0_remembers_53 fX0_144 rfl (KpS.c h14) ?_
        refine v_iconst (pc := 56) h dX0_remembers_56 (v := 1) rfl ?_
        refine v_isub (pc := 57) h dX0_remembers_57 ?_
        refine v_puti (pc := 58) h dX0_remembers_58 fX0_144 rfl (KpS.c h14) ?_
        refine v_nmI (fun I16 => ?_)
        refine v_sub [0] rfl ?_
        exact hk3 I16 r13
      · refine v_aload_n (pc := 24) h dX0_remembers_24 0 rfl rfl ?_
        refine v_getp (pc := 25) h dX0_remembers_25 fX0_30 rfl (KpS.c h11) (KpS.back h11).1 ?_
        refine v_iload_n (pc := 28) h dX0_remembers_28 2 rfl rfl ?_
        refine v_iconst (pc := 29) h dX0_remembers_29 (v := 1) rfl ?_
        refine v_isub (pc := 30) h dX0_remembers_30 ?_
        refine v_aload_n (pc := 31) h dX0_remembers_31 0 rfl rfl ?_
        refine v_getp (pc := 32) h dX0_remembers_32 fX0_30 rfl (KpS.c h11) (KpS.back h11).1 ?_
        refine v_iload_n (pc := 35) h dX0_remembers_35 2 rfl rfl ?_
        refine v_aaldx (pc := 36) h dX0_remembers_36 (t := 4) (KpS.back h11).2.1 rfl rfl (KpS.back h11).2.2 (fun b17 h18 h19 => ?_)
        refine v_aast (pc := 37) h dX0_remembers_37 (t := 4) (KpS.back h11).2.1 rfl (c := 1) rfl (WkS.c (KpS.bk h11 h18 h19)) (KpS.back h11).2.2 ?_
        refine v_nmr (fun r20 => ?_)
        refine v_and (fun h21 => ?_)
        refine v_and (fun h22 => ?_)
        refine v_iinc (pc := 38) h dX0_remembers_38 2 rfl (w := (i2_8 + (1 : Int32))) rfl (by decide) (lv' := [(2, .int (i2_8 + (1 : Int32))), (0, .ref o), (1, .ref b5)]) rfl ?_
        refine v_goto (pc := 41) (t := 18) h dX0_remembers_41 rfl ?_
        refine v_sub [1, 2, 0] rfl ?_
        exact hX10 (i2_8 + (1 : Int32)) r20
  · refine v_and (fun h4 => ?_)
    refine v_aload_n (pc := 61) h dX0_remembers_61 0 rfl rfl ?_
    refine v_getp (pc := 62) h dX0_remembers_62 fX0_30 rfl (KpS.c h4) (KpS.back h4).1 ?_
    refine v_aload_n (pc := 65) h dX0_remembers_65 0 rfl rfl ?_
    refine v_geti (pc := 66) h dX0_remembers_66 fX0_144 rfl (KpS.c h4) ?_
    refine v_aaldx (pc := 69) h dX0_remembers_69 (t := 4) (KpS.back h4).2.1 rfl rfl (KpS.back h4).2.2 (fun b23 h24 h25 => ?_)
    refine v_aload_n (pc := 70) h dX0_remembers_70 0 rfl rfl ?_
    refine v_getp (pc := 71) h dX0_remembers_71 fX0_20 rfl (KpS.c h4) (KpS.walk h4).1 ?_
    refine v_callV (pc := 74) h dX0_remembers_74 kX0_147 rfl (WkS.c (KpS.bk h4 h24 h25)) (tX1_moves b23 (o + 2) I1 r2 (KpS.bk h4 h24 h25) (KpS.walk h4).2) (by decide) rfl rfl (Nat.le_of_ble_eq_true rfl) ⟨Nat.zero_le _, Nat.zero_le _⟩ (fun I26 => ?_)
    refine v_aload_n (pc := 77) h dX0_remembers_77 0 rfl rfl ?_
    refine v_dup (pc := 78) h dX0_remembers_78 rfl ?_
    refine v_geti (pc := 79) h dX0_remembers_79 fX0_144 rfl (KpS.c h4) ?_
    refine v_iconst (pc := 82) h dX0_remembers_82 (v := 1) rfl ?_
    refine v_iadd (pc := 83) h dX0_remembers_83 ?_
    refine v_puti (pc := 84) h dX0_remembers_84 fX0_144 rfl (KpS.c h4) ?_
    refine v_nmI (fun I27 => ?_)
    exact v_vretW (pc := 87) h hr ⟨Nat.zero_le _, Nat.zero_le _⟩ dX0_remembers_87
set_option maxHeartbeats 4000000 in
theorem tX2_comes {g : Gl}  (o : Nat) (a1 : Int32) (a2 : Int32) (a3 : Int32) (a4 : Int32) (I : MI) (r : Rh) (h_o : BgS o r) : CtI g yX2_comes cX2_comes 5 (some .boolean) 2 [.ref o, .int a1, .int a2, .int a3, .int a4] I r (pX2_comes o a1 a2 a3 a4 I r) := by
  refine CtI.mk (lv := [(0, .ref o), (1, .int a1), (2, .int a2), (3, .int a3), (4, .int a4)]) (by decide) (Nat.le_of_ble_eq_true rfl) rfl (fun x Q h hr => ?_)
  unfold pX2_comes
  refine v_aload_n (pc := 0) h dX2_comes_0 0 rfl rfl ?_
  refine v_geti (pc := 1) h dX2_comes_1 fX2_18 rfl h_o.1 ?_
  refine v_bipush (pc := 4) h dX2_comes_4 (v := 24) rfl ?_
  refine v_icmp_ne (pc := 6) (t := 11) h dX2_comes_6 rfl (fun _ => ?_) (fun _ => ?_)
  · refine v_aload_n (pc := 11) h dX2_comes_11 0 rfl rfl ?_
    refine v_getp (pc := 12) h dX2_comes_12 fX2_11 rfl h_o.1 h_o.2.1 ?_
    refine v_aload_n (pc := 15) h dX2_comes_15 0 rfl rfl ?_
    refine v_geti (pc := 16) h dX2_comes_16 fX2_18 rfl h_o.1 ?_
    refine v_aaldx (pc := 19) h dX2_comes_19 (t := 3) h_o.2.2.1 rfl rfl h_o.2.2.2.1 (fun b1 h2 h3 => ?_)
    refine v_iload_n (pc := 20) h dX2_comes_20 1 rfl rfl ?_
    refine v_iload_n (pc := 21) h dX2_comes_21 2 rfl rfl ?_
    refine v_iload_n (pc := 22) h dX2_comes_22 3 rfl rfl ?_
    refine v_iload (pc := 23) h dX2_comes_23 4 rfl ?_
    refine v_callV (pc := 25) h dX2_comes_25 kX2_22 rfl (BgS.lt h_o h2 h3) (tX3_begins b1 a1 a2 a3 a4 I r (BgS.lt h_o h2 h3)) (by decide) rfl rfl (Nat.le_of_ble_eq_true rfl) ⟨Nat.zero_le _, Nat.zero_le _⟩ (fun I4 => ?_)
    refine v_aload_n (pc := 28) h dX2_comes_28 0 rfl rfl ?_
    refine v_dup (pc := 29) h dX2_comes_29 rfl ?_
    refine v_geti (pc := 30) h dX2_comes_30 fX2_18 rfl h_o.1 ?_
    refine v_iconst (pc := 33) h dX2_comes_33 (v := 1) rfl ?_
    refine v_iadd (pc := 34) h dX2_comes_34 ?_
    refine v_puti (pc := 35) h dX2_comes_35 fX2_18 rfl h_o.1 ?_
    refine v_nmI (fun I5 => ?_)
    refine v_iconst (pc := 38) h dX2_comes_38 (v := 1) rfl ?_
    exact v_zret (pc := 39) h hr (Or.inr rfl) dX2_comes_39
  · refine v_iconst (pc := 9) h dX2_comes_9 (v := 0) rfl ?_
    exact v_zret (pc := 10) h hr (Or.inl rfl) dX2_comes_10
set_option maxHeartbeats 4000000 in
theorem tX1_notes {g : Gl}  (o : Nat) (a1 : Int32) (a2 : Int32) (a3 : Int32) (I : MI) (r : Rh) (h_o : WkS o r) : CtV g yX1_notes cX1_notes 5 1 [.ref o, .int a1, .int a2, .int a3] I r (pX1_notes o a1 a2 a3 I r) := by
  refine CtV.mk (lv := [(0, .ref o), (1, .int a1), (2, .int a2), (3, .int a3)]) (by decide) (Nat.le_of_ble_eq_true rfl) rfl (fun x Q h hr => ?_)
  unfold pX1_notes
  refine v_aload_n (pc := 0) h dX1_notes_0 0 rfl rfl ?_
  refine v_geti (pc := 1) h dX1_notes_1 fX1_133 rfl (WkS.c h_o) ?_
  refine v_if_ne (pc := 4) (t := 17) h dX1_notes_4 rfl (fun _ => ?_) (fun _ => ?_)
  · exact v_vret (pc := 17) h hr dX1_notes_17
  · refine v_aload_n (pc := 7) h dX1_notes_7 0 rfl rfl ?_
    refine v_geti (pc := 8) h dX1_notes_8 fX1_109 rfl (WkS.c h_o) ?_
    refine v_sipush (pc := 11) h dX1_notes_11 (v := 150) rfl ?_
    refine v_icmp_ne (pc := 14) (t := 18) h dX1_notes_14 rfl (fun _ => ?_) (fun _ => ?_)
    · refine v_aload_n (pc := 18) h dX1_notes_18 0 rfl rfl ?_
      refine v_getp (pc := 19) h dX1_notes_19 fX1_33 rfl (WkS.c h_o) (WkS.book h_o).1 ?_
      refine v_aload_n (pc := 22) h dX1_notes_22 0 rfl rfl ?_
      refine v_geti (pc := 23) h dX1_notes_23 fX1_109 rfl (WkS.c h_o) ?_
      refine v_aaldk (pc := 26) h dX1_notes_26 (t := 5) (WkS.book h_o).2.1 rfl rfl (WkS.book h_o).2.2.1 (fun hin => ((WkS.book h_o).2.2.2 _ (vp_lt hin)).1) (fun h1 => ?_)
      refine v_astore (pc := 27) h dX1_notes_27 (by decide) (lv' := [(4, .ref (o + 31 + (I o 24).toNatClampNeg)), (0, .ref o), (1, .int a1), (2, .int a2), (3, .int a3)]) rfl ?_
      refine v_aload (pc := 29) h dX1_notes_29 0 rfl ?_
      refine v_iconst (pc := 31) h dX1_notes_31 (v := 0) rfl ?_
      refine v_aload_n (pc := 32) h dX1_notes_32 1 rfl rfl ?_
      refine v_geti (pc := 33) h dX1_notes_33 fX1_100 rfl (WkS.c h_o) ?_
      refine v_iastL (pc := 36) h dX1_notes_36 ((WkS.book h_o).2.2.2 _ (vp_lt h1)).2.1 ((WkS.book h_o).2.2.2 _ (vp_lt h1)).2.2 (vpd rfl) (k := 0) rfl ?_
      refine v_nmI (fun I2 => ?_)
      refine v_aload (pc := 37) h dX1_notes_37 0 rfl ?_
      refine v_iconst (pc := 39) h dX1_notes_39 (v := 1) rfl ?_
      refine v_iload_n (pc := 40) h dX1_notes_40 2 rfl rfl ?_
      refine v_iastL (pc := 41) h dX1_notes_41 ((WkS.book h_o).2.2.2 _ (vp_lt h1)).2.1 ((WkS.book h_o).2.2.2 _ (vp_lt h1)).2.2 (vpd rfl) (k := 1) rfl ?_
      refine v_nmI (fun I3 => ?_)
      refine v_aload (pc := 42) h dX1_notes_42 0 rfl ?_
      refine v_iconst (pc := 44) h dX1_notes_44 (v := 2) rfl ?_
      refine v_iload_n (pc := 45) h dX1_notes_45 3 rfl rfl ?_
      refine v_iastL (pc := 46) h dX1_notes_46 ((WkS.book h_o).2.2.2 _ (vp_lt h1)).2.1 ((WkS.book h_o).2.2.2 _ (vp_lt h1)).2.2 (vpd rfl) (k := 2) rfl ?_
      refine v_nmI (fun I4 => ?_)
      refine v_aload (pc := 47) h dX1_notes_47 0 rfl ?_
      refine v_iconst (pc := 49) h dX1_notes_49 (v := 3) rfl ?_
      refine v_iload_n (pc := 50) h dX1_notes_50 4 rfl rfl ?_
      refine v_iastL (pc := 51) h dX1_notes_51 ((WkS.book h_o).2.2.2 _ (vp_lt h1)).2.1 ((WkS.book h_o).2.2.2 _ (vp_lt h1)).2.2 (vpd rfl) (k := 3) rfl ?_
      refine v_nmI (fun I5 => ?_)
      refine v_aload_n (pc := 52) h dX1_notes_52 1 rfl rfl ?_
      refine v_dup (pc := 53) h dX1_notes_53 rfl ?_
      refine v_geti (pc := 54) h dX1_notes_54 fX1_109 rfl (WkS.c h_o) ?_
      refine v_iconst (pc := 57) h dX1_notes_57 (v := 1) rfl ?_
      refine v_iadd (pc := 58) h dX1_notes_58 ?_
      refine v_puti (pc := 59) h dX1_notes_59 fX1_109 rfl (WkS.c h_o) ?_
      refine v_nmI (fun I6 => ?_)
      exact v_vret (pc := 62) h hr dX1_notes_62
    · exact v_vret (pc := 17) h hr dX1_notes_17
set_option maxHeartbeats 4000000 in
theorem tX1_posts {g : Gl}  (o : Nat) (a1 : Int32) (a2 : Int32) (a3 : Int32) (I : MI) (r : Rh) (h_o : WkS o r) : CtI g yX1_posts cX1_posts 4 (some .boolean) 3 [.ref o, .int a1, .int a2, .int a3] I r (pX1_posts o a1 a2 a3 I r) := by
  refine CtI.mk (lv := [(0, .ref o), (1, .int a1), (2, .int a2), (3, .int a3)]) (by decide) (Nat.le_of_ble_eq_true rfl) rfl (fun x Q h hr => ?_)
  unfold pX1_posts
  refine v_aload_n (pc := 0) h dX1_posts_0 0 rfl rfl ?_
  refine v_getp (pc := 1) h dX1_posts_1 fX1_20 rfl (WkS.c h_o) (WkS.bag h_o).1 ?_
  refine v_aload_n (pc := 4) h dX1_posts_4 0 rfl rfl ?_
  refine v_geti (pc := 5) h dX1_posts_5 fX1_103 rfl (WkS.c h_o) ?_
  refine v_iload_n (pc := 8) h dX1_posts_8 1 rfl rfl ?_
  refine v_iload_n (pc := 9) h dX1_posts_9 2 rfl rfl ?_
  refine v_iload_n (pc := 10) h dX1_posts_10 3 rfl rfl ?_
  refine v_callI (pc := 11) h dX1_posts_11 kX1_196 rfl (WkS.bag h_o).2.1 (tX2_comes (o + 2) (I o 22) a1 a2 a3 I r (WkS.bag h_o).2) (by decide) rfl rfl (Nat.le_of_ble_eq_true rfl) ⟨Nat.zero_le _, Nat.zero_le _⟩ (fun r1 I2 => ?_)
  refine v_if_ne (pc := 14) (t := 19) h dX1_posts_14 rfl (fun _ => ?_) (fun _ => ?_)
  · refine v_aload_n (pc := 19) h dX1_posts_19 0 rfl rfl ?_
    refine v_iconst (pc := 20) h dX1_posts_20 (v := 0) rfl ?_
    refine v_aload_n (pc := 21) h dX1_posts_21 0 rfl rfl ?_
    refine v_geti (pc := 22) h dX1_posts_22 fX1_103 rfl (WkS.c h_o) ?_
    refine v_iload_n (pc := 25) h dX1_posts_25 1 rfl rfl ?_
    refine v_callV (pc := 26) h dX1_posts_26 kX1_200 rfl (WkS.c h_o) (tX1_notes o (0 : Int32) (I2 o 22) a1 I2 r h_o) (by decide) rfl rfl (Nat.le_of_ble_eq_true rfl) ⟨Nat.zero_le _, Nat.zero_le _⟩ (fun I3 => ?_)
    refine v_aload_n (pc := 29) h dX1_posts_29 0 rfl rfl ?_
    refine v_dup (pc := 30) h dX1_posts_30 rfl ?_
    refine v_geti (pc := 31) h dX1_posts_31 fX1_103 rfl (WkS.c h_o) ?_
    refine v_iconst (pc := 34) h dX1_posts_34 (v := 1) rfl ?_
    refine v_iadd (pc := 35) h dX1_posts_35 ?_
    refine v_puti (pc := 36) h dX1_posts_36 fX1_103 rfl (WkS.c h_o) ?_
    refine v_nmI (fun I4 => ?_)
    refine v_iconst (pc := 39) h dX1_posts_39 (v := 1) rfl ?_
    exact v_zret (pc := 40) h hr (Or.inr rfl) dX1_posts_40
  · refine v_iconst (pc := 17) h dX1_posts_17 (v := 0) rfl ?_
    exact v_zret (pc := 18) h hr (Or.inl rfl) dX1_posts_18
set_option maxHeartbeats 4000000 in
theorem tX0_post {g : Gl}  (o : Nat) (a1 : Int32) (a2 : Int32) (a3 : Int32) (I : MI) (r : Rh) (h_o : KpS o r) : CtR g yX0_post cX0_post 4 (some .int) 6 0 0 [.ref o, .int a1, .int a2, .int a3] I r (pX0_post o a1 a2 a3 I r) := by
  refine CtR.mk (lv := [(0, .ref o), (1, .int a1), (2, .int a2), (3, .int a3)]) (by decide) (Nat.le_of_ble_eq_true rfl) rfl (fun x Q h hr => ?_)
  unfold pX0_post
  refine v_aload_n (pc := 0) h dX0_post_0 0 rfl rfl ?_
  refine v_iload_n (pc := 1) h dX0_post_1 1 rfl rfl ?_
  refine v_callP (pc := 2) h dX0_post_2 kX0_170 rfl (KpS.c h_o) (tX0_isDoor o a1 I r h_o) (by decide) rfl rfl (Nat.le_of_ble_eq_true rfl) ⟨Nat.zero_le _, Nat.zero_le _⟩ (fun r1 => ?_)
  refine v_if_eq (pc := 5) (t := 40) h dX0_post_5 rfl (fun _ => ?_) (fun _ => ?_)
  · refine v_iconst (pc := 40) h dX0_post_40 (v := (-1)) rfl ?_
    exact v_iretR (pc := 41) h hr ⟨Nat.zero_le _, Nat.zero_le _⟩ dX0_post_41
  · refine v_iload_n (pc := 8) h dX0_post_8 2 rfl rfl ?_
    refine v_callsp (pc := 9) h dX0_post_9 sX0_192 (tX0_isKind a2 I r ) (by decide) rfl rfl (Nat.le_of_ble_eq_true rfl) ⟨Nat.zero_le _, Nat.zero_le _⟩ (fun r2 => ?_)
    refine v_if_eq (pc := 12) (t := 40) h dX0_post_12 rfl (fun _ => ?_) (fun _ => ?_)
    · refine v_iconst (pc := 40) h dX0_post_40 (v := (-1)) rfl ?_
      exact v_iretR (pc := 41) h hr ⟨Nat.zero_le _, Nat.zero_le _⟩ dX0_post_41
    · refine v_iload_n (pc := 15) h dX0_post_15 3 rfl rfl ?_
      refine v_iconst (pc := 16) h dX0_post_16 (v := 1) rfl ?_
      refine v_bipush (pc := 17) h dX0_post_17 (v := 99) rfl ?_
      refine v_callsp (pc := 19) h dX0_post_19 sX0_78 (tX0_isIn a3 (1 : Int32) (99 : Int32) I r ) (by decide) rfl rfl (Nat.le_of_ble_eq_true rfl) ⟨Nat.zero_le _, Nat.zero_le _⟩ (fun r3 => ?_)
      refine v_if_eq (pc := 22) (t := 40) h dX0_post_22 rfl (fun _ => ?_) (fun _ => ?_)
      · refine v_iconst (pc := 40) h dX0_post_40 (v := (-1)) rfl ?_
        exact v_iretR (pc := 41) h hr ⟨Nat.zero_le _, Nat.zero_le _⟩ dX0_post_41
      · refine v_aload_n (pc := 25) h dX0_post_25 0 rfl rfl ?_
        refine v_getp (pc := 26) h dX0_post_26 fX0_20 rfl (KpS.c h_o) (KpS.walk h_o).1 ?_
        refine v_getp (pc := 29) h dX0_post_29 fX0_195 rfl (WkS.c (KpS.walk h_o).2) (WkS.bag (KpS.walk h_o).2).1 ?_
        refine v_geti (pc := 32) h dX0_post_32 fX0_199 rfl (WkS.bag (KpS.walk h_o).2).2.1 ?_
        refine v_bipush (pc := 35) h dX0_post_35 (v := 24) rfl ?_
        refine v_icmp_ne (pc := 37) (t := 42) h dX0_post_37 rfl (fun _ => ?_) (fun _ => ?_)
        · refine v_aload_n (pc := 42) h dX0_post_42 0 rfl rfl ?_
          refine v_callW (pc := 43) h dX0_post_43 kX0_204 rfl (KpS.c h_o) (tX0_remembers o I r h_o) (by decide) rfl rfl (Nat.le_of_ble_eq_true rfl) ⟨Nat.zero_le _, Nat.zero_le _⟩ (fun I4 s5 => ?_)
          refine v_and (fun h6 => ?_)
          refine v_aload_n (pc := 46) h dX0_post_46 0 rfl rfl ?_
          refine v_getp (pc := 47) h dX0_post_47 fX0_20 rfl (KpS.c h6) (KpS.walk h6).1 ?_
          refine v_iload_n (pc := 50) h dX0_post_50 1 rfl rfl ?_
          refine v_iload_n (pc := 51) h dX0_post_51 2 rfl rfl ?_
          refine v_iload_n (pc := 52) h dX0_post_52 3 rfl rfl ?_
          refine v_callI (pc := 53) h dX0_post_53 kX0_207 rfl (WkS.c (KpS.walk h6).2) (tX1_posts (o + 2) a1 a2 a3 I4 s5 (KpS.walk h6).2) (by decide) rfl rfl (Nat.le_of_ble_eq_true rfl) ⟨Nat.zero_le _, Nat.zero_le _⟩ (fun r7 I8 => ?_)
          refine v_pop (pc := 56) h dX0_post_56 rfl ?_
          refine v_aload_n (pc := 57) h dX0_post_57 0 rfl rfl ?_
          refine v_getp (pc := 58) h dX0_post_58 fX0_20 rfl (KpS.c h6) (KpS.walk h6).1 ?_
          refine v_geti (pc := 61) h dX0_post_61 fX0_210 rfl (WkS.c (KpS.walk h6).2) ?_
          refine v_iconst (pc := 64) h dX0_post_64 (v := 1) rfl ?_
          refine v_isub (pc := 65) h dX0_post_65 ?_
          exact v_iretR (pc := 66) h hr ⟨Nat.zero_le _, Nat.zero_le _⟩ dX0_post_66
        · refine v_iconst (pc := 40) h dX0_post_40 (v := (-1)) rfl ?_
          exact v_iretR (pc := 41) h hr ⟨Nat.zero_le _, Nat.zero_le _⟩ dX0_post_41
set_option maxHeartbeats 4000000 in
theorem tX2_place {g : Gl}  (o : Nat) (a1 : Int32) (I : MI) (r : Rh) (h_o : BgS o r) : CtP g yX2_place cX2_place 3 (some .int) 1 [.ref o, .int a1] I r (pX2_place o a1 I r) := by
  refine CtP.mk (lv := [(0, .ref o), (1, .int a1)]) (by decide) (Nat.le_of_ble_eq_true rfl) rfl (fun x Q h hr => ?_)
  unfold pX2_place
  refine v_iconst (pc := 0) h dX2_place_0 (v := 0) rfl ?_
  refine v_istore_n (pc := 1) h dX2_place_1 rfl (by decide) (lv' := [(2, .int (0 : Int32)), (0, .ref o), (1, .int a1)]) rfl ?_
  refine v_sub [1, 2, 0] rfl ?_
  refine L1.run (lv := fun i2_1 => [(0, .ref o), (1, .int a1), (2, .int i2_1)]) (st := fun i2_1 => []) (Im := fun i2_1 => I) (r := fun i2_1 => r) (fun X2 hX2 i2_1 => ?_) (0 : Int32)
  refine v_iload_n (pc := 2) h dX2_place_2 2 rfl rfl ?_
  refine v_aload_n (pc := 3) h dX2_place_3 0 rfl rfl ?_
  refine v_geti (pc := 4) h dX2_place_4 fX2_18 rfl h_o.1 ?_
  refine v_icmp_ge (pc := 7) (t := 31) h dX2_place_7 rfl (fun _ => ?_) (fun _ => ?_)
  · refine v_iconst (pc := 31) h dX2_place_31 (v := (-1)) rfl ?_
    exact v_iretP (pc := 32) h hr dX2_place_32
  · refine v_aload_n (pc := 10) h dX2_place_10 0 rfl rfl ?_
    refine v_getp (pc := 11) h dX2_place_11 fX2_11 rfl h_o.1 h_o.2.1 ?_
    refine v_iload_n (pc := 14) h dX2_place_14 2 rfl rfl ?_
    refine v_aaldx (pc := 15) h dX2_place_15 (t := 3) h_o.2.2.1 rfl rfl h_o.2.2.2.1 (fun b3 h4 h5 => ?_)
    refine v_geti (pc := 16) h dX2_place_16 fX2_26 rfl (BgS.lt h_o h4 h5) ?_
    refine v_iload_n (pc := 19) h dX2_place_19 1 rfl rfl ?_
    refine v_icmp_ne (pc := 20) (t := 25) h dX2_place_20 rfl (fun _ => ?_) (fun _ => ?_)
    · refine v_iinc (pc := 25) h dX2_place_25 2 rfl (w := (i2_1 + (1 : Int32))) rfl (by decide) (lv' := [(2, .int (i2_1 + (1 : Int32))), (0, .ref o), (1, .int a1)]) rfl ?_
      refine v_goto (pc := 28) (t := 2) h dX2_place_28 rfl ?_
      refine v_sub [1, 2, 0] rfl ?_
      exact hX2 (i2_1 + (1 : Int32))
    · refine v_iload_n (pc := 23) h dX2_place_23 2 rfl rfl ?_
      exact v_iretP (pc := 24) h hr dX2_place_24
set_option maxHeartbeats 4000000 in
theorem tJ2_size {g : Gl}  (o : Nat) (I : MI) (r : Rh) (h_o : rK r o = 9) : CtP g yJ2_size cJ2_size 1 (some .int) 1 [.ref o] I r (pJ2_size o I r) := by
  refine CtP.mk (lv := [(0, .ref o)]) (by decide) (Nat.le_of_ble_eq_true rfl) rfl (fun x Q h hr => ?_)
  unfold pJ2_size
  refine v_aload_n (pc := 0) h dJ2_size_0 0 rfl rfl ?_
  refine v_geti (pc := 1) h dJ2_size_1 fJ2_48 rfl h_o ?_
  exact v_iretP (pc := 4) h hr dJ2_size_4
set_option maxHeartbeats 4000000 in
theorem tJ4_checkIndex {g : Gl}  (a1 : Int32) (a2 : Int32) (a3 : Option Nat) (I : MI) (r : Rh)  : CtP g yJ4_checkIndex cJ4_checkIndex 3 (some .int) 1 [.int a1, .int a2, va_rf a3] I r (pJ4_checkIndex a1 a2 a3 I r) := by
  refine CtP.mk (lv := [(0, .int a1), (1, .int a2), (2, va_rf a3)]) (by decide) (by cases a3 <;> exact Nat.le_of_ble_eq_true rfl) (by cases a3 <;> rfl) (fun x Q h hr => ?_)
  unfold pJ4_checkIndex
  refine v_iload_n (pc := 0) h dJ4_checkIndex_0 0 rfl rfl ?_
  refine v_jn0 (V g x 3 (0, 0) 9 [(2, va_rf a3)] [] I r) (fun k1 hk1 => ?_) ?_
  · refine v_if_lt (pc := 1) (t := 9) h dJ4_checkIndex_1 rfl (fun _ => ?_) (fun _ => ?_)
    · refine v_sub [2] rfl ?_
      exact hk1
    · refine v_iload_n (pc := 4) h dJ4_checkIndex_4 0 rfl rfl ?_
      refine v_iload_n (pc := 5) h dJ4_checkIndex_5 1 rfl rfl ?_
      refine v_icmp_lt (pc := 6) (t := 16) h dJ4_checkIndex_6 rfl (fun _ => ?_) (fun _ => ?_)
      · refine v_iload_n (pc := 16) h dJ4_checkIndex_16 0 rfl rfl ?_
        exact v_iretP (pc := 17) h hr dJ4_checkIndex_17
      · refine v_sub [2] rfl ?_
        exact hk1
  · exact v_false
set_option maxHeartbeats 4000000 in
theorem tJ3_checkIndex {g : Gl}  (a1 : Int32) (a2 : Int32) (I : MI) (r : Rh)  : CtP g yJ3_checkIndex cJ3_checkIndex 2 (some .int) 2 [.int a1, .int a2] I r (pJ3_checkIndex a1 a2 I r) := by
  refine CtP.mk (lv := [(0, .int a1), (1, .int a2)]) (by decide) (Nat.le_of_ble_eq_true rfl) rfl (fun x Q h hr => ?_)
  unfold pJ3_checkIndex
  refine v_iload_n (pc := 0) h dJ3_checkIndex_0 0 rfl rfl ?_
  refine v_iload_n (pc := 1) h dJ3_checkIndex_1 1 rfl rfl ?_
  refine v_null (pc := 2) h dJ3_checkIndex_2 ?_
  refine v_callsp (pc := 3) h dJ3_checkIndex_3 sJ3_105 (tJ4_checkIndex a1 a2 none I r ) (by decide) rfl rfl (Nat.le_of_ble_eq_true rfl) ⟨Nat.zero_le _, Nat.zero_le _⟩ (fun r1 => ?_)
  exact v_iretP (pc := 6) h hr dJ3_checkIndex_6
set_option maxHeartbeats 4000000 in
theorem tJ2_elementData {g : Gl}  (o : Nat) (a1 : Int32) (I : MI) (r : Rh) (h_o : rK r o = 9) : CtA g yJ2_elementData cJ2_elementData 2 (some (.object "java/lang/Object")) 1 [.ref o, .int a1] I r (pJ2_elementData o a1 I r) := by
  refine CtA.mk (lv := [(0, .ref o), (1, .int a1)]) (by decide) (Nat.le_of_ble_eq_true rfl) rfl (fun x Q h hr => ?_)
  unfold pJ2_elementData
  refine v_aload_n (pc := 0) h dJ2_elementData_0 0 rfl rfl ?_
  refine v_getx (pc := 1) h dJ2_elementData_1 fJ2_9 rfl h_o (fun b1 h2 => ?_)
  refine v_and (fun h3 => ?_)
  refine v_iload_n (pc := 4) h dJ2_elementData_4 1 rfl rfl ?_
  refine v_aaldx (pc := 5) h dJ2_elementData_5 (t := 6) h3 rfl rfl rfl (fun b4 h5 h6 => ?_)
  exact v_aretA (pc := 6) h hr (Or.inl ⟨_, rfl⟩) dJ2_elementData_6
set_option maxHeartbeats 4000000 in
theorem tJ2_get {g : Gl}  (o : Nat) (a1 : Int32) (I : MI) (r : Rh) (h_o : rK r o = 9) : CtA g yJ2_get cJ2_get 2 (some (.object "java/lang/Object")) 3 [.ref o, .int a1] I r (pJ2_get o a1 I r) := by
  refine CtA.mk (lv := [(0, .ref o), (1, .int a1)]) (by decide) (Nat.le_of_ble_eq_true rfl) rfl (fun x Q h hr => ?_)
  unfold pJ2_get
  refine v_iload_n (pc := 0) h dJ2_get_0 1 rfl rfl ?_
  refine v_aload_n (pc := 1) h dJ2_get_1 0 rfl rfl ?_
  refine v_geti (pc := 2) h dJ2_get_2 fJ2_48 rfl h_o ?_
  refine v_callsp (pc := 5) h dJ2_get_5 sJ2_118 (tJ3_checkIndex a1 (I o 2) I r ) (by decide) rfl rfl (Nat.le_of_ble_eq_true rfl) ⟨Nat.zero_le _, Nat.zero_le _⟩ (fun r1 => ?_)
  refine v_pop (pc := 8) h dJ2_get_8 rfl ?_
  refine v_aload_n (pc := 9) h dJ2_get_9 0 rfl rfl ?_
  refine v_iload_n (pc := 10) h dJ2_get_10 1 rfl rfl ?_
  refine v_callA (pc := 11) h dJ2_get_11 kJ2_123 rfl h_o (tJ2_elementData o a1 I r h_o) (by decide) rfl rfl (Nat.le_of_ble_eq_true rfl) ⟨Nat.zero_le _, Nat.zero_le _⟩ (fun b2 => ?_)
  exact v_aretA (pc := 14) h hr (Or.inl ⟨_, rfl⟩) dJ2_get_14
set_option maxHeartbeats 4000000 in
theorem tX0_held {g : Gl}  (a1 : Int32) (a2 : Int32) (a3 : Int32) (I : MI) (r : Rh)  : CtP g yX0_held cX0_held 3 (some .int) 1 [.int a1, .int a2, .int a3] I r (pX0_held a1 a2 a3 I r) := by
  refine CtP.mk (lv := [(0, .int a1), (1, .int a2), (2, .int a3)]) (by decide) (Nat.le_of_ble_eq_true rfl) rfl (fun x Q h hr => ?_)
  unfold pX0_held
  refine v_iload_n (pc := 0) h dX0_held_0 1 rfl rfl ?_
  refine v_iload_n (pc := 1) h dX0_held_1 2 rfl rfl ?_
  refine v_iload_n (pc := 2) h dX0_held_2 0 rfl rfl ?_
  refine v_mmin (pc := 3) h dX0_held_3 q1103 (by decide) (Nat.le_of_ble_eq_true rfl) ⟨Nat.zero_le _, Nat.zero_le _⟩ ?_
  refine v_mmax (pc := 6) h dX0_held_6 q1104 (by decide) (Nat.le_of_ble_eq_true rfl) ⟨Nat.zero_le _, Nat.zero_le _⟩ ?_
  exact v_iretP (pc := 9) h hr dX0_held_9
set_option maxHeartbeats 4000000 in
theorem tX5_looks {g : Gl}  (o : Nat) (a1 : Int32) (I : MI) (r : Rh) (h_o : rK r o = 5) : CtV g yX5_looks cX5_looks 2 2 [.ref o, .int a1] I r (pX5_looks o a1 I r) := by
  refine CtV.mk (lv := [(0, .ref o), (1, .int a1)]) (by decide) (Nat.le_of_ble_eq_true rfl) rfl (fun x Q h hr => ?_)
  unfold pX5_looks
  refine v_aload_n (pc := 0) h dX5_looks_0 0 rfl rfl ?_
  refine v_aload_n (pc := 1) h dX5_looks_1 0 rfl rfl ?_
  refine v_geti (pc := 2) h dX5_looks_2 fX5_7 rfl h_o ?_
  refine v_iload_n (pc := 5) h dX5_looks_5 1 rfl rfl ?_
  refine v_iadd (pc := 6) h dX5_looks_6 ?_
  refine v_bipush (pc := 7) h dX5_looks_7 (v := (-9)) rfl ?_
  refine v_bipush (pc := 9) h dX5_looks_9 (v := 9) rfl ?_
  refine v_callsp (pc := 11) h dX5_looks_11 sX5_26 (tX0_held ((I o 0) + a1) (-9 : Int32) (9 : Int32) I r ) (by decide) rfl rfl (Nat.le_of_ble_eq_true rfl) ⟨Nat.zero_le _, Nat.zero_le _⟩ (fun r1 => ?_)
  refine v_puti (pc := 14) h dX5_looks_14 fX5_7 rfl h_o ?_
  refine v_nmI (fun I2 => ?_)
  exact v_vret (pc := 17) h hr dX5_looks_17
set_option maxHeartbeats 4000000 in
theorem tX1_does {g : Gl}  (o : Nat) (a1 : Nat) (a2 : Int32) (I : MI) (r : Rh) (h_o : WkS o r) (h_a1 : rK r a1 = 3) : CtV g yX1_does cX1_does 4 3 [.ref o, .ref a1, .int a2] I r (pX1_does o a1 a2 I r) := by
  refine CtV.mk (lv := [(0, .ref o), (1, .ref a1), (2, .int a2)]) (by decide) (Nat.le_of_ble_eq_true rfl) rfl (fun x Q h hr => ?_)
  unfold pX1_does
  refine v_aload_n (pc := 0) h dX1_does_0 0 rfl rfl ?_
  refine v_getp (pc := 1) h dX1_does_1 fX1_11 rfl (WkS.c h_o) (WkS.dr h_o).1 ?_
  refine v_aload_n (pc := 4) h dX1_does_4 1 rfl rfl ?_
  refine v_geti (pc := 5) h dX1_does_5 fX1_141 rfl h_a1 ?_
  refine v_aaldk (pc := 8) h dX1_does_8 (t := 2) (WkS.dr h_o).2.1 rfl rfl (WkS.dr h_o).2.2 (fun hin => ((WkS.doors h_o) _ (vp_lt hin)).1) (fun h1 => ?_)
  refine v_astore_n (pc := 9) h dX1_does_9 rfl (by decide) (lv' := [(3, .ref (o + 247 + (I a1 1).toNatClampNeg)), (0, .ref o), (1, .ref a1), (2, .int a2)]) rfl ?_
  refine v_aload_n (pc := 10) h dX1_does_10 2 rfl rfl ?_
  refine v_geti (pc := 11) h dX1_does_11 fX1_145 rfl h_a1 ?_
  refine v_jn1 (fun I2 => V g x 4 (0, 0) 137 [(0, .ref o), (1, .ref a1)] [] I2 r) (fun k3 hk3 => ?_) (fun I2 => ?_)
  · refine v_ite (fun hc4 => ?_) (fun hc4 => ?_)
    · refine v_tswi (pc := 14) (t := 56) h dX1_does_14 (k := 0) hc4 (by decide) (by decide) rfl rfl ?_
      refine v_aload_n (pc := 56) h dX1_does_56 0 rfl rfl ?_
      refine v_iconst (pc := 57) h dX1_does_57 (v := (-1)) rfl ?_
      refine v_callV (pc := 58) h dX1_does_58 kX1_204 rfl ((WkS.doors h_o) _ (vp_lt h1)).2 (tX5_looks (o + 247 + (I a1 1).toNatClampNeg) (-1 : Int32) I r ((WkS.doors h_o) _ (vp_lt h1)).2) (by decide) rfl rfl (Nat.le_of_ble_eq_true rfl) ⟨Nat.zero_le _, Nat.zero_le _⟩ (fun I5 => ?_)
      refine v_goto (pc := 61) (t := 137) h dX1_does_61 rfl ?_
      refine v_sub [1, 2] rfl ?_
      exact hk3 I5
    · refine v_ite (fun hc6 => ?_) (fun hc6 => ?_)
      · refine v_tswi (pc := 14) (t := 64) h dX1_does_14 (k := 1) hc6 (by decide) (by decide) rfl rfl ?_
        refine v_aload_n (pc := 64) h dX1_does_64 0 rfl rfl ?_
        refine v_dup (pc := 65) h dX1_does_65 rfl ?_
        refine v_geti (pc := 66) h dX1_does_66 fX1_160 rfl ((WkS.doors h_o) _ (vp_lt h1)).2 ?_
        refine v_iload_n (pc := 69) h dX1_does_69 3 rfl rfl ?_
        refine v_isub (pc := 70) h dX1_does_70 ?_
        refine v_puti (pc := 71) h dX1_does_71 fX1_160 rfl ((WkS.doors h_o) _ (vp_lt h1)).2 ?_
        refine v_nmI (fun I7 => ?_)
        refine v_aload_n (pc := 74) h dX1_does_74 0 rfl rfl ?_
        refine v_iconst (pc := 75) h dX1_does_75 (v := (-1)) rfl ?_
        refine v_callV (pc := 76) h dX1_does_76 kX1_204 rfl ((WkS.doors h_o) _ (vp_lt h1)).2 (tX5_looks (o + 247 + (I a1 1).toNatClampNeg) (-1 : Int32) I7 r ((WkS.doors h_o) _ (vp_lt h1)).2) (by decide) rfl rfl (Nat.le_of_ble_eq_true rfl) ⟨Nat.zero_le _, Nat.zero_le _⟩ (fun I8 => ?_)
        refine v_goto (pc := 79) (t := 137) h dX1_does_79 rfl ?_
        refine v_sub [1, 2] rfl ?_
        exact hk3 I8
      · refine v_ite (fun hc9 => ?_) (fun hc9 => ?_)
        · refine v_tswi (pc := 14) (t := 82) h dX1_does_14 (k := 2) hc9 (by decide) (by decide) rfl rfl ?_
          refine v_aload_n (pc := 82) h dX1_does_82 0 rfl rfl ?_
          refine v_iconst (pc := 83) h dX1_does_83 (v := 1) rfl ?_
          refine v_callV (pc := 84) h dX1_does_84 kX1_204 rfl ((WkS.doors h_o) _ (vp_lt h1)).2 (tX5_looks (o + 247 + (I a1 1).toNatClampNeg) (1 : Int32) I r ((WkS.doors h_o) _ (vp_lt h1)).2) (by decide) rfl rfl (Nat.le_of_ble_eq_true rfl) ⟨Nat.zero_le _, Nat.zero_le _⟩ (fun I10 => ?_)
          refine v_goto (pc := 87) (t := 137) h dX1_does_87 rfl ?_
          refine v_sub [1, 2] rfl ?_
          exact hk3 I10
        · refine v_ite (fun hc11 => ?_) (fun hc11 => ?_)
          · refine v_tswi (pc := 14) (t := 90) h dX1_does_14 (k := 3) hc11 (by decide) (by decide) rfl rfl ?_
            refine v_aload_n (pc := 90) h dX1_does_90 0 rfl rfl ?_
            refine v_iconst (pc := 91) h dX1_does_91 (v := (-1)) rfl ?_
            refine v_callV (pc := 92) h dX1_does_92 kX1_204 rfl ((WkS.doors h_o) _ (vp_lt h1)).2 (tX5_looks (o + 247 + (I a1 1).toNatClampNeg) (-1 : Int32) I r ((WkS.doors h_o) _ (vp_lt h1)).2) (by decide) rfl rfl (Nat.le_of_ble_eq_true rfl) ⟨Nat.zero_le _, Nat.zero_le _⟩ (fun I12 => ?_)
            refine v_aload_n (pc := 95) h dX1_does_95 1 rfl rfl ?_
            refine v_iconst (pc := 96) h dX1_does_96 (v := 0) rfl ?_
            refine v_aload_n (pc := 97) h dX1_does_97 1 rfl rfl ?_
            refine v_geti (pc := 98) h dX1_does_98 fX1_73 rfl (WkS.c h_o) ?_
            refine v_iload_n (pc := 101) h dX1_does_101 3 rfl rfl ?_
            refine v_isub (pc := 102) h dX1_does_102 ?_
            refine v_mmax (pc := 103) h dX1_does_103 q1125 (by decide) (Nat.le_of_ble_eq_true rfl) ⟨Nat.zero_le _, Nat.zero_le _⟩ ?_
            refine v_puti (pc := 106) h dX1_does_106 fX1_73 rfl (WkS.c h_o) ?_
            refine v_nmI (fun I13 => ?_)
            refine v_goto (pc := 109) (t := 137) h dX1_does_109 rfl ?_
            refine v_sub [1, 2] rfl ?_
            exact hk3 I13
          · refine v_ite (fun hc14 => ?_) (fun hc14 => ?_)
            · refine v_tswi (pc := 14) (t := 112) h dX1_does_14 (k := 4) hc14 (by decide) (by decide) rfl rfl ?_
              refine v_aload_n (pc := 112) h dX1_does_112 1 rfl rfl ?_
              refine v_iconst (pc := 113) h dX1_does_113 (v := 0) rfl ?_
              refine v_aload_n (pc := 114) h dX1_does_114 1 rfl rfl ?_
              refine v_geti (pc := 115) h dX1_does_115 fX1_85 rfl (WkS.c h_o) ?_
              refine v_iload_n (pc := 118) h dX1_does_118 3 rfl rfl ?_
              refine v_isub (pc := 119) h dX1_does_119 ?_
              refine v_mmax (pc := 120) h dX1_does_120 q1125 (by decide) (Nat.le_of_ble_eq_true rfl) ⟨Nat.zero_le _, Nat.zero_le _⟩ ?_
              refine v_puti (pc := 123) h dX1_does_123 fX1_85 rfl (WkS.c h_o) ?_
              refine v_nmI (fun I15 => ?_)
              refine v_goto (pc := 126) (t := 137) h dX1_does_126 rfl ?_
              refine v_sub [1, 2] rfl ?_
              exact hk3 I15
            · refine v_ite (fun hc16 => ?_) (fun hc16 => ?_)
              · refine v_tswi (pc := 14) (t := 129) h dX1_does_14 (k := 6) hc16 (by decide) (by decide) rfl rfl ?_
                refine v_aload_n (pc := 129) h dX1_does_129 0 rfl rfl ?_
                refine v_iconst (pc := 130) h dX1_does_130 (v := 2) rfl ?_
                refine v_callV (pc := 131) h dX1_does_131 kX1_204 rfl ((WkS.doors h_o) _ (vp_lt h1)).2 (tX5_looks (o + 247 + (I a1 1).toNatClampNeg) (2 : Int32) I r ((WkS.doors h_o) _ (vp_lt h1)).2) (by decide) rfl rfl (Nat.le_of_ble_eq_true rfl) ⟨Nat.zero_le _, Nat.zero_le _⟩ (fun I17 => ?_)
                refine v_goto (pc := 134) (t := 137) h dX1_does_134 rfl ?_
                refine v_sub [1, 2] rfl ?_
                exact hk3 I17
              · by_cases hc18 : (I a1 2) = (5 : Int32)
                · refine v_tswi (pc := 14) (t := 137) h dX1_does_14 (k := 5) hc18 (by decide) (by decide) rfl rfl ?_
                  refine v_sub [1, 2] rfl ?_
                  exact hk3 I
                · refine v_tswd (pc := 14) (t := 137) h dX1_does_14 (by have e0 := lv_neT hc4 (show (0 : Int32).toInt = 0 from rfl); have e1 := lv_neT hc6 (show (1 : Int32).toInt = 1 from rfl); have e2 := lv_neT hc9 (show (2 : Int32).toInt = 2 from rfl); have e3 := lv_neT hc11 (show (3 : Int32).toInt = 3 from rfl); have e4 := lv_neT hc14 (show (4 : Int32).toInt = 4 from rfl); have e5 := lv_neT hc16 (show (6 : Int32).toInt = 6 from rfl); have f0 := lv_neT hc18 (show (5 : Int32).toInt = 5 from rfl); omega) rfl ?_
                  refine v_sub [1, 2] rfl ?_
                  exact hk3 I
  · refine v_aload_n (pc := 137) h dX1_does_137 1 rfl rfl ?_
    refine v_geti (pc := 138) h dX1_does_138 fX1_145 rfl h_a1 ?_
    refine v_if_ne (pc := 141) (t := 153) h dX1_does_141 rfl (fun _ => ?_) (fun _ => ?_)
    · exact v_vret (pc := 153) h hr dX1_does_153
    · refine v_aload_n (pc := 144) h dX1_does_144 1 rfl rfl ?_
      refine v_geti (pc := 145) h dX1_does_145 fX1_148 rfl h_a1 ?_
      refine v_bipush (pc := 148) h dX1_does_148 (v := 50) rfl ?_
      refine v_icmp_ge (pc := 150) (t := 154) h dX1_does_150 rfl (fun _ => ?_) (fun _ => ?_)
      · refine v_aload_n (pc := 154) h dX1_does_154 0 rfl rfl ?_
        refine v_dup (pc := 155) h dX1_does_155 rfl ?_
        refine v_geti (pc := 156) h dX1_does_156 fX1_88 rfl (WkS.c h_o) ?_
        refine v_iconst (pc := 159) h dX1_does_159 (v := 1) rfl ?_
        refine v_iadd (pc := 160) h dX1_does_160 ?_
        refine v_puti (pc := 161) h dX1_does_161 fX1_88 rfl (WkS.c h_o) ?_
        refine v_nmI (fun I19 => ?_)
        refine v_aload_n (pc := 164) h dX1_does_164 0 rfl rfl ?_
        refine v_bipush (pc := 165) h dX1_does_165 (v := 99) rfl ?_
        refine v_aload_n (pc := 167) h dX1_does_167 0 rfl rfl ?_
        refine v_geti (pc := 168) h dX1_does_168 fX1_73 rfl (WkS.c h_o) ?_
        refine v_iconst (pc := 171) h dX1_does_171 (v := 5) rfl ?_
        refine v_iadd (pc := 172) h dX1_does_172 ?_
        refine v_mmin (pc := 173) h dX1_does_173 q1115 (by decide) (Nat.le_of_ble_eq_true rfl) ⟨Nat.zero_le _, Nat.zero_le _⟩ ?_
        refine v_puti (pc := 176) h dX1_does_176 fX1_73 rfl (WkS.c h_o) ?_
        refine v_nmI (fun I20 => ?_)
        exact v_vret (pc := 179) h hr dX1_does_179
      · exact v_vret (pc := 153) h hr dX1_does_153
set_option maxHeartbeats 4000000 in
theorem tX2_goes {g : Gl}  (o : Nat) (a1 : Int32) (I : MI) (r : Rh) (h_o : BgS o r) : CtW g yX2_goes cX2_goes 4 1 0 0 [.ref o, .int a1] I r (pX2_goes o a1 I r) := by
  refine CtW.mk (lv := [(0, .ref o), (1, .int a1)]) (by decide) (Nat.le_of_ble_eq_true rfl) rfl (fun x Q h hr hnm => ?_)
  unfold pX2_goes
  refine v_aload_n (pc := 0) h dX2_goes_0 0 rfl rfl ?_
  refine v_getp (pc := 1) h dX2_goes_1 fX2_11 rfl h_o.1 h_o.2.1 ?_
  refine v_iload_n (pc := 4) h dX2_goes_4 1 rfl rfl ?_
  refine v_aaldx (pc := 5) h dX2_goes_5 (t := 3) h_o.2.2.1 rfl rfl h_o.2.2.2.1 (fun b1 h2 h3 => ?_)
  refine v_astore_n (pc := 6) h dX2_goes_6 rfl (by decide) (lv' := [(2, .ref b1), (0, .ref o), (1, .int a1)]) rfl ?_
  refine v_iload_n (pc := 7) h dX2_goes_7 2 rfl rfl ?_
  refine v_iconst (pc := 8) h dX2_goes_8 (v := 1) rfl ?_
  refine v_iadd (pc := 9) h dX2_goes_9 ?_
  refine v_nmi (fun v4 => ?_)
  refine v_istore_n (pc := 10) h dX2_goes_10 rfl (by decide) (lv' := [(3, .int v4), (2, .ref b1), (0, .ref o), (1, .int a1)]) rfl ?_
  refine v_sub [2, 1, 0] rfl ?_
  refine L2.run (lv := fun i3_5 r6 => [(0, .ref o), (2, .ref b1), (3, .int i3_5)]) (st := fun i3_5 r6 => []) (Im := fun i3_5 r6 => I) (r := fun i3_5 r6 => r6) (fun X7 hX7 i3_5 r6 => ?_) v4 r
  refine v_and (fun h8 => ?_)
  refine v_and (fun h9 => ?_)
  refine v_iload_n (pc := 11) h dX2_goes_11 2 rfl rfl ?_
  refine v_aload_n (pc := 12) h dX2_goes_12 0 rfl rfl ?_
  refine v_geti (pc := 13) h dX2_goes_13 fX2_18 rfl h8.1 ?_
  refine v_icmp_ge (pc := 16) (t := 39) h dX2_goes_16 rfl (fun _ => ?_) (fun _ => ?_)
  · refine v_aload_n (pc := 39) h dX2_goes_39 0 rfl rfl ?_
    refine v_getp (pc := 40) h dX2_goes_40 fX2_11 rfl h8.1 h8.2.1 ?_
    refine v_aload_n (pc := 43) h dX2_goes_43 0 rfl rfl ?_
    refine v_geti (pc := 44) h dX2_goes_44 fX2_18 rfl h8.1 ?_
    refine v_iconst (pc := 47) h dX2_goes_47 (v := 1) rfl ?_
    refine v_isub (pc := 48) h dX2_goes_48 ?_
    refine v_aload_n (pc := 49) h dX2_goes_49 1 rfl rfl ?_
    refine v_aast (pc := 50) h dX2_goes_50 (t := 3) h8.2.2.1 rfl (c := 3) rfl h9 h8.2.2.2.1 ?_
    refine v_nmr (fun r10 => ?_)
    refine v_and (fun h11 => ?_)
    refine v_and (fun h12 => ?_)
    refine v_aload_n (pc := 51) h dX2_goes_51 0 rfl rfl ?_
    refine v_dup (pc := 52) h dX2_goes_52 rfl ?_
    refine v_geti (pc := 53) h dX2_goes_53 fX2_18 rfl h11.1 ?_
    refine v_iconst (pc := 56) h dX2_goes_56 (v := 1) rfl ?_
    refine v_isub (pc := 57) h dX2_goes_57 ?_
    refine v_puti (pc := 58) h dX2_goes_58 fX2_18 rfl h11.1 ?_
    refine v_nmI (fun I13 => ?_)
    exact v_vretW (pc := 61) h hr ⟨Nat.zero_le _, Nat.zero_le _⟩ dX2_goes_61
  · refine v_aload_n (pc := 19) h dX2_goes_19 0 rfl rfl ?_
    refine v_getp (pc := 20) h dX2_goes_20 fX2_11 rfl h8.1 h8.2.1 ?_
    refine v_iload_n (pc := 23) h dX2_goes_23 2 rfl rfl ?_
    refine v_iconst (pc := 24) h dX2_goes_24 (v := 1) rfl ?_
    refine v_isub (pc := 25) h dX2_goes_25 ?_
    refine v_aload_n (pc := 26) h dX2_goes_26 0 rfl rfl ?_
    refine v_getp (pc := 27) h dX2_goes_27 fX2_11 rfl h8.1 h8.2.1 ?_
    refine v_iload_n (pc := 30) h dX2_goes_30 2 rfl rfl ?_
    refine v_aaldx (pc := 31) h dX2_goes_31 (t := 3) h8.2.2.1 rfl rfl h8.2.2.2.1 (fun b14 h15 h16 => ?_)
    refine v_aast (pc := 32) h dX2_goes_32 (t := 3) h8.2.2.1 rfl (c := 3) rfl (BgS.lt h8 h15 h16) h8.2.2.2.1 ?_
    refine v_nmr (fun r17 => ?_)
    refine v_and (fun h18 => ?_)
    refine v_and (fun h19 => ?_)
    refine v_iinc (pc := 33) h dX2_goes_33 2 rfl (w := (i3_5 + (1 : Int32))) rfl (by decide) (lv' := [(3, .int (i3_5 + (1 : Int32))), (0, .ref o), (2, .ref b1)]) rfl ?_
    refine v_goto (pc := 36) (t := 11) h dX2_goes_36 rfl ?_
    refine v_sub [1, 2, 0] rfl ?_
    exact hX7 (i3_5 + (1 : Int32)) r17
set_option maxHeartbeats 4000000 in
theorem tX1_draw {g : Gl}  (o : Nat) (a1 : Int32) (I : MI) (r : Rh) (h_o : WkS o r) : CtI g yX1_draw cX1_draw 2 (some .int) 1 [.ref o, .int a1] I r (pX1_draw o a1 I r) := by
  refine CtI.mk (lv := [(0, .ref o), (1, .int a1)]) (by decide) (Nat.le_of_ble_eq_true rfl) rfl (fun x Q h hr => ?_)
  unfold pX1_draw
  refine v_aload_n (pc := 0) h dX1_draw_0 0 rfl rfl ?_
  refine v_ldc (pc := 1) h dX1_draw_1 (v := (1664525)) q1109 ?_
  refine v_aload_n (pc := 3) h dX1_draw_3 0 rfl rfl ?_
  refine v_geti (pc := 4) h dX1_draw_4 fX1_106 rfl (WkS.c h_o) ?_
  refine v_imul (pc := 7) h dX1_draw_7 ?_
  refine v_ldc (pc := 8) h dX1_draw_8 (v := (1013904223)) q1110 ?_
  refine v_iadd (pc := 10) h dX1_draw_10 ?_
  refine v_puti (pc := 11) h dX1_draw_11 fX1_106 rfl (WkS.c h_o) ?_
  refine v_nmI (fun I1 => ?_)
  refine v_aload_n (pc := 14) h dX1_draw_14 0 rfl rfl ?_
  refine v_geti (pc := 15) h dX1_draw_15 fX1_106 rfl (WkS.c h_o) ?_
  refine v_bipush (pc := 18) h dX1_draw_18 (v := 8) rfl ?_
  refine v_iushr (pc := 20) h dX1_draw_20 ?_
  refine v_iload_n (pc := 21) h dX1_draw_21 1 rfl rfl ?_
  refine v_irem (pc := 22) h dX1_draw_22 ?_
  exact v_iret (pc := 23) h hr dX1_draw_23
set_option maxHeartbeats 4000000 in
theorem tX0_rain {g : Gl}  (o : Nat) (a1 : Int32) (I : MI) (r : Rh) (h_o : KpS o r) : CtR g yX0_rain cX0_rain 2 (some .boolean) 6 0 0 [.ref o, .int a1] I r (pX0_rain o a1 I r) := by
  refine CtR.mk (lv := [(0, .ref o), (1, .int a1)]) (by decide) (Nat.le_of_ble_eq_true rfl) rfl (fun x Q h hr => ?_)
  unfold pX0_rain
  refine v_iload_n (pc := 0) h dX0_rain_0 1 rfl rfl ?_
  refine v_iconst (pc := 1) h dX0_rain_1 (v := 0) rfl ?_
  refine v_bipush (pc := 2) h dX0_rain_2 (v := 9) rfl ?_
  refine v_callsp (pc := 4) h dX0_rain_4 sX0_78 (tX0_isIn a1 (0 : Int32) (9 : Int32) I r ) (by decide) rfl rfl (Nat.le_of_ble_eq_true rfl) ⟨Nat.zero_le _, Nat.zero_le _⟩ (fun r1 => ?_)
  refine v_if_ne (pc := 7) (t := 12) h dX0_rain_7 rfl (fun _ => ?_) (fun _ => ?_)
  · refine v_aload_n (pc := 12) h dX0_rain_12 0 rfl rfl ?_
    refine v_callW (pc := 13) h dX0_rain_13 kX0_204 rfl (KpS.c h_o) (tX0_remembers o I r h_o) (by decide) rfl rfl (Nat.le_of_ble_eq_true rfl) ⟨Nat.zero_le _, Nat.zero_le _⟩ (fun I2 s3 => ?_)
    refine v_and (fun h4 => ?_)
    refine v_aload_n (pc := 16) h dX0_rain_16 0 rfl rfl ?_
    refine v_getp (pc := 17) h dX0_rain_17 fX0_20 rfl (KpS.c h4) (KpS.walk h4).1 ?_
    refine v_iload_n (pc := 20) h dX0_rain_20 1 rfl rfl ?_
    refine v_puti (pc := 21) h dX0_rain_21 fX0_218 rfl (WkS.c (KpS.walk h4).2) ?_
    refine v_nmI (fun I5 => ?_)
    refine v_iconst (pc := 24) h dX0_rain_24 (v := 1) rfl ?_
    exact v_zretR (pc := 25) h hr (Or.inr rfl) ⟨Nat.zero_le _, Nat.zero_le _⟩ dX0_rain_25
  · refine v_iconst (pc := 10) h dX0_rain_10 (v := 0) rfl ?_
    exact v_zretR (pc := 11) h hr (Or.inl rfl) ⟨Nat.zero_le _, Nat.zero_le _⟩ dX0_rain_11
set_option maxHeartbeats 4000000 in
theorem tX1_isPosted {g : Gl}  (o : Nat) (I : MI) (r : Rh) (h_o : WkS o r) : CtV g yX1_isPosted cX1_isPosted 3 4 [.ref o] I r (pX1_isPosted o I r) := by
  refine CtV.mk (lv := [(0, .ref o)]) (by decide) (Nat.le_of_ble_eq_true rfl) rfl (fun x Q h hr => ?_)
  unfold pX1_isPosted
  refine v_iconst (pc := 0) h dX1_isPosted_0 (v := 0) rfl ?_
  refine v_istore_n (pc := 1) h dX1_isPosted_1 rfl (by decide) (lv' := [(1, .int (0 : Int32)), (0, .ref o)]) rfl ?_
  refine v_sub [1, 0] rfl ?_
  refine L2.run (lv := fun i1_1 I2 => [(0, .ref o), (1, .int i1_1)]) (st := fun i1_1 I2 => []) (Im := fun i1_1 I2 => I2) (r := fun i1_1 I2 => r) (fun X3 hX3 i1_1 I2 => ?_) (0 : Int32) I
  refine v_iload_n (pc := 2) h dX1_isPosted_2 1 rfl rfl ?_
  refine v_aload_n (pc := 3) h dX1_isPosted_3 0 rfl rfl ?_
  refine v_getx (pc := 4) h dX1_isPosted_4 fX1_64 rfl (WkS.c h_o) (fun b4 h5 => ?_)
  refine v_and (fun h6 => ?_)
  refine v_callP (pc := 7) h dX1_isPosted_7 kX1_163 rfl h6 (tJ2_size b4 I2 r h6) (by decide) rfl rfl (Nat.le_of_ble_eq_true rfl) ⟨Nat.zero_le _, Nat.zero_le _⟩ (fun r7 => ?_)
  refine v_icmp_ge (pc := 10) (t := 84) h dX1_isPosted_10 rfl (fun _ => ?_) (fun _ => ?_)
  · exact v_vret (pc := 84) h hr dX1_isPosted_84
  · refine v_aload_n (pc := 13) h dX1_isPosted_13 0 rfl rfl ?_
    refine v_getx (pc := 14) h dX1_isPosted_14 fX1_64 rfl (WkS.c h_o) (fun b8 h9 => ?_)
    refine v_and (fun h10 => ?_)
    refine v_iload_n (pc := 17) h dX1_isPosted_17 1 rfl rfl ?_
    refine v_callA (pc := 18) h dX1_isPosted_18 kX1_167 rfl h10 (tJ2_get b8 i1_1 I2 r h10) (by decide) rfl rfl (Nat.le_of_ble_eq_true rfl) ⟨Nat.zero_le _, Nat.zero_le _⟩ (fun b11 => ?_)
    refine v_and (fun h12 => ?_)
    refine v_cast (pc := 21) h dX1_isPosted_21 q1150 (c := 15) rfl h12 ?_
    refine v_astore_n (pc := 24) h dX1_isPosted_24 rfl (by decide) (lv' := [(2, .ref b11), (0, .ref o), (1, .int i1_1)]) rfl ?_
    refine v_aload_n (pc := 25) h dX1_isPosted_25 0 rfl rfl ?_
    refine v_geti (pc := 26) h dX1_isPosted_26 fX1_249 rfl h12 ?_
    refine v_aload_n (pc := 29) h dX1_isPosted_29 1 rfl rfl ?_
    refine v_geti (pc := 30) h dX1_isPosted_30 fX1_100 rfl (WkS.c h_o) ?_
    refine v_jn1 (fun I13 => V g x 3 (0, 0) 78 [(0, .ref o), (1, .int i1_1)] [] I13 r) (fun k14 hk14 => ?_) (fun I13 => ?_)
    · refine v_icmp_ne (pc := 33) (t := 78) h dX1_isPosted_33 rfl (fun _ => ?_) (fun _ => ?_)
      · refine v_sub [1, 2] rfl ?_
        exact hk14 I2
      · refine v_aload_n (pc := 36) h dX1_isPosted_36 1 rfl rfl ?_
        refine v_aload_n (pc := 37) h dX1_isPosted_37 0 rfl rfl ?_
        refine v_geti (pc := 38) h dX1_isPosted_38 fX1_250 rfl h12 ?_
        refine v_aload_n (pc := 41) h dX1_isPosted_41 0 rfl rfl ?_
        refine v_geti (pc := 42) h dX1_isPosted_42 fX1_251 rfl h12 ?_
        refine v_aload_n (pc := 45) h dX1_isPosted_45 0 rfl rfl ?_
        refine v_geti (pc := 46) h dX1_isPosted_46 fX1_252 rfl h12 ?_
        refine v_callI (pc := 49) h dX1_isPosted_49 kX1_253 rfl (WkS.c h_o) (tX1_posts o (I2 b11 1) (I2 b11 2) (I2 b11 3) I2 r h_o) (by decide) rfl rfl (Nat.le_of_ble_eq_true rfl) ⟨Nat.zero_le _, Nat.zero_le _⟩ (fun r15 I16 => ?_)
        refine v_if_eq (pc := 52) (t := 58) h dX1_isPosted_52 rfl (fun _ => ?_) (fun _ => ?_)
        · refine v_aload_n (pc := 58) h dX1_isPosted_58 1 rfl rfl ?_
          refine v_dup (pc := 59) h dX1_isPosted_59 rfl ?_
          refine v_geti (pc := 60) h dX1_isPosted_60 fX1_91 rfl (WkS.c h_o) ?_
          refine v_iconst (pc := 63) h dX1_isPosted_63 (v := 1) rfl ?_
          refine v_iadd (pc := 64) h dX1_isPosted_64 ?_
          refine v_puti (pc := 65) h dX1_isPosted_65 fX1_91 rfl (WkS.c h_o) ?_
          refine v_nmI (fun I17 => ?_)
          refine v_aload_n (pc := 68) h dX1_isPosted_68 1 rfl rfl ?_
          refine v_iconst (pc := 69) h dX1_isPosted_69 (v := 3) rfl ?_
          refine v_iconst (pc := 70) h dX1_isPosted_70 (v := (-1)) rfl ?_
          refine v_aload_n (pc := 71) h dX1_isPosted_71 0 rfl rfl ?_
          refine v_geti (pc := 72) h dX1_isPosted_72 fX1_250 rfl h12 ?_
          refine v_callV (pc := 75) h dX1_isPosted_75 kX1_200 rfl (WkS.c h_o) (tX1_notes o (3 : Int32) (-1 : Int32) (I17 b11 1) I17 r h_o) (by decide) rfl rfl (Nat.le_of_ble_eq_true rfl) ⟨Nat.zero_le _, Nat.zero_le _⟩ (fun I18 => ?_)
          refine v_sub [1, 2] rfl ?_
          exact hk14 I18
        · refine v_goto (pc := 55) (t := 78) h dX1_isPosted_55 rfl ?_
          refine v_sub [1, 2] rfl ?_
          exact hk14 I16
    · refine v_iinc (pc := 78) h dX1_isPosted_78 1 rfl (w := (i1_1 + (1 : Int32))) rfl (by decide) (lv' := [(1, .int (i1_1 + (1 : Int32))), (0, .ref o)]) rfl ?_
      refine v_goto (pc := 81) (t := 2) h dX1_isPosted_81 rfl ?_
      refine v_sub [1, 0] rfl ?_
      exact hX3 (i1_1 + (1 : Int32)) I13
set_option maxHeartbeats 4000000 in
theorem tX1_ages {g : Gl}  (o : Nat) (I : MI) (r : Rh) (h_o : WkS o r) : CtW g yX1_ages cX1_ages 2 2 0 0 [.ref o] I r (pX1_ages o I r) := by
  refine CtW.mk (lv := [(0, .ref o)]) (by decide) (Nat.le_of_ble_eq_true rfl) rfl (fun x Q h hr hnm => ?_)
  unfold pX1_ages
  refine v_aload_n (pc := 0) h dX1_ages_0 0 rfl rfl ?_
  refine v_getp (pc := 1) h dX1_ages_1 fX1_20 rfl (WkS.c h_o) (WkS.bag h_o).1 ?_
  refine v_geti (pc := 4) h dX1_ages_4 fX1_257 rfl (WkS.bag h_o).2.1 ?_
  refine v_iconst (pc := 7) h dX1_ages_7 (v := 1) rfl ?_
  refine v_isub (pc := 8) h dX1_ages_8 ?_
  refine v_nmi (fun v1 => ?_)
  refine v_istore_n (pc := 9) h dX1_ages_9 rfl (by decide) (lv' := [(1, .int v1), (0, .ref o)]) rfl ?_
  refine v_sub [1, 0] rfl ?_
  refine L2.run (lv := fun i1_2 I3 => [(0, .ref o), (1, .int i1_2)]) (st := fun i1_2 I3 => []) (Im := fun i1_2 I3 => I3) (r := fun i1_2 I3 => r) (fun X4 hX4 i1_2 I3 => ?_) v1 I
  refine v_iload_n (pc := 10) h dX1_ages_10 1 rfl rfl ?_
  refine v_if_lt (pc := 11) (t := 38) h dX1_ages_11 rfl (fun _ => ?_) (fun _ => ?_)
  · refine v_iconst (pc := 38) h dX1_ages_38 (v := 0) rfl ?_
    refine v_istore_n (pc := 39) h dX1_ages_39 rfl (by decide) (lv' := [(1, .int (0 : Int32)), (0, .ref o)]) rfl ?_
    refine v_sub [1, 0] rfl ?_
    refine L3.run (lv := fun i1_5 I6 r7 => [(0, .ref o), (1, .int i1_5)]) (st := fun i1_5 I6 r7 => []) (Im := fun i1_5 I6 r7 => I6) (r := fun i1_5 I6 r7 => r7) (fun X8 hX8 i1_5 I6 r7 => ?_) (0 : Int32) I3 r
    refine v_and (fun h9 => ?_)
    refine v_iload_n (pc := 40) h dX1_ages_40 1 rfl rfl ?_
    refine v_aload_n (pc := 41) h dX1_ages_41 0 rfl rfl ?_
    refine v_getp (pc := 42) h dX1_ages_42 fX1_20 rfl (WkS.c h9) (WkS.bag h9).1 ?_
    refine v_geti (pc := 45) h dX1_ages_45 fX1_257 rfl (WkS.bag h9).2.1 ?_
    refine v_icmp_ge (pc := 48) (t := 124) h dX1_ages_48 rfl (fun _ => ?_) (fun _ => ?_)
    · exact v_vretW (pc := 124) h hr ⟨Nat.zero_le _, Nat.zero_le _⟩ dX1_ages_124
    · refine v_aload_n (pc := 51) h dX1_ages_51 0 rfl rfl ?_
      refine v_getp (pc := 52) h dX1_ages_52 fX1_20 rfl (WkS.c h9) (WkS.bag h9).1 ?_
      refine v_getp (pc := 55) h dX1_ages_55 fX1_216 rfl (WkS.bag h9).2.1 (WkS.bag h9).2.2.1 ?_
      refine v_iload_n (pc := 58) h dX1_ages_58 1 rfl rfl ?_
      refine v_aaldx (pc := 59) h dX1_ages_59 (t := 3) (WkS.bag h9).2.2.2.1 rfl rfl (WkS.bag h9).2.2.2.2.1 (fun b10 h11 h12 => ?_)
      refine v_geti (pc := 60) h dX1_ages_60 fX1_151 rfl (BgS.lt (WkS.bag h9).2 h11 h12) ?_
      refine v_bipush (pc := 63) h dX1_ages_63 (v := 9) rfl ?_
      refine v_icmp_ge (pc := 65) (t := 74) h dX1_ages_65 rfl (fun _ => ?_) (fun _ => ?_)
      · refine v_aload_n (pc := 74) h dX1_ages_74 0 rfl rfl ?_
        refine v_iconst (pc := 75) h dX1_ages_75 (v := 3) rfl ?_
        refine v_aload_n (pc := 76) h dX1_ages_76 0 rfl rfl ?_
        refine v_getp (pc := 77) h dX1_ages_77 fX1_20 rfl (WkS.c h9) (WkS.bag h9).1 ?_
        refine v_getp (pc := 80) h dX1_ages_80 fX1_216 rfl (WkS.bag h9).2.1 (WkS.bag h9).2.2.1 ?_
        refine v_iload_n (pc := 83) h dX1_ages_83 1 rfl rfl ?_
        refine v_aaldx (pc := 84) h dX1_ages_84 (t := 3) (WkS.bag h9).2.2.2.1 rfl rfl (WkS.bag h9).2.2.2.2.1 (fun b13 h14 h15 => ?_)
        refine v_geti (pc := 85) h dX1_ages_85 fX1_238 rfl (BgS.lt (WkS.bag h9).2 h14 h15) ?_
        refine v_aload_n (pc := 88) h dX1_ages_88 0 rfl rfl ?_
        refine v_getp (pc := 89) h dX1_ages_89 fX1_20 rfl (WkS.c h9) (WkS.bag h9).1 ?_
        refine v_getp (pc := 92) h dX1_ages_92 fX1_216 rfl (WkS.bag h9).2.1 (WkS.bag h9).2.2.1 ?_
        refine v_iload_n (pc := 95) h dX1_ages_95 1 rfl rfl ?_
        refine v_aaldx (pc := 96) h dX1_ages_96 (t := 3) (WkS.bag h9).2.2.2.1 rfl rfl (WkS.bag h9).2.2.2.2.1 (fun b16 h17 h18 => ?_)
        refine v_geti (pc := 97) h dX1_ages_97 fX1_141 rfl (BgS.lt (WkS.bag h9).2 h17 h18) ?_
        refine v_callV (pc := 100) h dX1_ages_100 kX1_200 rfl (WkS.c h9) (tX1_notes o (3 : Int32) (I6 b13 0) (I6 b16 1) I6 r7 h9) (by decide) rfl rfl (Nat.le_of_ble_eq_true rfl) ⟨Nat.zero_le _, Nat.zero_le _⟩ (fun I19 => ?_)
        refine v_aload_n (pc := 103) h dX1_ages_103 0 rfl rfl ?_
        refine v_getp (pc := 104) h dX1_ages_104 fX1_20 rfl (WkS.c h9) (WkS.bag h9).1 ?_
        refine v_iload_n (pc := 107) h dX1_ages_107 1 rfl rfl ?_
        refine v_callW (pc := 108) h dX1_ages_108 kX1_244 rfl (WkS.bag h9).2.1 (tX2_goes (o + 2) i1_5 I19 r7 (WkS.bag h9).2) (by decide) rfl rfl (Nat.le_of_ble_eq_true rfl) ⟨Nat.zero_le _, Nat.zero_le _⟩ (fun I20 s21 => ?_)
        refine v_and (fun h22 => ?_)
        refine v_aload_n (pc := 111) h dX1_ages_111 0 rfl rfl ?_
        refine v_dup (pc := 112) h dX1_ages_112 rfl ?_
        refine v_geti (pc := 113) h dX1_ages_113 fX1_91 rfl (WkS.c h22) ?_
        refine v_iconst (pc := 116) h dX1_ages_116 (v := 1) rfl ?_
        refine v_iadd (pc := 117) h dX1_ages_117 ?_
        refine v_puti (pc := 118) h dX1_ages_118 fX1_91 rfl (WkS.c h22) ?_
        refine v_nmI (fun I23 => ?_)
        refine v_goto (pc := 121) (t := 40) h dX1_ages_121 rfl ?_
        exact hX8 i1_5 I23 s21
      · refine v_iinc (pc := 68) h dX1_ages_68 1 rfl (w := (i1_5 + (1 : Int32))) rfl (by decide) (lv' := [(1, .int (i1_5 + (1 : Int32))), (0, .ref o)]) rfl ?_
        refine v_goto (pc := 71) (t := 40) h dX1_ages_71 rfl ?_
        refine v_sub [1, 0] rfl ?_
        exact hX8 (i1_5 + (1 : Int32)) I6 r7
  · refine v_aload_n (pc := 14) h dX1_ages_14 0 rfl rfl ?_
    refine v_getp (pc := 15) h dX1_ages_15 fX1_20 rfl (WkS.c h_o) (WkS.bag h_o).1 ?_
    refine v_getp (pc := 18) h dX1_ages_18 fX1_216 rfl (WkS.bag h_o).2.1 (WkS.bag h_o).2.2.1 ?_
    refine v_iload_n (pc := 21) h dX1_ages_21 1 rfl rfl ?_
    refine v_aaldx (pc := 22) h dX1_ages_22 (t := 3) (WkS.bag h_o).2.2.2.1 rfl rfl (WkS.bag h_o).2.2.2.2.1 (fun b24 h25 h26 => ?_)
    refine v_dup (pc := 23) h dX1_ages_23 rfl ?_
    refine v_geti (pc := 24) h dX1_ages_24 fX1_151 rfl (BgS.lt (WkS.bag h_o).2 h25 h26) ?_
    refine v_iconst (pc := 27) h dX1_ages_27 (v := 1) rfl ?_
    refine v_iadd (pc := 28) h dX1_ages_28 ?_
    refine v_puti (pc := 29) h dX1_ages_29 fX1_151 rfl (BgS.lt (WkS.bag h_o).2 h25 h26) ?_
    refine v_nmI (fun I27 => ?_)
    refine v_iinc (pc := 32) h dX1_ages_32 1 rfl (w := (i1_2 + (-1 : Int32))) rfl (by decide) (lv' := [(1, .int (i1_2 + (-1 : Int32))), (0, .ref o)]) rfl ?_
    refine v_goto (pc := 35) (t := 10) h dX1_ages_35 rfl ?_
    refine v_sub [1, 0] rfl ?_
    exact hX4 (i1_2 + (-1 : Int32)) I27
set_option maxHeartbeats 4000000 in
theorem tJ6_signum {g : Gl}  (a1 : Int32) (I : MI) (r : Rh)  : CtP g yJ6_signum cJ6_signum 1 (some .int) 1 [.int a1] I r (pJ6_signum a1 I r) := by
  refine CtP.mk (lv := [(0, .int a1)]) (by decide) (Nat.le_of_ble_eq_true rfl) rfl (fun x Q h hr => ?_)
  unfold pJ6_signum
  refine v_iload_n (pc := 0) h dJ6_signum_0 0 rfl rfl ?_
  refine v_bipush (pc := 1) h dJ6_signum_1 (v := 31) rfl ?_
  refine v_ishr (pc := 3) h dJ6_signum_3 ?_
  refine v_iload_n (pc := 4) h dJ6_signum_4 0 rfl rfl ?_
  refine v_ineg (pc := 5) h dJ6_signum_5 ?_
  refine v_bipush (pc := 6) h dJ6_signum_6 (v := 31) rfl ?_
  refine v_iushr (pc := 8) h dJ6_signum_8 ?_
  refine v_ior (pc := 9) h dJ6_signum_9 ?_
  exact v_iretP (pc := 10) h hr dJ6_signum_10
set_option maxHeartbeats 4000000 in
theorem tX5_calms {g : Gl}  (o : Nat) (I : MI) (r : Rh) (h_o : rK r o = 5) : CtV g yX5_calms cX5_calms 1 2 [.ref o] I r (pX5_calms o I r) := by
  refine CtV.mk (lv := [(0, .ref o)]) (by decide) (Nat.le_of_ble_eq_true rfl) rfl (fun x Q h hr => ?_)
  unfold pX5_calms
  refine v_aload_n (pc := 0) h dX5_calms_0 0 rfl rfl ?_
  refine v_dup (pc := 1) h dX5_calms_1 rfl ?_
  refine v_geti (pc := 2) h dX5_calms_2 fX5_7 rfl h_o ?_
  refine v_aload_n (pc := 5) h dX5_calms_5 0 rfl rfl ?_
  refine v_geti (pc := 6) h dX5_calms_6 fX5_7 rfl h_o ?_
  refine v_callsp (pc := 9) h dX5_calms_9 sX5_32 (tJ6_signum (I o 0) I r ) (by decide) rfl rfl (Nat.le_of_ble_eq_true rfl) ⟨Nat.zero_le _, Nat.zero_le _⟩ (fun r1 => ?_)
  refine v_isub (pc := 12) h dX5_calms_12 ?_
  refine v_puti (pc := 13) h dX5_calms_13 fX5_7 rfl h_o ?_
  refine v_nmI (fun I2 => ?_)
  exact v_vret (pc := 16) h hr dX5_calms_16
set_option maxHeartbeats 4000000 in
theorem tX0_street {g : Gl}  (o : Nat) (a1 : Int32) (a2 : Int32) (I : MI) (r : Rh) (h_o : KpS o r) : CtP g yX0_street cX0_street 3 (some .int) 1 [.ref o, .int a1, .int a2] I r (pX0_street o a1 a2 I r) := by
  refine CtP.mk (lv := [(0, .ref o), (1, .int a1), (2, .int a2)]) (by decide) (Nat.le_of_ble_eq_true rfl) rfl (fun x Q h hr => ?_)
  unfold pX0_street
  refine v_aload_n (pc := 0) h dX0_street_0 0 rfl rfl ?_
  refine v_getp (pc := 1) h dX0_street_1 fX0_20 rfl (KpS.c h_o) (KpS.walk h_o).1 ?_
  refine v_getx (pc := 4) h dX0_street_4 fX0_124 rfl (WkS.c (KpS.walk h_o).2) (fun b1 h2 => ?_)
  refine v_and (fun h3 => ?_)
  refine v_bipush (pc := 7) h dX0_street_7 (v := 12) rfl ?_
  refine v_iload_n (pc := 9) h dX0_street_9 1 rfl rfl ?_
  refine v_imul (pc := 10) h dX0_street_10 ?_
  refine v_iload_n (pc := 11) h dX0_street_11 2 rfl rfl ?_
  refine v_iadd (pc := 12) h dX0_street_12 ?_
  refine v_iald (pc := 13) h dX0_street_13 h3 rfl ?_
  exact v_iretP (pc := 14) h hr dX0_street_14
set_option maxHeartbeats 4000000 in
theorem tX2_forDoor {g : Gl}  (o : Nat) (a1 : Int32) (I : MI) (r : Rh) (h_o : BgS o r) : CtP g yX2_forDoor cX2_forDoor 4 (some .int) 1 [.ref o, .int a1] I r (pX2_forDoor o a1 I r) := by
  refine CtP.mk (lv := [(0, .ref o), (1, .int a1)]) (by decide) (Nat.le_of_ble_eq_true rfl) rfl (fun x Q h hr => ?_)
  unfold pX2_forDoor
  refine v_iconst (pc := 0) h dX2_forDoor_0 (v := 0) rfl ?_
  refine v_istore_n (pc := 1) h dX2_forDoor_1 rfl (by decide) (lv' := [(2, .int (0 : Int32)), (0, .ref o), (1, .int a1)]) rfl ?_
  refine v_iconst (pc := 2) h dX2_forDoor_2 (v := 0) rfl ?_
  refine v_istore_n (pc := 3) h dX2_forDoor_3 rfl (by decide) (lv' := [(3, .int (0 : Int32)), (2, .int (0 : Int32)), (0, .ref o), (1, .int a1)]) rfl ?_
  refine v_sub [2, 3, 1, 0] rfl ?_
  refine L2.run (lv := fun i2_1 i3_2 => [(0, .ref o), (1, .int a1), (2, .int i2_1), (3, .int i3_2)]) (st := fun i2_1 i3_2 => []) (Im := fun i2_1 i3_2 => I) (r := fun i2_1 i3_2 => r) (fun X3 hX3 i2_1 i3_2 => ?_) (0 : Int32) (0 : Int32)
  refine v_iload_n (pc := 4) h dX2_forDoor_4 3 rfl rfl ?_
  refine v_aload_n (pc := 5) h dX2_forDoor_5 0 rfl rfl ?_
  refine v_geti (pc := 6) h dX2_forDoor_6 fX2_18 rfl h_o.1 ?_
  refine v_icmp_ge (pc := 9) (t := 39) h dX2_forDoor_9 rfl (fun _ => ?_) (fun _ => ?_)
  · refine v_iload_n (pc := 39) h dX2_forDoor_39 2 rfl rfl ?_
    exact v_iretP (pc := 40) h hr dX2_forDoor_40
  · refine v_iload_n (pc := 12) h dX2_forDoor_12 2 rfl rfl ?_
    refine v_aload_n (pc := 13) h dX2_forDoor_13 0 rfl rfl ?_
    refine v_getp (pc := 14) h dX2_forDoor_14 fX2_11 rfl h_o.1 h_o.2.1 ?_
    refine v_iload_n (pc := 17) h dX2_forDoor_17 3 rfl rfl ?_
    refine v_aaldx (pc := 18) h dX2_forDoor_18 (t := 3) h_o.2.2.1 rfl rfl h_o.2.2.2.1 (fun b4 h5 h6 => ?_)
    refine v_geti (pc := 19) h dX2_forDoor_19 fX2_29 rfl (BgS.lt h_o h5 h6) ?_
    refine v_iload_n (pc := 22) h dX2_forDoor_22 1 rfl rfl ?_
    refine v_jn1 (fun t7 => V g x 4 (0, 0) 31 [(0, .ref o), (1, .int a1), (3, .int i3_2)] [.int t7, .int i2_1] I r) (fun k8 hk8 => ?_) (fun t7 => ?_)
    · refine v_icmp_ne (pc := 23) (t := 30) h dX2_forDoor_23 rfl (fun _ => ?_) (fun _ => ?_)
      · refine v_iconst (pc := 30) h dX2_forDoor_30 (v := 0) rfl ?_
        refine v_sub [0, 1, 3] rfl ?_
        exact hk8 (0 : Int32)
      · refine v_iconst (pc := 26) h dX2_forDoor_26 (v := 1) rfl ?_
        refine v_goto (pc := 27) (t := 31) h dX2_forDoor_27 rfl ?_
        refine v_sub [0, 1, 3] rfl ?_
        exact hk8 (1 : Int32)
    · refine v_iadd (pc := 31) h dX2_forDoor_31 ?_
      refine v_nmi (fun v9 => ?_)
      refine v_istore_n (pc := 32) h dX2_forDoor_32 rfl (by decide) (lv' := [(2, .int v9), (0, .ref o), (1, .int a1), (3, .int i3_2)]) rfl ?_
      refine v_iinc (pc := 33) h dX2_forDoor_33 3 rfl (w := (i3_2 + (1 : Int32))) rfl (by decide) (lv' := [(3, .int (i3_2 + (1 : Int32))), (2, .int v9), (0, .ref o), (1, .int a1)]) rfl ?_
      refine v_goto (pc := 36) (t := 4) h dX2_forDoor_36 rfl ?_
      refine v_sub [2, 3, 1, 0] rfl ?_
      exact hX3 v9 (i3_2 + (1 : Int32))
set_option maxHeartbeats 4000000 in
theorem tX0_of {g : Gl}  (o : Nat) (a1 : Int32) (a2 : Int32) (I : MI) (r : Rh) (h_o : KpS o r) : CtP g yX0_of cX0_of 4 (some .int) 3 [.ref o, .int a1, .int a2] I r (pX0_of o a1 a2 I r) := by
  refine CtP.mk (lv := [(0, .ref o), (1, .int a1), (2, .int a2)]) (by decide) (Nat.le_of_ble_eq_true rfl) rfl (fun x Q h hr => ?_)
  unfold pX0_of
  refine v_aload_n (pc := 0) h dX0_of_0 0 rfl rfl ?_
  refine v_iload_n (pc := 1) h dX0_of_1 1 rfl rfl ?_
  refine v_callP (pc := 2) h dX0_of_2 kX0_170 rfl (KpS.c h_o) (tX0_isDoor o a1 I r h_o) (by decide) rfl rfl (Nat.le_of_ble_eq_true rfl) ⟨Nat.zero_le _, Nat.zero_le _⟩ (fun r1 => ?_)
  refine v_if_ne (pc := 5) (t := 11) h dX0_of_5 rfl (fun _ => ?_) (fun _ => ?_)
  · refine v_aload_n (pc := 11) h dX0_of_11 0 rfl rfl ?_
    refine v_iload_n (pc := 12) h dX0_of_12 1 rfl rfl ?_
    refine v_callA (pc := 13) h dX0_of_13 kX0_161 rfl (KpS.c h_o) (tX0_door_2 o a1 I r h_o) (by decide) rfl rfl (Nat.le_of_ble_eq_true rfl) ⟨Nat.zero_le _, Nat.zero_le _⟩ (fun b2 => ?_)
    refine v_and (fun h3 => ?_)
    refine v_astore_n (pc := 16) h dX0_of_16 rfl (by decide) (lv' := [(3, .ref b2), (0, .ref o), (1, .int a1), (2, .int a2)]) rfl ?_
    refine v_iload_n (pc := 17) h dX0_of_17 3 rfl rfl ?_
    refine v_ite (fun hc4 => ?_) (fun hc4 => ?_)
    · refine v_tswi (pc := 18) (t := 52) h dX0_of_18 (k := 0) hc4 (by decide) (by decide) rfl rfl ?_
      refine v_aload_n (pc := 52) h dX0_of_52 0 rfl rfl ?_
      refine v_geti (pc := 53) h dX0_of_53 fX0_177 rfl h3 ?_
      exact v_iretP (pc := 56) h hr dX0_of_56
    · refine v_ite (fun hc5 => ?_) (fun hc5 => ?_)
      · refine v_tswi (pc := 18) (t := 57) h dX0_of_18 (k := 1) hc5 (by decide) (by decide) rfl rfl ?_
        refine v_aload_n (pc := 57) h dX0_of_57 0 rfl rfl ?_
        refine v_geti (pc := 58) h dX0_of_58 fX0_180 rfl h3 ?_
        exact v_iretP (pc := 61) h hr dX0_of_61
      · refine v_ite (fun hc6 => ?_) (fun hc6 => ?_)
        · refine v_tswi (pc := 18) (t := 62) h dX0_of_18 (k := 2) hc6 (by decide) (by decide) rfl rfl ?_
          refine v_aload_n (pc := 62) h dX0_of_62 0 rfl rfl ?_
          refine v_geti (pc := 63) h dX0_of_63 fX0_183 rfl h3 ?_
          exact v_iretP (pc := 66) h hr dX0_of_66
        · refine v_ite (fun hc7 => ?_) (fun hc7 => ?_)
          · refine v_tswi (pc := 18) (t := 67) h dX0_of_18 (k := 3) hc7 (by decide) (by decide) rfl rfl ?_
            refine v_aload_n (pc := 67) h dX0_of_67 0 rfl rfl ?_
            refine v_geti (pc := 68) h dX0_of_68 fX0_227 rfl h3 ?_
            exact v_iretP (pc := 71) h hr dX0_of_71
          · refine v_ite (fun hc8 => ?_) (fun hc8 => ?_)
            · refine v_tswi (pc := 18) (t := 72) h dX0_of_18 (k := 4) hc8 (by decide) (by decide) rfl rfl ?_
              refine v_aload_n (pc := 72) h dX0_of_72 1 rfl rfl ?_
              refine v_getp (pc := 73) h dX0_of_73 fX0_20 rfl (KpS.c h_o) (KpS.walk h_o).1 ?_
              refine v_getp (pc := 76) h dX0_of_76 fX0_195 rfl (WkS.c (KpS.walk h_o).2) (WkS.bag (KpS.walk h_o).2).1 ?_
              refine v_iload_n (pc := 79) h dX0_of_79 2 rfl rfl ?_
              refine v_callP (pc := 80) h dX0_of_80 kX0_230 rfl (WkS.bag (KpS.walk h_o).2).2.1 (tX2_forDoor (o + 4) a1 I r (WkS.bag (KpS.walk h_o).2).2) (by decide) rfl rfl (Nat.le_of_ble_eq_true rfl) ⟨Nat.zero_le _, Nat.zero_le _⟩ (fun r9 => ?_)
              exact v_iretP (pc := 83) h hr dX0_of_83
            · refine v_tswd (pc := 18) (t := 84) h dX0_of_18 (by have e0 := lv_neT hc4 (show (0 : Int32).toInt = 0 from rfl); have e1 := lv_neT hc5 (show (1 : Int32).toInt = 1 from rfl); have e2 := lv_neT hc6 (show (2 : Int32).toInt = 2 from rfl); have e3 := lv_neT hc7 (show (3 : Int32).toInt = 3 from rfl); have e4 := lv_neT hc8 (show (4 : Int32).toInt = 4 from rfl); omega) rfl ?_
              refine v_aload_n (pc := 84) h dX0_of_84 1 rfl rfl ?_
              refine v_iload_n (pc := 85) h dX0_of_85 3 rfl rfl ?_
              refine v_bipush (pc := 86) h dX0_of_86 (v := 10) rfl ?_
              refine v_isub (pc := 88) h dX0_of_88 ?_
              refine v_callP (pc := 89) h dX0_of_89 kX0_170 rfl (KpS.c h_o) (tX0_isDoor o (a2 - (10 : Int32)) I r h_o) (by decide) rfl rfl (Nat.le_of_ble_eq_true rfl) ⟨Nat.zero_le _, Nat.zero_le _⟩ (fun r10 => ?_)
              refine v_if_eq (pc := 92) (t := 107) h dX0_of_92 rfl (fun _ => ?_) (fun _ => ?_)
              · refine v_bipush (pc := 107) h dX0_of_107 (v := (-100)) rfl ?_
                exact v_iretP (pc := 109) h hr dX0_of_109
              · refine v_aload_n (pc := 95) h dX0_of_95 1 rfl rfl ?_
                refine v_iload_n (pc := 96) h dX0_of_96 2 rfl rfl ?_
                refine v_iload_n (pc := 97) h dX0_of_97 3 rfl rfl ?_
                refine v_bipush (pc := 98) h dX0_of_98 (v := 10) rfl ?_
                refine v_isub (pc := 100) h dX0_of_100 ?_
                refine v_callP (pc := 101) h dX0_of_101 kX0_233 rfl (KpS.c h_o) (tX0_street o a1 (a2 - (10 : Int32)) I r h_o) (by decide) rfl rfl (Nat.le_of_ble_eq_true rfl) ⟨Nat.zero_le _, Nat.zero_le _⟩ (fun r11 => ?_)
                refine v_goto (pc := 104) (t := 109) h dX0_of_104 rfl ?_
                exact v_iretP (pc := 109) h hr dX0_of_109
  · refine v_bipush (pc := 8) h dX0_of_8 (v := (-100)) rfl ?_
    exact v_iretP (pc := 10) h hr dX0_of_10
set_option maxHeartbeats 4000000 in
theorem tX0_given {g : Gl}  (o : Nat) (a1 : Int32) (I : MI) (r : Rh) (h_o : KpS o r) : CtP g yX0_given cX0_given 2 (some .int) 3 [.ref o, .int a1] I r (pX0_given o a1 I r) := by
  refine CtP.mk (lv := [(0, .ref o), (1, .int a1)]) (by decide) (Nat.le_of_ble_eq_true rfl) rfl (fun x Q h hr => ?_)
  unfold pX0_given
  refine v_iload_n (pc := 0) h dX0_given_0 1 rfl rfl ?_
  refine v_callsp (pc := 1) h dX0_given_1 sX0_192 (tX0_isKind a1 I r ) (by decide) rfl rfl (Nat.le_of_ble_eq_true rfl) ⟨Nat.zero_le _, Nat.zero_le _⟩ (fun r1 => ?_)
  refine v_if_eq (pc := 4) (t := 19) h dX0_given_4 rfl (fun _ => ?_) (fun _ => ?_)
  · refine v_iconst (pc := 19) h dX0_given_19 (v := (-1)) rfl ?_
    exact v_iretP (pc := 20) h hr dX0_given_20
  · refine v_aload_n (pc := 7) h dX0_given_7 0 rfl rfl ?_
    refine v_getp (pc := 8) h dX0_given_8 fX0_20 rfl (KpS.c h_o) (KpS.walk h_o).1 ?_
    refine v_getp (pc := 11) h dX0_given_11 fX0_263 rfl (WkS.c (KpS.walk h_o).2) (WkS.given (KpS.walk h_o).2).1 ?_
    refine v_iload_n (pc := 14) h dX0_given_14 1 rfl rfl ?_
    refine v_iald (pc := 15) h dX0_given_15 (WkS.given (KpS.walk h_o).2).2.1 (WkS.given (KpS.walk h_o).2).2.2 ?_
    refine v_goto (pc := 16) (t := 20) h dX0_given_16 rfl ?_
    exact v_iretP (pc := 20) h hr dX0_given_20
set_option maxHeartbeats 4000000 in
theorem tX0_book {g : Gl}  (o : Nat) (a1 : Int32) (a2 : Int32) (I : MI) (r : Rh) (h_o : KpS o r) : CtP g yX0_book cX0_book 3 (some .int) 2 [.ref o, .int a1, .int a2] I r (pX0_book o a1 a2 I r) := by
  refine CtP.mk (lv := [(0, .ref o), (1, .int a1), (2, .int a2)]) (by decide) (Nat.le_of_ble_eq_true rfl) rfl (fun x Q h hr => ?_)
  unfold pX0_book
  refine v_iload_n (pc := 0) h dX0_book_0 1 rfl rfl ?_
  refine v_iconst (pc := 1) h dX0_book_1 (v := 0) rfl ?_
  refine v_aload_n (pc := 2) h dX0_book_2 0 rfl rfl ?_
  refine v_getp (pc := 3) h dX0_book_3 fX0_20 rfl (KpS.c h_o) (KpS.walk h_o).1 ?_
  refine v_geti (pc := 6) h dX0_book_6 fX0_266 rfl (WkS.c (KpS.walk h_o).2) ?_
  refine v_iconst (pc := 9) h dX0_book_9 (v := 1) rfl ?_
  refine v_isub (pc := 10) h dX0_book_10 ?_
  refine v_callsp (pc := 11) h dX0_book_11 sX0_78 (tX0_isIn a1 (0 : Int32) ((I (o + 2) 24) - (1 : Int32)) I r ) (by decide) rfl rfl (Nat.le_of_ble_eq_true rfl) ⟨Nat.zero_le _, Nat.zero_le _⟩ (fun r1 => ?_)
  refine v_jn0 (V g x 3 (0, 0) 40 [] [] I r) (fun k2 hk2 => ?_) ?_
  · refine v_if_eq (pc := 14) (t := 40) h dX0_book_14 rfl (fun _ => ?_) (fun _ => ?_)
    · refine v_sub [] rfl ?_
      exact hk2
    · refine v_iload_n (pc := 17) h dX0_book_17 2 rfl rfl ?_
      refine v_iconst (pc := 18) h dX0_book_18 (v := 0) rfl ?_
      refine v_iconst (pc := 19) h dX0_book_19 (v := 3) rfl ?_
      refine v_callsp (pc := 20) h dX0_book_20 sX0_78 (tX0_isIn a2 (0 : Int32) (3 : Int32) I r ) (by decide) rfl rfl (Nat.le_of_ble_eq_true rfl) ⟨Nat.zero_le _, Nat.zero_le _⟩ (fun r3 => ?_)
      refine v_if_eq (pc := 23) (t := 40) h dX0_book_23 rfl (fun _ => ?_) (fun _ => ?_)
      · refine v_sub [] rfl ?_
        exact hk2
      · refine v_aload_n (pc := 26) h dX0_book_26 0 rfl rfl ?_
        refine v_getp (pc := 27) h dX0_book_27 fX0_20 rfl (KpS.c h_o) (KpS.walk h_o).1 ?_
        refine v_getp (pc := 30) h dX0_book_30 fX0_269 rfl (WkS.c (KpS.walk h_o).2) (WkS.book (KpS.walk h_o).2).1 ?_
        refine v_iload_n (pc := 33) h dX0_book_33 1 rfl rfl ?_
        refine v_aaldk (pc := 34) h dX0_book_34 (t := 5) (WkS.book (KpS.walk h_o).2).2.1 rfl rfl (WkS.book (KpS.walk h_o).2).2.2.1 (fun hin => ((WkS.book (KpS.walk h_o).2).2.2.2 _ (vp_lt hin)).1) (fun h4 => ?_)
        refine v_iload_n (pc := 35) h dX0_book_35 2 rfl rfl ?_
        refine v_iald (pc := 36) h dX0_book_36 ((WkS.book (KpS.walk h_o).2).2.2.2 _ (vp_lt h4)).2.1 ((WkS.book (KpS.walk h_o).2).2.2.2 _ (vp_lt h4)).2.2 ?_
        refine v_goto (pc := 37) (t := 42) h dX0_book_37 rfl ?_
        exact v_iretP (pc := 42) h hr dX0_book_42
  · refine v_bipush (pc := 40) h dX0_book_40 (v := (-2)) rfl ?_
    exact v_iretP (pc := 42) h hr dX0_book_42
set_option maxHeartbeats 4000000 in
theorem tX1_thinks {g : Gl}  (o : Nat) (a1 : Nat) (I : MI) (r : Rh) (h_o : WkS o r) (h_a1 : WkS a1 r) : CtW g yX1_thinks cX1_thinks 2 5 0 0 [.ref o, .ref a1] I r (pX1_thinks o a1 I r) := by
  refine CtW.mk (lv := [(0, .ref o), (1, .ref a1)]) (by decide) (Nat.le_of_ble_eq_true rfl) rfl (fun x Q h hr hnm => ?_)
  unfold pX1_thinks
  refine v_aload_n (pc := 0) h dX1_thinks_0 0 rfl rfl ?_
  refine v_aload_n (pc := 1) h dX1_thinks_1 1 rfl rfl ?_
  refine v_callV (pc := 2) h dX1_thinks_2 kX1_112 rfl (WkS.c h_o) (tX1_moves o a1 I r h_o h_a1) (by decide) rfl rfl (Nat.le_of_ble_eq_true rfl) ⟨Nat.zero_le _, Nat.zero_le _⟩ (fun I1 => ?_)
  refine v_aload_n (pc := 5) h dX1_thinks_5 0 rfl rfl ?_
  refine v_aload_n (pc := 6) h dX1_thinks_6 1 rfl rfl ?_
  refine v_geti (pc := 7) h dX1_thinks_7 fX1_116 rfl (WkS.c h_a1) ?_
  refine v_puti (pc := 10) h dX1_thinks_10 fX1_116 rfl (WkS.c h_o) ?_
  refine v_nmI (fun I2 => ?_)
  refine v_aload_n (pc := 13) h dX1_thinks_13 0 rfl rfl ?_
  refine v_aload_n (pc := 14) h dX1_thinks_14 1 rfl rfl ?_
  refine v_getx (pc := 15) h dX1_thinks_15 fX1_60 rfl (WkS.c h_a1) (fun b3 h4 => ?_)
  refine v_and (fun h5 => ?_)
  refine v_putr (pc := 18) (o := (some b3)) h dX1_thinks_18 fX1_60 rfl rfl rfl (WkS.c h_o) ?_
  refine v_nmr (fun r6 => ?_)
  refine v_and (fun h7 => ?_)
  refine v_and (fun h8 => ?_)
  refine v_aload_n (pc := 21) h dX1_thinks_21 0 rfl rfl ?_
  refine v_aload_n (pc := 22) h dX1_thinks_22 1 rfl rfl ?_
  refine v_getx (pc := 23) h dX1_thinks_23 fX1_64 rfl (WkS.c h8) (fun b9 h10 => ?_)
  refine v_and (fun h11 => ?_)
  refine v_putr (pc := 26) (o := (some b9)) h dX1_thinks_26 fX1_64 rfl rfl rfl (WkS.c h7) ?_
  refine v_nmr (fun r12 => ?_)
  refine v_and (fun h13 => ?_)
  refine v_and (fun h14 => ?_)
  refine v_aload_n (pc := 29) h dX1_thinks_29 0 rfl rfl ?_
  refine v_aload_n (pc := 30) h dX1_thinks_30 1 rfl rfl ?_
  refine v_getx (pc := 31) h dX1_thinks_31 fX1_67 rfl (WkS.c h14) (fun b15 h16 => ?_)
  refine v_and (fun h17 => ?_)
  refine v_putr (pc := 34) (o := (some b15)) h dX1_thinks_34 fX1_67 rfl rfl rfl (WkS.c h13) ?_
  refine v_nmr (fun r18 => ?_)
  refine v_and (fun h19 => ?_)
  refine v_and (fun h20 => ?_)
  refine v_aload_n (pc := 37) h dX1_thinks_37 0 rfl rfl ?_
  refine v_aload_n (pc := 38) h dX1_thinks_38 1 rfl rfl ?_
  refine v_geti (pc := 39) h dX1_thinks_39 fX1_119 rfl (WkS.c h20) ?_
  refine v_puti (pc := 42) h dX1_thinks_42 fX1_119 rfl (WkS.c h19) ?_
  refine v_nmI (fun I21 => ?_)
  refine v_aload_n (pc := 45) h dX1_thinks_45 0 rfl rfl ?_
  refine v_aload_n (pc := 46) h dX1_thinks_46 1 rfl rfl ?_
  refine v_getx (pc := 47) h dX1_thinks_47 fX1_70 rfl (WkS.c h20) (fun b22 h23 => ?_)
  refine v_and (fun h24 => ?_)
  refine v_putr (pc := 50) (o := (some b22)) h dX1_thinks_50 fX1_70 rfl rfl rfl (WkS.c h19) ?_
  refine v_nmr (fun r25 => ?_)
  refine v_and (fun h26 => ?_)
  refine v_and (fun h27 => ?_)
  refine v_aload_n (pc := 53) h dX1_thinks_53 0 rfl rfl ?_
  refine v_aload_n (pc := 54) h dX1_thinks_54 1 rfl rfl ?_
  refine v_geti (pc := 55) h dX1_thinks_55 fX1_122 rfl (WkS.c h27) ?_
  refine v_puti (pc := 58) h dX1_thinks_58 fX1_122 rfl (WkS.c h26) ?_
  refine v_nmI (fun I28 => ?_)
  exact v_vretW (pc := 61) h hr ⟨Nat.zero_le _, Nat.zero_le _⟩ dX1_thinks_61
set_option maxHeartbeats 4000000 in
theorem tX0_laysGoals {g : Gl}  (o : Nat) (a1 : Int32) (I : MI) (r : Rh) (h_o : KpS o r) : CtI g yX0_laysGoals cX0_laysGoals 4 (some .int) 2 [.ref o, .int a1] I r (pX0_laysGoals o a1 I r) := by
  refine CtI.mk (lv := [(0, .ref o), (1, .int a1)]) (by decide) (Nat.le_of_ble_eq_true rfl) rfl (fun x Q h hr => ?_)
  unfold pX0_laysGoals
  refine v_iconst (pc := 0) h dX0_laysGoals_0 (v := 0) rfl ?_
  refine v_istore_n (pc := 1) h dX0_laysGoals_1 rfl (by decide) (lv' := [(2, .int (0 : Int32)), (0, .ref o), (1, .int a1)]) rfl ?_
  refine v_iconst (pc := 2) h dX0_laysGoals_2 (v := 0) rfl ?_
  refine v_istore_n (pc := 3) h dX0_laysGoals_3 rfl (by decide) (lv' := [(3, .int (0 : Int32)), (2, .int (0 : Int32)), (0, .ref o), (1, .int a1)]) rfl ?_
  refine v_sub [2, 3, 1, 0] rfl ?_
  refine L3.run (lv := fun i2_1 i3_2 I3 => [(0, .ref o), (1, .int a1), (2, .int i2_1), (3, .int i3_2)]) (st := fun i2_1 i3_2 I3 => []) (Im := fun i2_1 i3_2 I3 => I3) (r := fun i2_1 i3_2 I3 => r) (fun X4 hX4 i2_1 i3_2 I3 => ?_) (0 : Int32) (0 : Int32) I
  refine v_iload_n (pc := 4) h dX0_laysGoals_4 3 rfl rfl ?_
  refine v_aload_n (pc := 5) h dX0_laysGoals_5 0 rfl rfl ?_
  refine v_getp (pc := 6) h dX0_laysGoals_6 fX0_20 rfl (KpS.c h_o) (KpS.walk h_o).1 ?_
  refine v_geti (pc := 9) h dX0_laysGoals_9 fX0_151 rfl (WkS.c (KpS.walk h_o).2) ?_
  refine v_icmp_ge (pc := 12) (t := 64) h dX0_laysGoals_12 rfl (fun _ => ?_) (fun _ => ?_)
  · refine v_iload_n (pc := 64) h dX0_laysGoals_64 2 rfl rfl ?_
    exact v_iret (pc := 65) h hr dX0_laysGoals_65
  · refine v_iload_n (pc := 15) h dX0_laysGoals_15 3 rfl rfl ?_
    refine v_iload_n (pc := 16) h dX0_laysGoals_16 1 rfl rfl ?_
    refine v_jn2 (fun v2_5 I6 => V g x 4 (0, 0) 58 [(0, .ref o), (1, .int a1), (2, .int v2_5), (3, .int i3_2)] [] I6 r) (fun k7 hk7 => ?_) (fun v2_5 I6 => ?_)
    · refine v_icmp_eq (pc := 17) (t := 58) h dX0_laysGoals_17 rfl (fun _ => ?_) (fun _ => ?_)
      · exact hk7 i2_1 I3
      · refine v_aload_n (pc := 20) h dX0_laysGoals_20 0 rfl rfl ?_
        refine v_getp (pc := 21) h dX0_laysGoals_21 fX0_20 rfl (KpS.c h_o) (KpS.walk h_o).1 ?_
        refine v_getp (pc := 24) h dX0_laysGoals_24 fX0_195 rfl (WkS.c (KpS.walk h_o).2) (WkS.bag (KpS.walk h_o).2).1 ?_
        refine v_iload_n (pc := 27) h dX0_laysGoals_27 3 rfl rfl ?_
        refine v_callP (pc := 28) h dX0_laysGoals_28 kX0_230 rfl (WkS.bag (KpS.walk h_o).2).2.1 (tX2_forDoor (o + 4) i3_2 I3 r (WkS.bag (KpS.walk h_o).2).2) (by decide) rfl rfl (Nat.le_of_ble_eq_true rfl) ⟨Nat.zero_le _, Nat.zero_le _⟩ (fun r8 => ?_)
        refine v_if_ne (pc := 31) (t := 37) h dX0_laysGoals_31 rfl (fun _ => ?_) (fun _ => ?_)
        · refine v_iload_n (pc := 37) h dX0_laysGoals_37 2 rfl rfl ?_
          refine v_aload_n (pc := 38) h dX0_laysGoals_38 0 rfl rfl ?_
          refine v_getp (pc := 39) h dX0_laysGoals_39 fX0_46 rfl (KpS.c h_o) (KpS.goal h_o).1 ?_
          refine v_alen (pc := 42) h dX0_laysGoals_42 (t := 0) (KpS.goal h_o).2.1 rfl (KpS.goal h_o).2.2 ?_
          refine v_icmp_ne (pc := 43) (t := 48) h dX0_laysGoals_43 rfl (fun _ => ?_) (fun _ => ?_)
          · refine v_aload_n (pc := 48) h dX0_laysGoals_48 0 rfl rfl ?_
            refine v_getp (pc := 49) h dX0_laysGoals_49 fX0_46 rfl (KpS.c h_o) (KpS.goal h_o).1 ?_
            refine v_iload_n (pc := 52) h dX0_laysGoals_52 2 rfl rfl ?_
            refine v_iload_n (pc := 53) h dX0_laysGoals_53 3 rfl rfl ?_
            refine v_iast (pc := 54) h dX0_laysGoals_54 (KpS.goal h_o).2.1 (KpS.goal h_o).2.2 ?_
            refine v_nmI (fun I9 => ?_)
            refine v_iinc (pc := 55) h dX0_laysGoals_55 2 rfl (w := (i2_1 + (1 : Int32))) rfl (by decide) (lv' := [(2, .int (i2_1 + (1 : Int32))), (0, .ref o), (1, .int a1), (3, .int i3_2)]) rfl ?_
            refine v_sub [1, 2, 0, 3] rfl ?_
            exact hk7 (i2_1 + (1 : Int32)) I9
          · refine v_iconst (pc := 46) h dX0_laysGoals_46 (v := (-1)) rfl ?_
            exact v_iret (pc := 47) h hr dX0_laysGoals_47
        · refine v_goto (pc := 34) (t := 58) h dX0_laysGoals_34 rfl ?_
          exact hk7 i2_1 I3
    · refine v_iinc (pc := 58) h dX0_laysGoals_58 3 rfl (w := (i3_2 + (1 : Int32))) rfl (by decide) (lv' := [(3, .int (i3_2 + (1 : Int32))), (0, .ref o), (1, .int a1), (2, .int v2_5)]) rfl ?_
      refine v_goto (pc := 61) (t := 4) h dX0_laysGoals_61 rfl ?_
      refine v_sub [1, 2, 3, 0] rfl ?_
      exact hX4 v2_5 (i3_2 + (1 : Int32)) I6
set_option maxHeartbeats 4000000 in
theorem tX0_laysFar {g : Gl}  (o : Nat) (I : MI) (r : Rh) (h_o : KpS o r) : CtV g yX0_laysFar cX0_laysFar 4 2 [.ref o] I r (pX0_laysFar o I r) := by
  refine CtV.mk (lv := [(0, .ref o)]) (by decide) (Nat.le_of_ble_eq_true rfl) rfl (fun x Q h hr => ?_)
  unfold pX0_laysFar
  refine v_iconst (pc := 0) h dX0_laysFar_0 (v := 0) rfl ?_
  refine v_istore_n (pc := 1) h dX0_laysFar_1 rfl (by decide) (lv' := [(1, .int (0 : Int32)), (0, .ref o)]) rfl ?_
  refine v_sub [1, 0] rfl ?_
  refine L2.run (lv := fun i1_1 I2 => [(0, .ref o), (1, .int i1_1)]) (st := fun i1_1 I2 => []) (Im := fun i1_1 I2 => I2) (r := fun i1_1 I2 => r) (fun X3 hX3 i1_1 I2 => ?_) (0 : Int32) I
  refine v_iload_n (pc := 2) h dX0_laysFar_2 1 rfl rfl ?_
  refine v_aload_n (pc := 3) h dX0_laysFar_3 0 rfl rfl ?_
  refine v_getp (pc := 4) h dX0_laysFar_4 fX0_20 rfl (KpS.c h_o) (KpS.walk h_o).1 ?_
  refine v_geti (pc := 7) h dX0_laysFar_7 fX0_151 rfl (WkS.c (KpS.walk h_o).2) ?_
  refine v_icmp_ge (pc := 10) (t := 77) h dX0_laysFar_10 rfl (fun _ => ?_) (fun _ => ?_)
  · refine v_iconst (pc := 77) h dX0_laysFar_77 (v := 0) rfl ?_
    refine v_istore_n (pc := 78) h dX0_laysFar_78 rfl (by decide) (lv' := [(1, .int (0 : Int32)), (0, .ref o)]) rfl ?_
    refine v_sub [1, 0] rfl ?_
    refine L2.run (lv := fun i1_4 I5 => [(0, .ref o), (1, .int i1_4)]) (st := fun i1_4 I5 => []) (Im := fun i1_4 I5 => I5) (r := fun i1_4 I5 => r) (fun X6 hX6 i1_4 I5 => ?_) (0 : Int32) I2
    refine v_iload_n (pc := 79) h dX0_laysFar_79 1 rfl rfl ?_
    refine v_aload_n (pc := 80) h dX0_laysFar_80 0 rfl rfl ?_
    refine v_getp (pc := 81) h dX0_laysFar_81 fX0_20 rfl (KpS.c h_o) (KpS.walk h_o).1 ?_
    refine v_geti (pc := 84) h dX0_laysFar_84 fX0_151 rfl (WkS.c (KpS.walk h_o).2) ?_
    refine v_icmp_ge (pc := 87) (t := 170) h dX0_laysFar_87 rfl (fun _ => ?_) (fun _ => ?_)
    · exact v_vret (pc := 170) h hr dX0_laysFar_170
    · refine v_iconst (pc := 90) h dX0_laysFar_90 (v := 0) rfl ?_
      refine v_istore_n (pc := 91) h dX0_laysFar_91 rfl (by decide) (lv' := [(2, .int (0 : Int32)), (0, .ref o), (1, .int i1_4)]) rfl ?_
      refine v_sub [1, 2, 0] rfl ?_
      refine L2.run (lv := fun i2_7 I8 => [(0, .ref o), (1, .int i1_4), (2, .int i2_7)]) (st := fun i2_7 I8 => []) (Im := fun i2_7 I8 => I8) (r := fun i2_7 I8 => r) (fun X9 hX9 i2_7 I8 => ?_) (0 : Int32) I5
      refine v_iload_n (pc := 92) h dX0_laysFar_92 2 rfl rfl ?_
      refine v_aload_n (pc := 93) h dX0_laysFar_93 0 rfl rfl ?_
      refine v_getp (pc := 94) h dX0_laysFar_94 fX0_20 rfl (KpS.c h_o) (KpS.walk h_o).1 ?_
      refine v_geti (pc := 97) h dX0_laysFar_97 fX0_151 rfl (WkS.c (KpS.walk h_o).2) ?_
      refine v_icmp_ge (pc := 100) (t := 164) h dX0_laysFar_100 rfl (fun _ => ?_) (fun _ => ?_)
      · refine v_iinc (pc := 164) h dX0_laysFar_164 1 rfl (w := (i1_4 + (1 : Int32))) rfl (by decide) (lv' := [(1, .int (i1_4 + (1 : Int32))), (0, .ref o), (2, .int i2_7)]) rfl ?_
        refine v_goto (pc := 167) (t := 79) h dX0_laysFar_167 rfl ?_
        refine v_sub [1, 0] rfl ?_
        exact hX6 (i1_4 + (1 : Int32)) I8
      · refine v_iconst (pc := 103) h dX0_laysFar_103 (v := 0) rfl ?_
        refine v_istore_n (pc := 104) h dX0_laysFar_104 rfl (by decide) (lv' := [(3, .int (0 : Int32)), (0, .ref o), (1, .int i1_4), (2, .int i2_7)]) rfl ?_
        refine v_sub [1, 2, 3, 0] rfl ?_
        refine L2.run (lv := fun i3_10 I11 => [(0, .ref o), (1, .int i1_4), (2, .int i2_7), (3, .int i3_10)]) (st := fun i3_10 I11 => []) (Im := fun i3_10 I11 => I11) (r := fun i3_10 I11 => r) (fun X12 hX12 i3_10 I11 => ?_) (0 : Int32) I8
        refine v_iload_n (pc := 105) h dX0_laysFar_105 3 rfl rfl ?_
        refine v_aload_n (pc := 106) h dX0_laysFar_106 0 rfl rfl ?_
        refine v_getp (pc := 107) h dX0_laysFar_107 fX0_20 rfl (KpS.c h_o) (KpS.walk h_o).1 ?_
        refine v_geti (pc := 110) h dX0_laysFar_110 fX0_151 rfl (WkS.c (KpS.walk h_o).2) ?_
        refine v_icmp_ge (pc := 113) (t := 158) h dX0_laysFar_113 rfl (fun _ => ?_) (fun _ => ?_)
        · refine v_iinc (pc := 158) h dX0_laysFar_158 2 rfl (w := (i2_7 + (1 : Int32))) rfl (by decide) (lv' := [(2, .int (i2_7 + (1 : Int32))), (0, .ref o), (1, .int i1_4), (3, .int i3_10)]) rfl ?_
          refine v_goto (pc := 161) (t := 92) h dX0_laysFar_161 rfl ?_
          refine v_sub [1, 2, 0] rfl ?_
          exact hX9 (i2_7 + (1 : Int32)) I11
        · refine v_aload_n (pc := 116) h dX0_laysFar_116 0 rfl rfl ?_
          refine v_getp (pc := 117) h dX0_laysFar_117 fX0_40 rfl (KpS.c h_o) (KpS.far h_o).1 ?_
          refine v_iload_n (pc := 120) h dX0_laysFar_120 2 rfl rfl ?_
          refine v_aaldk (pc := 121) h dX0_laysFar_121 (t := 5) (KpS.far h_o).2.1 rfl rfl (KpS.far h_o).2.2.1 (fun hin => ((KpS.far h_o).2.2.2 _ (vp_lt hin)).1) (fun h13 => ?_)
          refine v_iload_n (pc := 122) h dX0_laysFar_122 3 rfl rfl ?_
          refine v_aload_n (pc := 123) h dX0_laysFar_123 0 rfl rfl ?_
          refine v_getp (pc := 124) h dX0_laysFar_124 fX0_40 rfl (KpS.c h_o) (KpS.far h_o).1 ?_
          refine v_iload_n (pc := 127) h dX0_laysFar_127 2 rfl rfl ?_
          refine v_aaldk (pc := 128) h dX0_laysFar_128 (t := 5) (KpS.far h_o).2.1 rfl rfl (KpS.far h_o).2.2.1 (fun hin => ((KpS.far h_o).2.2.2 _ (vp_lt hin)).1) (fun h14 => ?_)
          refine v_iload_n (pc := 129) h dX0_laysFar_129 3 rfl rfl ?_
          refine v_iald (pc := 130) h dX0_laysFar_130 ((KpS.far h_o).2.2.2 _ (vp_lt h14)).2.1 ((KpS.far h_o).2.2.2 _ (vp_lt h14)).2.2 ?_
          refine v_aload_n (pc := 131) h dX0_laysFar_131 0 rfl rfl ?_
          refine v_getp (pc := 132) h dX0_laysFar_132 fX0_40 rfl (KpS.c h_o) (KpS.far h_o).1 ?_
          refine v_iload_n (pc := 135) h dX0_laysFar_135 2 rfl rfl ?_
          refine v_aaldk (pc := 136) h dX0_laysFar_136 (t := 5) (KpS.far h_o).2.1 rfl rfl (KpS.far h_o).2.2.1 (fun hin => ((KpS.far h_o).2.2.2 _ (vp_lt hin)).1) (fun h15 => ?_)
          refine v_iload_n (pc := 137) h dX0_laysFar_137 1 rfl rfl ?_
          refine v_iald (pc := 138) h dX0_laysFar_138 ((KpS.far h_o).2.2.2 _ (vp_lt h15)).2.1 ((KpS.far h_o).2.2.2 _ (vp_lt h15)).2.2 ?_
          refine v_aload_n (pc := 139) h dX0_laysFar_139 0 rfl rfl ?_
          refine v_getp (pc := 140) h dX0_laysFar_140 fX0_40 rfl (KpS.c h_o) (KpS.far h_o).1 ?_
          refine v_iload_n (pc := 143) h dX0_laysFar_143 1 rfl rfl ?_
          refine v_aaldk (pc := 144) h dX0_laysFar_144 (t := 5) (KpS.far h_o).2.1 rfl rfl (KpS.far h_o).2.2.1 (fun hin => ((KpS.far h_o).2.2.2 _ (vp_lt hin)).1) (fun h16 => ?_)
          refine v_iload_n (pc := 145) h dX0_laysFar_145 3 rfl rfl ?_
          refine v_iald (pc := 146) h dX0_laysFar_146 ((KpS.far h_o).2.2.2 _ (vp_lt h16)).2.1 ((KpS.far h_o).2.2.2 _ (vp_lt h16)).2.2 ?_
          refine v_iadd (pc := 147) h dX0_laysFar_147 ?_
          refine v_mmin (pc := 148) h dX0_laysFar_148 q1103 (by decide) (Nat.le_of_ble_eq_true rfl) ⟨Nat.zero_le _, Nat.zero_le _⟩ ?_
          refine v_iast (pc := 151) h dX0_laysFar_151 ((KpS.far h_o).2.2.2 _ (vp_lt h15)).2.1 ((KpS.far h_o).2.2.2 _ (vp_lt h15)).2.2 ?_
          refine v_nmI (fun I17 => ?_)
          refine v_iinc (pc := 152) h dX0_laysFar_152 3 rfl (w := (i3_10 + (1 : Int32))) rfl (by decide) (lv' := [(3, .int (i3_10 + (1 : Int32))), (0, .ref o), (1, .int i1_4), (2, .int i2_7)]) rfl ?_
          refine v_goto (pc := 155) (t := 105) h dX0_laysFar_155 rfl ?_
          refine v_sub [1, 2, 3, 0] rfl ?_
          exact hX12 (i3_10 + (1 : Int32)) I17
  · refine v_iconst (pc := 13) h dX0_laysFar_13 (v := 0) rfl ?_
    refine v_istore_n (pc := 14) h dX0_laysFar_14 rfl (by decide) (lv' := [(2, .int (0 : Int32)), (0, .ref o), (1, .int i1_1)]) rfl ?_
    refine v_sub [1, 2, 0] rfl ?_
    refine L2.run (lv := fun i2_18 I19 => [(0, .ref o), (1, .int i1_1), (2, .int i2_18)]) (st := fun i2_18 I19 => []) (Im := fun i2_18 I19 => I19) (r := fun i2_18 I19 => r) (fun X20 hX20 i2_18 I19 => ?_) (0 : Int32) I2
    refine v_iload_n (pc := 15) h dX0_laysFar_15 2 rfl rfl ?_
    refine v_aload_n (pc := 16) h dX0_laysFar_16 0 rfl rfl ?_
    refine v_getp (pc := 17) h dX0_laysFar_17 fX0_20 rfl (KpS.c h_o) (KpS.walk h_o).1 ?_
    refine v_geti (pc := 20) h dX0_laysFar_20 fX0_151 rfl (WkS.c (KpS.walk h_o).2) ?_
    refine v_icmp_ge (pc := 23) (t := 71) h dX0_laysFar_23 rfl (fun _ => ?_) (fun _ => ?_)
    · refine v_iinc (pc := 71) h dX0_laysFar_71 1 rfl (w := (i1_1 + (1 : Int32))) rfl (by decide) (lv' := [(1, .int (i1_1 + (1 : Int32))), (0, .ref o), (2, .int i2_18)]) rfl ?_
      refine v_goto (pc := 74) (t := 2) h dX0_laysFar_74 rfl ?_
      refine v_sub [1, 0] rfl ?_
      exact hX3 (i1_1 + (1 : Int32)) I19
    · refine v_aload_n (pc := 26) h dX0_laysFar_26 0 rfl rfl ?_
      refine v_getp (pc := 27) h dX0_laysFar_27 fX0_40 rfl (KpS.c h_o) (KpS.far h_o).1 ?_
      refine v_iload_n (pc := 30) h dX0_laysFar_30 1 rfl rfl ?_
      refine v_aaldk (pc := 31) h dX0_laysFar_31 (t := 5) (KpS.far h_o).2.1 rfl rfl (KpS.far h_o).2.2.1 (fun hin => ((KpS.far h_o).2.2.2 _ (vp_lt hin)).1) (fun h21 => ?_)
      refine v_iload_n (pc := 32) h dX0_laysFar_32 2 rfl rfl ?_
      refine v_iload_n (pc := 33) h dX0_laysFar_33 1 rfl rfl ?_
      refine v_iload_n (pc := 34) h dX0_laysFar_34 2 rfl rfl ?_
      refine v_jn1 (fun t22 => V g x 4 (0, 0) 64 [(0, .ref o), (1, .int i1_1), (2, .int i2_18)] [.int t22, .int i2_18, .ref (o + 2335 + i1_1.toNatClampNeg)] I19 r) (fun k23 hk23 => ?_) (fun t22 => ?_)
      · refine v_icmp_ne (pc := 35) (t := 42) h dX0_laysFar_35 rfl (fun _ => ?_) (fun _ => ?_)
        · refine v_aload_n (pc := 42) h dX0_laysFar_42 0 rfl rfl ?_
          refine v_iload_n (pc := 43) h dX0_laysFar_43 1 rfl rfl ?_
          refine v_iload_n (pc := 44) h dX0_laysFar_44 2 rfl rfl ?_
          refine v_callP (pc := 45) h dX0_laysFar_45 kX0_233 rfl (KpS.c h_o) (tX0_street o i1_1 i2_18 I19 r h_o) (by decide) rfl rfl (Nat.le_of_ble_eq_true rfl) ⟨Nat.zero_le _, Nat.zero_le _⟩ (fun r24 => ?_)
          refine v_iconst (pc := 48) h dX0_laysFar_48 (v := (-1)) rfl ?_
          refine v_icmp_ne (pc := 49) (t := 58) h dX0_laysFar_49 rfl (fun _ => ?_) (fun _ => ?_)
          · refine v_aload_n (pc := 58) h dX0_laysFar_58 0 rfl rfl ?_
            refine v_iload_n (pc := 59) h dX0_laysFar_59 1 rfl rfl ?_
            refine v_iload_n (pc := 60) h dX0_laysFar_60 2 rfl rfl ?_
            refine v_callP (pc := 61) h dX0_laysFar_61 kX0_233 rfl (KpS.c h_o) (tX0_street o i1_1 i2_18 I19 r h_o) (by decide) rfl rfl (Nat.le_of_ble_eq_true rfl) ⟨Nat.zero_le _, Nat.zero_le _⟩ (fun r25 => ?_)
            exact hk23 r25
          · refine v_ldcw (pc := 52) h dX0_laysFar_52 (v := (100000000)) q1216 ?_
            refine v_goto (pc := 55) (t := 64) h dX0_laysFar_55 rfl ?_
            exact hk23 (100000000 : Int32)
        · refine v_iconst (pc := 38) h dX0_laysFar_38 (v := 0) rfl ?_
          refine v_goto (pc := 39) (t := 64) h dX0_laysFar_39 rfl ?_
          exact hk23 (0 : Int32)
      · refine v_iast (pc := 64) h dX0_laysFar_64 ((KpS.far h_o).2.2.2 _ (vp_lt h21)).2.1 ((KpS.far h_o).2.2.2 _ (vp_lt h21)).2.2 ?_
        refine v_nmI (fun I26 => ?_)
        refine v_iinc (pc := 65) h dX0_laysFar_65 2 rfl (w := (i2_18 + (1 : Int32))) rfl (by decide) (lv' := [(2, .int (i2_18 + (1 : Int32))), (0, .ref o), (1, .int i1_1)]) rfl ?_
        refine v_goto (pc := 68) (t := 15) h dX0_laysFar_68 rfl ?_
        refine v_sub [1, 2, 0] rfl ?_
        exact hX20 (i2_18 + (1 : Int32)) I26
set_option maxHeartbeats 4000000 in
theorem tX0_laysWalks {g : Gl}  (o : Nat) (a1 : Int32) (a2 : Int32) (I : MI) (r : Rh) (h_o : KpS o r) : CtV g yX0_laysWalks cX0_laysWalks 7 1 [.ref o, .int a1, .int a2] I r (pX0_laysWalks o a1 a2 I r) := by
  refine CtV.mk (lv := [(0, .ref o), (1, .int a1), (2, .int a2)]) (by decide) (Nat.le_of_ble_eq_true rfl) rfl (fun x Q h hr => ?_)
  unfold pX0_laysWalks
  refine v_iconst (pc := 0) h dX0_laysWalks_0 (v := 1) rfl ?_
  refine v_istore_n (pc := 1) h dX0_laysWalks_1 rfl (by decide) (lv' := [(3, .int (1 : Int32)), (0, .ref o), (1, .int a1), (2, .int a2)]) rfl ?_
  refine v_sub [1, 2, 3, 0] rfl ?_
  refine L2.run (lv := fun i3_1 I2 => [(0, .ref o), (1, .int a1), (2, .int a2), (3, .int i3_1)]) (st := fun i3_1 I2 => []) (Im := fun i3_1 I2 => I2) (r := fun i3_1 I2 => r) (fun X3 hX3 i3_1 I2 => ?_) (1 : Int32) I
  refine v_iload_n (pc := 2) h dX0_laysWalks_2 3 rfl rfl ?_
  refine v_iconst (pc := 3) h dX0_laysWalks_3 (v := 1) rfl ?_
  refine v_iload_n (pc := 4) h dX0_laysWalks_4 2 rfl rfl ?_
  refine v_ishl (pc := 5) h dX0_laysWalks_5 ?_
  refine v_icmp_ge (pc := 6) (t := 176) h dX0_laysWalks_6 rfl (fun _ => ?_) (fun _ => ?_)
  · exact v_vret (pc := 176) h hr dX0_laysWalks_176
  · refine v_iconst (pc := 9) h dX0_laysWalks_9 (v := 0) rfl ?_
    refine v_istore (pc := 10) h dX0_laysWalks_10 (by decide) (lv' := [(4, .int (0 : Int32)), (0, .ref o), (1, .int a1), (2, .int a2), (3, .int i3_1)]) rfl ?_
    refine v_sub [1, 2, 3, 4, 0] rfl ?_
    refine L2.run (lv := fun i4_4 I5 => [(0, .ref o), (1, .int a1), (2, .int a2), (3, .int i3_1), (4, .int i4_4)]) (st := fun i4_4 I5 => []) (Im := fun i4_4 I5 => I5) (r := fun i4_4 I5 => r) (fun X6 hX6 i4_4 I5 => ?_) (0 : Int32) I2
    refine v_iload (pc := 12) h dX0_laysWalks_12 4 rfl ?_
    refine v_iload_n (pc := 14) h dX0_laysWalks_14 2 rfl rfl ?_
    refine v_icmp_ge (pc := 15) (t := 170) h dX0_laysWalks_15 rfl (fun _ => ?_) (fun _ => ?_)
    · refine v_iinc (pc := 170) h dX0_laysWalks_170 3 rfl (w := (i3_1 + (1 : Int32))) rfl (by decide) (lv' := [(3, .int (i3_1 + (1 : Int32))), (0, .ref o), (1, .int a1), (2, .int a2), (4, .int i4_4)]) rfl ?_
      refine v_goto (pc := 173) (t := 2) h dX0_laysWalks_173 rfl ?_
      refine v_sub [1, 2, 3, 0] rfl ?_
      exact hX3 (i3_1 + (1 : Int32)) I5
    · refine v_aload_n (pc := 18) h dX0_laysWalks_18 0 rfl rfl ?_
      refine v_getp (pc := 19) h dX0_laysWalks_19 fX0_43 rfl (KpS.c h_o) (KpS.walked h_o).1 ?_
      refine v_iload_n (pc := 22) h dX0_laysWalks_22 3 rfl rfl ?_
      refine v_aaldk (pc := 23) h dX0_laysWalks_23 (t := 5) (KpS.walked h_o).2.1 rfl rfl (KpS.walked h_o).2.2.1 (fun hin => ((KpS.walked h_o).2.2.2 _ (vp_lt hin)).1) (fun h7 => ?_)
      refine v_iload (pc := 24) h dX0_laysWalks_24 4 rfl ?_
      refine v_ldcw (pc := 26) h dX0_laysWalks_26 (v := (100000000)) q1216 ?_
      refine v_iast (pc := 29) h dX0_laysWalks_29 ((KpS.walked h_o).2.2.2 _ (vp_lt h7)).2.1 ((KpS.walked h_o).2.2.2 _ (vp_lt h7)).2.2 ?_
      refine v_nmI (fun I8 => ?_)
      refine v_iload_n (pc := 30) h dX0_laysWalks_30 3 rfl rfl ?_
      refine v_iload (pc := 31) h dX0_laysWalks_31 4 rfl ?_
      refine v_ishr (pc := 33) h dX0_laysWalks_33 ?_
      refine v_iconst (pc := 34) h dX0_laysWalks_34 (v := 1) rfl ?_
      refine v_iand (pc := 35) h dX0_laysWalks_35 ?_
      refine v_jn1 (fun I9 => V g x 7 (0, 0) 164 [(0, .ref o), (1, .int a1), (2, .int a2), (3, .int i3_1), (4, .int i4_4)] [] I9 r) (fun k10 hk10 => ?_) (fun I9 => ?_)
      · refine v_if_ne (pc := 36) (t := 42) h dX0_laysWalks_36 rfl (fun _ => ?_) (fun _ => ?_)
        · refine v_iload_n (pc := 42) h dX0_laysWalks_42 3 rfl rfl ?_
          refine v_iconst (pc := 43) h dX0_laysWalks_43 (v := 1) rfl ?_
          refine v_iload (pc := 44) h dX0_laysWalks_44 4 rfl ?_
          refine v_ishl (pc := 46) h dX0_laysWalks_46 ?_
          refine v_iconst (pc := 47) h dX0_laysWalks_47 (v := (-1)) rfl ?_
          refine v_ixor (pc := 48) h dX0_laysWalks_48 ?_
          refine v_iand (pc := 49) h dX0_laysWalks_49 ?_
          refine v_nmi (fun v11 => ?_)
          refine v_istore (pc := 50) h dX0_laysWalks_50 (by decide) (lv' := [(5, .int v11), (0, .ref o), (1, .int a1), (2, .int a2), (3, .int i3_1), (4, .int i4_4)]) rfl ?_
          refine v_iload (pc := 52) h dX0_laysWalks_52 0 rfl ?_
          refine v_jn1 (fun I12 => V g x 7 (0, 0) 86 [(0, .ref o), (1, .int a1), (2, .int a2), (3, .int i3_1), (4, .int i4_4), (5, .int v11)] [] I12 r) (fun k13 hk13 => ?_) (fun I12 => ?_)
          · refine v_if_ne (pc := 54) (t := 86) h dX0_laysWalks_54 rfl (fun _ => ?_) (fun _ => ?_)
            · refine v_sub [1, 2, 3, 4, 5, 0] rfl ?_
              exact hk13 I8
            · refine v_aload_n (pc := 57) h dX0_laysWalks_57 1 rfl rfl ?_
              refine v_getp (pc := 58) h dX0_laysWalks_58 fX0_43 rfl (KpS.c h_o) (KpS.walked h_o).1 ?_
              refine v_iload_n (pc := 61) h dX0_laysWalks_61 4 rfl rfl ?_
              refine v_aaldk (pc := 62) h dX0_laysWalks_62 (t := 5) (KpS.walked h_o).2.1 rfl rfl (KpS.walked h_o).2.2.1 (fun hin => ((KpS.walked h_o).2.2.2 _ (vp_lt hin)).1) (fun h14 => ?_)
              refine v_iload (pc := 63) h dX0_laysWalks_63 5 rfl ?_
              refine v_ldcw (pc := 65) h dX0_laysWalks_65 (v := (100000000)) q1216 ?_
              refine v_aload_n (pc := 68) h dX0_laysWalks_68 1 rfl rfl ?_
              refine v_getp (pc := 69) h dX0_laysWalks_69 fX0_40 rfl (KpS.c h_o) (KpS.far h_o).1 ?_
              refine v_iload_n (pc := 72) h dX0_laysWalks_72 2 rfl rfl ?_
              refine v_aaldk (pc := 73) h dX0_laysWalks_73 (t := 5) (KpS.far h_o).2.1 rfl rfl (KpS.far h_o).2.2.1 (fun hin => ((KpS.far h_o).2.2.2 _ (vp_lt hin)).1) (fun h15 => ?_)
              refine v_aload_n (pc := 74) h dX0_laysWalks_74 1 rfl rfl ?_
              refine v_getp (pc := 75) h dX0_laysWalks_75 fX0_46 rfl (KpS.c h_o) (KpS.goal h_o).1 ?_
              refine v_iload (pc := 78) h dX0_laysWalks_78 5 rfl ?_
              refine v_iald (pc := 80) h dX0_laysWalks_80 (KpS.goal h_o).2.1 (KpS.goal h_o).2.2 ?_
              refine v_iald (pc := 81) h dX0_laysWalks_81 ((KpS.far h_o).2.2.2 _ (vp_lt h15)).2.1 ((KpS.far h_o).2.2.2 _ (vp_lt h15)).2.2 ?_
              refine v_mmin (pc := 82) h dX0_laysWalks_82 q1103 (by decide) (Nat.le_of_ble_eq_true rfl) ⟨Nat.zero_le _, Nat.zero_le _⟩ ?_
              refine v_iast (pc := 85) h dX0_laysWalks_85 ((KpS.walked h_o).2.2.2 _ (vp_lt h14)).2.1 ((KpS.walked h_o).2.2.2 _ (vp_lt h14)).2.2 ?_
              refine v_nmI (fun I16 => ?_)
              refine v_sub [1, 2, 3, 4, 5, 0] rfl ?_
              exact hk13 I16
          · refine v_iconst (pc := 86) h dX0_laysWalks_86 (v := 0) rfl ?_
            refine v_istore (pc := 87) h dX0_laysWalks_87 (by decide) (lv' := [(6, .int (0 : Int32)), (0, .ref o), (1, .int a1), (2, .int a2), (3, .int i3_1), (4, .int i4_4), (5, .int v11)]) rfl ?_
            refine v_sub [1, 2, 3, 4, 5, 6, 0] rfl ?_
            refine L2.run (lv := fun i6_17 I18 => [(0, .ref o), (1, .int a1), (2, .int a2), (3, .int i3_1), (4, .int i4_4), (5, .int v11), (6, .int i6_17)]) (st := fun i6_17 I18 => []) (Im := fun i6_17 I18 => I18) (r := fun i6_17 I18 => r) (fun X19 hX19 i6_17 I18 => ?_) (0 : Int32) I12
            refine v_iload (pc := 89) h dX0_laysWalks_89 6 rfl ?_
            refine v_iload_n (pc := 91) h dX0_laysWalks_91 2 rfl rfl ?_
            refine v_icmp_ge (pc := 92) (t := 164) h dX0_laysWalks_92 rfl (fun _ => ?_) (fun _ => ?_)
            · refine v_sub [0, 1, 2, 3, 4] rfl ?_
              exact hk10 I18
            · refine v_iload (pc := 95) h dX0_laysWalks_95 5 rfl ?_
              refine v_iload (pc := 97) h dX0_laysWalks_97 6 rfl ?_
              refine v_ishr (pc := 99) h dX0_laysWalks_99 ?_
              refine v_iconst (pc := 100) h dX0_laysWalks_100 (v := 1) rfl ?_
              refine v_iand (pc := 101) h dX0_laysWalks_101 ?_
              refine v_iconst (pc := 102) h dX0_laysWalks_102 (v := 1) rfl ?_
              refine v_jn1 (fun I20 => V g x 7 (0, 0) 158 [(0, .ref o), (1, .int a1), (2, .int a2), (3, .int i3_1), (4, .int i4_4), (5, .int v11), (6, .int i6_17)] [] I20 r) (fun k21 hk21 => ?_) (fun I20 => ?_)
              · refine v_icmp_ne (pc := 103) (t := 158) h dX0_laysWalks_103 rfl (fun _ => ?_) (fun _ => ?_)
                · exact hk21 I18
                · refine v_aload_n (pc := 106) h dX0_laysWalks_106 0 rfl rfl ?_
                  refine v_getp (pc := 107) h dX0_laysWalks_107 fX0_43 rfl (KpS.c h_o) (KpS.walked h_o).1 ?_
                  refine v_iload_n (pc := 110) h dX0_laysWalks_110 3 rfl rfl ?_
                  refine v_aaldk (pc := 111) h dX0_laysWalks_111 (t := 5) (KpS.walked h_o).2.1 rfl rfl (KpS.walked h_o).2.2.1 (fun hin => ((KpS.walked h_o).2.2.2 _ (vp_lt hin)).1) (fun h22 => ?_)
                  refine v_iload (pc := 112) h dX0_laysWalks_112 4 rfl ?_
                  refine v_aload_n (pc := 114) h dX0_laysWalks_114 0 rfl rfl ?_
                  refine v_getp (pc := 115) h dX0_laysWalks_115 fX0_43 rfl (KpS.c h_o) (KpS.walked h_o).1 ?_
                  refine v_iload_n (pc := 118) h dX0_laysWalks_118 3 rfl rfl ?_
                  refine v_aaldk (pc := 119) h dX0_laysWalks_119 (t := 5) (KpS.walked h_o).2.1 rfl rfl (KpS.walked h_o).2.2.1 (fun hin => ((KpS.walked h_o).2.2.2 _ (vp_lt hin)).1) (fun h23 => ?_)
                  refine v_iload (pc := 120) h dX0_laysWalks_120 4 rfl ?_
                  refine v_iald (pc := 122) h dX0_laysWalks_122 ((KpS.walked h_o).2.2.2 _ (vp_lt h23)).2.1 ((KpS.walked h_o).2.2.2 _ (vp_lt h23)).2.2 ?_
                  refine v_aload_n (pc := 123) h dX0_laysWalks_123 0 rfl rfl ?_
                  refine v_getp (pc := 124) h dX0_laysWalks_124 fX0_43 rfl (KpS.c h_o) (KpS.walked h_o).1 ?_
                  refine v_iload (pc := 127) h dX0_laysWalks_127 5 rfl ?_
                  refine v_aaldk (pc := 129) h dX0_laysWalks_129 (t := 5) (KpS.walked h_o).2.1 rfl rfl (KpS.walked h_o).2.2.1 (fun hin => ((KpS.walked h_o).2.2.2 _ (vp_lt hin)).1) (fun h24 => ?_)
                  refine v_iload (pc := 130) h dX0_laysWalks_130 6 rfl ?_
                  refine v_iald (pc := 132) h dX0_laysWalks_132 ((KpS.walked h_o).2.2.2 _ (vp_lt h24)).2.1 ((KpS.walked h_o).2.2.2 _ (vp_lt h24)).2.2 ?_
                  refine v_aload_n (pc := 133) h dX0_laysWalks_133 0 rfl rfl ?_
                  refine v_getp (pc := 134) h dX0_laysWalks_134 fX0_40 rfl (KpS.c h_o) (KpS.far h_o).1 ?_
                  refine v_aload_n (pc := 137) h dX0_laysWalks_137 0 rfl rfl ?_
                  refine v_getp (pc := 138) h dX0_laysWalks_138 fX0_46 rfl (KpS.c h_o) (KpS.goal h_o).1 ?_
                  refine v_iload (pc := 141) h dX0_laysWalks_141 6 rfl ?_
                  refine v_iald (pc := 143) h dX0_laysWalks_143 (KpS.goal h_o).2.1 (KpS.goal h_o).2.2 ?_
                  refine v_aaldk (pc := 144) h dX0_laysWalks_144 (t := 5) (KpS.far h_o).2.1 rfl rfl (KpS.far h_o).2.2.1 (fun hin => ((KpS.far h_o).2.2.2 _ (vp_lt hin)).1) (fun h25 => ?_)
                  refine v_aload_n (pc := 145) h dX0_laysWalks_145 0 rfl rfl ?_
                  refine v_getp (pc := 146) h dX0_laysWalks_146 fX0_46 rfl (KpS.c h_o) (KpS.goal h_o).1 ?_
                  refine v_iload (pc := 149) h dX0_laysWalks_149 4 rfl ?_
                  refine v_iald (pc := 151) h dX0_laysWalks_151 (KpS.goal h_o).2.1 (KpS.goal h_o).2.2 ?_
                  refine v_iald (pc := 152) h dX0_laysWalks_152 ((KpS.far h_o).2.2.2 _ (vp_lt h25)).2.1 ((KpS.far h_o).2.2.2 _ (vp_lt h25)).2.2 ?_
                  refine v_iadd (pc := 153) h dX0_laysWalks_153 ?_
                  refine v_mmin (pc := 154) h dX0_laysWalks_154 q1103 (by decide) (Nat.le_of_ble_eq_true rfl) ⟨Nat.zero_le _, Nat.zero_le _⟩ ?_
                  refine v_iast (pc := 157) h dX0_laysWalks_157 ((KpS.walked h_o).2.2.2 _ (vp_lt h23)).2.1 ((KpS.walked h_o).2.2.2 _ (vp_lt h23)).2.2 ?_
                  refine v_nmI (fun I26 => ?_)
                  exact hk21 I26
              · refine v_iinc (pc := 158) h dX0_laysWalks_158 6 rfl (w := (i6_17 + (1 : Int32))) rfl (by decide) (lv' := [(6, .int (i6_17 + (1 : Int32))), (0, .ref o), (1, .int a1), (2, .int a2), (3, .int i3_1), (4, .int i4_4), (5, .int v11)]) rfl ?_
                refine v_goto (pc := 161) (t := 89) h dX0_laysWalks_161 rfl ?_
                refine v_sub [1, 2, 3, 4, 5, 6, 0] rfl ?_
                exact hX19 (i6_17 + (1 : Int32)) I20
        · refine v_goto (pc := 39) (t := 164) h dX0_laysWalks_39 rfl ?_
          exact hk10 I8
      · refine v_iinc (pc := 164) h dX0_laysWalks_164 4 rfl (w := (i4_4 + (1 : Int32))) rfl (by decide) (lv' := [(4, .int (i4_4 + (1 : Int32))), (0, .ref o), (1, .int a1), (2, .int a2), (3, .int i3_1)]) rfl ?_
        refine v_goto (pc := 167) (t := 12) h dX0_laysWalks_167 rfl ?_
        refine v_sub [1, 2, 3, 4, 0] rfl ?_
        exact hX6 (i4_4 + (1 : Int32)) I9
set_option maxHeartbeats 4000000 in
theorem tX0_shortest {g : Gl}  (o : Nat) (a1 : Int32) (a2 : Int32) (I : MI) (r : Rh) (h_o : KpS o r) : CtI g yX0_shortest cX0_shortest 7 (some .int) 3 [.ref o, .int a1, .int a2] I r (pX0_shortest o a1 a2 I r) := by
  refine CtI.mk (lv := [(0, .ref o), (1, .int a1), (2, .int a2)]) (by decide) (Nat.le_of_ble_eq_true rfl) rfl (fun x Q h hr => ?_)
  unfold pX0_shortest
  refine v_aload_n (pc := 0) h dX0_shortest_0 0 rfl rfl ?_
  refine v_iload_n (pc := 1) h dX0_shortest_1 1 rfl rfl ?_
  refine v_callP (pc := 2) h dX0_shortest_2 kX0_170 rfl (KpS.c h_o) (tX0_isDoor o a1 I r h_o) (by decide) rfl rfl (Nat.le_of_ble_eq_true rfl) ⟨Nat.zero_le _, Nat.zero_le _⟩ (fun r1 => ?_)
  refine v_if_eq (pc := 5) (t := 17) h dX0_shortest_5 rfl (fun _ => ?_) (fun _ => ?_)
  · refine v_iconst (pc := 17) h dX0_shortest_17 (v := (-1)) rfl ?_
    exact v_iret (pc := 18) h hr dX0_shortest_18
  · refine v_iload_n (pc := 8) h dX0_shortest_8 2 rfl rfl ?_
    refine v_iconst (pc := 9) h dX0_shortest_9 (v := 0) rfl ?_
    refine v_iconst (pc := 10) h dX0_shortest_10 (v := 1) rfl ?_
    refine v_callsp (pc := 11) h dX0_shortest_11 sX0_78 (tX0_isIn a2 (0 : Int32) (1 : Int32) I r ) (by decide) rfl rfl (Nat.le_of_ble_eq_true rfl) ⟨Nat.zero_le _, Nat.zero_le _⟩ (fun r2 => ?_)
    refine v_if_ne (pc := 14) (t := 19) h dX0_shortest_14 rfl (fun _ => ?_) (fun _ => ?_)
    · refine v_aload_n (pc := 19) h dX0_shortest_19 0 rfl rfl ?_
      refine v_iload_n (pc := 20) h dX0_shortest_20 1 rfl rfl ?_
      refine v_callI (pc := 21) h dX0_shortest_21 kX0_279 rfl (KpS.c h_o) (tX0_laysGoals o a1 I r h_o) (by decide) rfl rfl (Nat.le_of_ble_eq_true rfl) ⟨Nat.zero_le _, Nat.zero_le _⟩ (fun r3 I4 => ?_)
      refine v_istore_n (pc := 24) h dX0_shortest_24 rfl (by decide) (lv' := [(3, .int r3), (0, .ref o), (1, .int a1), (2, .int a2)]) rfl ?_
      refine v_iload_n (pc := 25) h dX0_shortest_25 0 rfl rfl ?_
      refine v_iconst (pc := 26) h dX0_shortest_26 (v := 1) rfl ?_
      refine v_icmp_ge (pc := 27) (t := 49) h dX0_shortest_27 rfl (fun _ => ?_) (fun _ => ?_)
      · refine v_aload_n (pc := 49) h dX0_shortest_49 1 rfl rfl ?_
        refine v_callV (pc := 50) h dX0_shortest_50 kX0_282 rfl (KpS.c h_o) (tX0_laysFar o I4 r h_o) (by decide) rfl rfl (Nat.le_of_ble_eq_true rfl) ⟨Nat.zero_le _, Nat.zero_le _⟩ (fun I5 => ?_)
        refine v_aload_n (pc := 53) h dX0_shortest_53 1 rfl rfl ?_
        refine v_iload_n (pc := 54) h dX0_shortest_54 2 rfl rfl ?_
        refine v_iload_n (pc := 55) h dX0_shortest_55 0 rfl rfl ?_
        refine v_callV (pc := 56) h dX0_shortest_56 kX0_285 rfl (KpS.c h_o) (tX0_laysWalks o a1 r3 I5 r h_o) (by decide) rfl rfl (Nat.le_of_ble_eq_true rfl) ⟨Nat.zero_le _, Nat.zero_le _⟩ (fun I6 => ?_)
        refine v_iconst (pc := 59) h dX0_shortest_59 (v := 1) rfl ?_
        refine v_iload_n (pc := 60) h dX0_shortest_60 0 rfl rfl ?_
        refine v_ishl (pc := 61) h dX0_shortest_61 ?_
        refine v_iconst (pc := 62) h dX0_shortest_62 (v := 1) rfl ?_
        refine v_isub (pc := 63) h dX0_shortest_63 ?_
        refine v_nmi (fun v7 => ?_)
        refine v_istore (pc := 64) h dX0_shortest_64 (by decide) (lv' := [(4, .int v7), (3, .int r3), (0, .ref o), (1, .int a1), (2, .int a2)]) rfl ?_
        refine v_iconst (pc := 66) h dX0_shortest_66 (v := 0) rfl ?_
        refine v_istore (pc := 67) h dX0_shortest_67 (by decide) (lv' := [(5, .int (0 : Int32)), (4, .int v7), (3, .int r3), (0, .ref o), (1, .int a1), (2, .int a2)]) rfl ?_
        refine v_iconst (pc := 69) h dX0_shortest_69 (v := 1) rfl ?_
        refine v_istore (pc := 70) h dX0_shortest_70 (by decide) (lv' := [(6, .int (1 : Int32)), (5, .int (0 : Int32)), (4, .int v7), (3, .int r3), (0, .ref o), (1, .int a1), (2, .int a2)]) rfl ?_
        refine v_sub [4, 6, 3, 2, 1, 0] rfl ?_
        refine L2.run (lv := fun i5_8 i6_9 => [(0, .ref o), (2, .int a2), (3, .int r3), (4, .int v7), (5, .int i5_8), (6, .int i6_9)]) (st := fun i5_8 i6_9 => []) (Im := fun i5_8 i6_9 => I6) (r := fun i5_8 i6_9 => r) (fun X10 hX10 i5_8 i6_9 => ?_) (0 : Int32) (1 : Int32)
        refine v_iload (pc := 72) h dX0_shortest_72 5 rfl ?_
        refine v_iload_n (pc := 74) h dX0_shortest_74 2 rfl rfl ?_
        refine v_icmp_ge (pc := 75) (t := 111) h dX0_shortest_75 rfl (fun _ => ?_) (fun _ => ?_)
        · refine v_aload_n (pc := 111) h dX0_shortest_111 0 rfl rfl ?_
          refine v_getp (pc := 112) h dX0_shortest_112 fX0_43 rfl (KpS.c h_o) (KpS.walked h_o).1 ?_
          refine v_iload (pc := 115) h dX0_shortest_115 3 rfl ?_
          refine v_aaldk (pc := 117) h dX0_shortest_117 (t := 5) (KpS.walked h_o).2.1 rfl rfl (KpS.walked h_o).2.2.1 (fun hin => ((KpS.walked h_o).2.2.2 _ (vp_lt hin)).1) (fun h11 => ?_)
          refine v_iload (pc := 118) h dX0_shortest_118 4 rfl ?_
          refine v_iald (pc := 120) h dX0_shortest_120 ((KpS.walked h_o).2.2.2 _ (vp_lt h11)).2.1 ((KpS.walked h_o).2.2.2 _ (vp_lt h11)).2.2 ?_
          refine v_ldcw (pc := 121) h dX0_shortest_121 (v := (100000000)) q1216 ?_
          refine v_icmp_lt (pc := 124) (t := 131) h dX0_shortest_124 rfl (fun _ => ?_) (fun _ => ?_)
          · refine v_iload_n (pc := 131) h dX0_shortest_131 1 rfl rfl ?_
            refine v_if_ne (pc := 132) (t := 148) h dX0_shortest_132 rfl (fun _ => ?_) (fun _ => ?_)
            · refine v_aload_n (pc := 148) h dX0_shortest_148 0 rfl rfl ?_
              refine v_getp (pc := 149) h dX0_shortest_149 fX0_46 rfl (KpS.c h_o) (KpS.goal h_o).1 ?_
              refine v_iload (pc := 152) h dX0_shortest_152 4 rfl ?_
              refine v_iald (pc := 154) h dX0_shortest_154 (KpS.goal h_o).2.1 (KpS.goal h_o).2.2 ?_
              exact v_iret (pc := 155) h hr dX0_shortest_155
            · refine v_aload_n (pc := 135) h dX0_shortest_135 0 rfl rfl ?_
              refine v_getp (pc := 136) h dX0_shortest_136 fX0_43 rfl (KpS.c h_o) (KpS.walked h_o).1 ?_
              refine v_iload (pc := 139) h dX0_shortest_139 3 rfl ?_
              refine v_aaldk (pc := 141) h dX0_shortest_141 (t := 5) (KpS.walked h_o).2.1 rfl rfl (KpS.walked h_o).2.2.1 (fun hin => ((KpS.walked h_o).2.2.2 _ (vp_lt hin)).1) (fun h12 => ?_)
              refine v_iload (pc := 142) h dX0_shortest_142 4 rfl ?_
              refine v_iald (pc := 144) h dX0_shortest_144 ((KpS.walked h_o).2.2.2 _ (vp_lt h12)).2.1 ((KpS.walked h_o).2.2.2 _ (vp_lt h12)).2.2 ?_
              refine v_goto (pc := 145) (t := 155) h dX0_shortest_145 rfl ?_
              exact v_iret (pc := 155) h hr dX0_shortest_155
          · refine v_iconst (pc := 127) h dX0_shortest_127 (v := (-1)) rfl ?_
            refine v_goto (pc := 128) (t := 155) h dX0_shortest_128 rfl ?_
            exact v_iret (pc := 155) h hr dX0_shortest_155
        · refine v_aload_n (pc := 78) h dX0_shortest_78 0 rfl rfl ?_
          refine v_getp (pc := 79) h dX0_shortest_79 fX0_43 rfl (KpS.c h_o) (KpS.walked h_o).1 ?_
          refine v_iload (pc := 82) h dX0_shortest_82 3 rfl ?_
          refine v_aaldk (pc := 84) h dX0_shortest_84 (t := 5) (KpS.walked h_o).2.1 rfl rfl (KpS.walked h_o).2.2.1 (fun hin => ((KpS.walked h_o).2.2.2 _ (vp_lt hin)).1) (fun h13 => ?_)
          refine v_iload (pc := 85) h dX0_shortest_85 5 rfl ?_
          refine v_iald (pc := 87) h dX0_shortest_87 ((KpS.walked h_o).2.2.2 _ (vp_lt h13)).2.1 ((KpS.walked h_o).2.2.2 _ (vp_lt h13)).2.2 ?_
          refine v_aload_n (pc := 88) h dX0_shortest_88 0 rfl rfl ?_
          refine v_getp (pc := 89) h dX0_shortest_89 fX0_43 rfl (KpS.c h_o) (KpS.walked h_o).1 ?_
          refine v_iload (pc := 92) h dX0_shortest_92 3 rfl ?_
          refine v_aaldk (pc := 94) h dX0_shortest_94 (t := 5) (KpS.walked h_o).2.1 rfl rfl (KpS.walked h_o).2.2.1 (fun hin => ((KpS.walked h_o).2.2.2 _ (vp_lt hin)).1) (fun h14 => ?_)
          refine v_iload (pc := 95) h dX0_shortest_95 4 rfl ?_
          refine v_iald (pc := 97) h dX0_shortest_97 ((KpS.walked h_o).2.2.2 _ (vp_lt h14)).2.1 ((KpS.walked h_o).2.2.2 _ (vp_lt h14)).2.2 ?_
          refine v_jn1 (fun v5_15 => V g x 7 (0, 0) 105 [(0, .ref o), (2, .int a2), (3, .int r3), (4, .int v7), (5, .int v5_15), (6, .int i6_9)] [] I6 r) (fun k16 hk16 => ?_) (fun v5_15 => ?_)
          · refine v_icmp_ge (pc := 98) (t := 105) h dX0_shortest_98 rfl (fun _ => ?_) (fun _ => ?_)
            · exact hk16 i5_8
            · refine v_iload (pc := 101) h dX0_shortest_101 5 rfl ?_
              refine v_istore (pc := 103) h dX0_shortest_103 (by decide) (lv' := [(5, .int i6_9), (0, .ref o), (2, .int a2), (3, .int r3), (4, .int v7), (6, .int i6_9)]) rfl ?_
              refine v_sub [1, 2, 3, 4, 0, 5] rfl ?_
              exact hk16 i6_9
          · refine v_iinc (pc := 105) h dX0_shortest_105 5 rfl (w := (i6_9 + (1 : Int32))) rfl (by decide) (lv' := [(6, .int (i6_9 + (1 : Int32))), (0, .ref o), (2, .int a2), (3, .int r3), (4, .int v7), (5, .int v5_15)]) rfl ?_
            refine v_goto (pc := 108) (t := 72) h dX0_shortest_108 rfl ?_
            refine v_sub [1, 2, 3, 4, 5, 0] rfl ?_
            exact hX10 v5_15 (i6_9 + (1 : Int32))
      · refine v_iload_n (pc := 30) h dX0_shortest_30 0 rfl rfl ?_
        refine v_iconst (pc := 31) h dX0_shortest_31 (v := (-1)) rfl ?_
        refine v_icmp_ne (pc := 32) (t := 39) h dX0_shortest_32 rfl (fun _ => ?_) (fun _ => ?_)
        · refine v_iload_n (pc := 39) h dX0_shortest_39 3 rfl rfl ?_
          refine v_if_ne (pc := 40) (t := 47) h dX0_shortest_40 rfl (fun _ => ?_) (fun _ => ?_)
          · refine v_iload_n (pc := 47) h dX0_shortest_47 2 rfl rfl ?_
            exact v_iret (pc := 48) h hr dX0_shortest_48
          · refine v_iconst (pc := 43) h dX0_shortest_43 (v := 0) rfl ?_
            refine v_goto (pc := 44) (t := 48) h dX0_shortest_44 rfl ?_
            exact v_iret (pc := 48) h hr dX0_shortest_48
        · refine v_iconst (pc := 35) h dX0_shortest_35 (v := (-1)) rfl ?_
          refine v_goto (pc := 36) (t := 48) h dX0_shortest_36 rfl ?_
          exact v_iret (pc := 48) h hr dX0_shortest_48
    · refine v_iconst (pc := 17) h dX0_shortest_17 (v := (-1)) rfl ?_
      exact v_iret (pc := 18) h hr dX0_shortest_18
set_option maxHeartbeats 4000000 in
theorem tX0_box {g : Gl}  (o : Nat) (a1 : Int32) (I : MI) (r : Rh) (h_o : KpS o r) : CtI g yX0_box cX0_box 7 (some .int) 3 [.ref o, .int a1] I r (pX0_box o a1 I r) := by
  refine CtI.mk (lv := [(0, .ref o), (1, .int a1)]) (by decide) (Nat.le_of_ble_eq_true rfl) rfl (fun x Q h hr => ?_)
  unfold pX0_box
  refine v_iload_n (pc := 0) h dX0_box_0 1 rfl rfl ?_
  refine v_iconst (pc := 1) h dX0_box_1 (v := 0) rfl ?_
  refine v_iconst (pc := 2) h dX0_box_2 (v := 1) rfl ?_
  refine v_callsp (pc := 3) h dX0_box_3 sX0_78 (tX0_isIn a1 (0 : Int32) (1 : Int32) I r ) (by decide) rfl rfl (Nat.le_of_ble_eq_true rfl) ⟨Nat.zero_le _, Nat.zero_le _⟩ (fun r1 => ?_)
  refine v_if_ne (pc := 6) (t := 11) h dX0_box_6 rfl (fun _ => ?_) (fun _ => ?_)
  · refine v_aload_n (pc := 11) h dX0_box_11 0 rfl rfl ?_
    refine v_callV (pc := 12) h dX0_box_12 kX0_282 rfl (KpS.c h_o) (tX0_laysFar o I r h_o) (by decide) rfl rfl (Nat.le_of_ble_eq_true rfl) ⟨Nat.zero_le _, Nat.zero_le _⟩ (fun I2 => ?_)
    refine v_iconst (pc := 15) h dX0_box_15 (v := (-1)) rfl ?_
    refine v_istore_n (pc := 16) h dX0_box_16 rfl (by decide) (lv' := [(2, .int (-1 : Int32)), (0, .ref o), (1, .int a1)]) rfl ?_
    refine v_ldcw (pc := 17) h dX0_box_17 (v := (100000000)) q1216 ?_
    refine v_istore_n (pc := 20) h dX0_box_20 rfl (by decide) (lv' := [(3, .int (100000000 : Int32)), (2, .int (-1 : Int32)), (0, .ref o), (1, .int a1)]) rfl ?_
    refine v_iconst (pc := 21) h dX0_box_21 (v := 0) rfl ?_
    refine v_istore (pc := 22) h dX0_box_22 (by decide) (lv' := [(4, .int (0 : Int32)), (3, .int (100000000 : Int32)), (2, .int (-1 : Int32)), (0, .ref o), (1, .int a1)]) rfl ?_
    refine v_sub [3, 4, 2, 1, 0] rfl ?_
    refine L3.run (lv := fun i2_3 i3_4 i4_5 => [(0, .ref o), (1, .int a1), (2, .int i2_3), (3, .int i3_4), (4, .int i4_5)]) (st := fun i2_3 i3_4 i4_5 => []) (Im := fun i2_3 i3_4 i4_5 => I2) (r := fun i2_3 i3_4 i4_5 => r) (fun X6 hX6 i2_3 i3_4 i4_5 => ?_) (-1 : Int32) (100000000 : Int32) (0 : Int32)
    refine v_iload (pc := 24) h dX0_box_24 4 rfl ?_
    refine v_aload_n (pc := 26) h dX0_box_26 0 rfl rfl ?_
    refine v_getp (pc := 27) h dX0_box_27 fX0_20 rfl (KpS.c h_o) (KpS.walk h_o).1 ?_
    refine v_geti (pc := 30) h dX0_box_30 fX0_151 rfl (WkS.c (KpS.walk h_o).2) ?_
    refine v_icmp_ge (pc := 33) (t := 98) h dX0_box_33 rfl (fun _ => ?_) (fun _ => ?_)
    · refine v_iload_n (pc := 98) h dX0_box_98 2 rfl rfl ?_
      refine v_iconst (pc := 99) h dX0_box_99 (v := (-1)) rfl ?_
      refine v_jn0 (V g x 7 (0, 0) 107 [(2, .int i2_3)] [] I2 r) (fun k7 hk7 => ?_) ?_
      · refine v_icmp_eq (pc := 100) (t := 107) h dX0_box_100 rfl (fun _ => ?_) (fun _ => ?_)
        · refine v_sub [2] rfl ?_
          exact hk7
        · refine v_iload_n (pc := 103) h dX0_box_103 1 rfl rfl ?_
          refine v_if_ne (pc := 104) (t := 111) h dX0_box_104 rfl (fun _ => ?_) (fun _ => ?_)
          · refine v_iload_n (pc := 111) h dX0_box_111 3 rfl rfl ?_
            exact v_iret (pc := 112) h hr dX0_box_112
          · refine v_sub [2] rfl ?_
            exact hk7
      · refine v_iload_n (pc := 107) h dX0_box_107 0 rfl rfl ?_
        refine v_goto (pc := 108) (t := 112) h dX0_box_108 rfl ?_
        exact v_iret (pc := 112) h hr dX0_box_112
    · refine v_iconst (pc := 36) h dX0_box_36 (v := 0) rfl ?_
      refine v_istore (pc := 37) h dX0_box_37 (by decide) (lv' := [(5, .int (0 : Int32)), (0, .ref o), (1, .int a1), (2, .int i2_3), (3, .int i3_4), (4, .int i4_5)]) rfl ?_
      refine v_iconst (pc := 39) h dX0_box_39 (v := 0) rfl ?_
      refine v_istore (pc := 40) h dX0_box_40 (by decide) (lv' := [(6, .int (0 : Int32)), (5, .int (0 : Int32)), (0, .ref o), (1, .int a1), (2, .int i2_3), (3, .int i3_4), (4, .int i4_5)]) rfl ?_
      refine v_sub [2, 3, 4, 5, 6, 1, 0] rfl ?_
      refine L2.run (lv := fun i5_8 i6_9 => [(0, .ref o), (1, .int a1), (2, .int i2_3), (3, .int i3_4), (4, .int i4_5), (5, .int i5_8), (6, .int i6_9)]) (st := fun i5_8 i6_9 => []) (Im := fun i5_8 i6_9 => I2) (r := fun i5_8 i6_9 => r) (fun X10 hX10 i5_8 i6_9 => ?_) (0 : Int32) (0 : Int32)
      refine v_iload (pc := 42) h dX0_box_42 6 rfl ?_
      refine v_aload_n (pc := 44) h dX0_box_44 0 rfl rfl ?_
      refine v_getp (pc := 45) h dX0_box_45 fX0_20 rfl (KpS.c h_o) (KpS.walk h_o).1 ?_
      refine v_geti (pc := 48) h dX0_box_48 fX0_151 rfl (WkS.c (KpS.walk h_o).2) ?_
      refine v_icmp_ge (pc := 51) (t := 77) h dX0_box_51 rfl (fun _ => ?_) (fun _ => ?_)
      · refine v_iload (pc := 77) h dX0_box_77 5 rfl ?_
        refine v_iload_n (pc := 79) h dX0_box_79 3 rfl rfl ?_
        refine v_jn2 (fun v2_11 v3_12 => V g x 7 (0, 0) 92 [(0, .ref o), (1, .int a1), (2, .int v2_11), (3, .int v3_12), (4, .int i4_5)] [] I2 r) (fun k13 hk13 => ?_) (fun v2_11 v3_12 => ?_)
        · refine v_icmp_lt (pc := 80) (t := 86) h dX0_box_80 rfl (fun _ => ?_) (fun _ => ?_)
          · refine v_iload (pc := 86) h dX0_box_86 4 rfl ?_
            refine v_istore_n (pc := 88) h dX0_box_88 rfl (by decide) (lv' := [(2, .int i4_5), (0, .ref o), (1, .int a1), (3, .int i3_4), (4, .int i4_5), (5, .int i5_8), (6, .int i6_9)]) rfl ?_
            refine v_iload (pc := 89) h dX0_box_89 5 rfl ?_
            refine v_istore_n (pc := 91) h dX0_box_91 rfl (by decide) (lv' := [(3, .int i5_8), (2, .int i4_5), (0, .ref o), (1, .int a1), (4, .int i4_5), (5, .int i5_8), (6, .int i6_9)]) rfl ?_
            refine v_sub [2, 3, 1, 0, 4] rfl ?_
            exact hk13 i4_5 i5_8
          · refine v_goto (pc := 83) (t := 92) h dX0_box_83 rfl ?_
            refine v_sub [0, 1, 2, 3, 4] rfl ?_
            exact hk13 i2_3 i3_4
        · refine v_iinc (pc := 92) h dX0_box_92 4 rfl (w := (i4_5 + (1 : Int32))) rfl (by decide) (lv' := [(4, .int (i4_5 + (1 : Int32))), (0, .ref o), (1, .int a1), (2, .int v2_11), (3, .int v3_12)]) rfl ?_
          refine v_goto (pc := 95) (t := 24) h dX0_box_95 rfl ?_
          refine v_sub [1, 2, 3, 4, 0] rfl ?_
          exact hX6 v2_11 v3_12 (i4_5 + (1 : Int32))
      · refine v_iload (pc := 54) h dX0_box_54 5 rfl ?_
        refine v_aload_n (pc := 56) h dX0_box_56 0 rfl rfl ?_
        refine v_getp (pc := 57) h dX0_box_57 fX0_40 rfl (KpS.c h_o) (KpS.far h_o).1 ?_
        refine v_iload (pc := 60) h dX0_box_60 4 rfl ?_
        refine v_aaldk (pc := 62) h dX0_box_62 (t := 5) (KpS.far h_o).2.1 rfl rfl (KpS.far h_o).2.2.1 (fun hin => ((KpS.far h_o).2.2.2 _ (vp_lt hin)).1) (fun h14 => ?_)
        refine v_iload (pc := 63) h dX0_box_63 6 rfl ?_
        refine v_iald (pc := 65) h dX0_box_65 ((KpS.far h_o).2.2.2 _ (vp_lt h14)).2.1 ((KpS.far h_o).2.2.2 _ (vp_lt h14)).2.2 ?_
        refine v_mmax (pc := 66) h dX0_box_66 q1104 (by decide) (Nat.le_of_ble_eq_true rfl) ⟨Nat.zero_le _, Nat.zero_le _⟩ ?_
        refine v_nmi (fun v15 => ?_)
        refine v_istore (pc := 69) h dX0_box_69 (by decide) (lv' := [(5, .int v15), (0, .ref o), (1, .int a1), (2, .int i2_3), (3, .int i3_4), (4, .int i4_5), (6, .int i6_9)]) rfl ?_
        refine v_iinc (pc := 71) h dX0_box_71 6 rfl (w := (i6_9 + (1 : Int32))) rfl (by decide) (lv' := [(6, .int (i6_9 + (1 : Int32))), (5, .int v15), (0, .ref o), (1, .int a1), (2, .int i2_3), (3, .int i3_4), (4, .int i4_5)]) rfl ?_
        refine v_goto (pc := 74) (t := 42) h dX0_box_74 rfl ?_
        refine v_sub [2, 3, 4, 5, 6, 1, 0] rfl ?_
        exact hX10 v15 (i6_9 + (1 : Int32))
  · refine v_iconst (pc := 9) h dX0_box_9 (v := (-1)) rfl ?_
    exact v_iret (pc := 10) h hr dX0_box_10
set_option maxHeartbeats 4000000 in
theorem tX4_ends {g : Gl}  (o : Nat) (n_o : Nat) (I : MI) (r : Rh) (h_o : RwS o n_o r) : CtI g yX4_ends cX4_ends 1 (some .int) 1 [.ref o] I r (pX4_ends o n_o I r) := by
  refine CtI.mk (lv := [(0, .ref o)]) (by decide) (Nat.le_of_ble_eq_true rfl) rfl (fun x Q h hr => ?_)
  unfold pX4_ends
  refine v_aload_n (pc := 0) h dX4_ends_0 0 rfl rfl ?_
  refine v_iconst (pc := 1) h dX4_ends_1 (v := 0) rfl ?_
  refine v_puti (pc := 2) h dX4_ends_2 fX4_16 rfl h_o.1 ?_
  refine v_nmI (fun I1 => ?_)
  refine v_iconst (pc := 5) h dX4_ends_5 (v := 0) rfl ?_
  exact v_iret (pc := 6) h hr dX4_ends_6
set_option maxHeartbeats 4000000 in
theorem tX4_tells {g : Gl}  (o : Nat) (n_o : Nat) (a1 : Int32) (a2 : Int32) (a3 : Int32) (I : MI) (r : Rh) (h_o : RwS o n_o r) : CtI g yX4_tells cX4_tells 4 (some .int) 1 [.ref o, .int a1, .int a2, .int a3] I r (pX4_tells o n_o a1 a2 a3 I r) := by
  refine CtI.mk (lv := [(0, .ref o), (1, .int a1), (2, .int a2), (3, .int a3)]) (by decide) (Nat.le_of_ble_eq_true rfl) rfl (fun x Q h hr => ?_)
  unfold pX4_tells
  refine v_aload_n (pc := 0) h dX4_tells_0 0 rfl rfl ?_
  refine v_geti (pc := 1) h dX4_tells_1 fX4_16 rfl h_o.1 ?_
  refine v_aload_n (pc := 4) h dX4_tells_4 0 rfl rfl ?_
  refine v_getp (pc := 5) h dX4_tells_5 fX4_11 rfl h_o.1 h_o.2.1 ?_
  refine v_alen (pc := 8) h dX4_tells_8 (t := 5) h_o.2.2.1 rfl h_o.2.2.2.1 ?_
  refine v_icmp_ne (pc := 9) (t := 14) h dX4_tells_9 rfl (fun _ => ?_) (fun _ => ?_)
  · refine v_aload_n (pc := 14) h dX4_tells_14 0 rfl rfl ?_
    refine v_getp (pc := 15) h dX4_tells_15 fX4_11 rfl h_o.1 h_o.2.1 ?_
    refine v_aload_n (pc := 18) h dX4_tells_18 0 rfl rfl ?_
    refine v_geti (pc := 19) h dX4_tells_19 fX4_16 rfl h_o.1 ?_
    refine v_aaldk (pc := 22) h dX4_tells_22 (t := 5) h_o.2.2.1 rfl rfl h_o.2.2.2.1 (fun hin => (h_o.2.2.2.2 _ (vp_lt hin)).1) (fun h1 => ?_)
    refine v_iconst (pc := 23) h dX4_tells_23 (v := 0) rfl ?_
    refine v_iload_n (pc := 24) h dX4_tells_24 1 rfl rfl ?_
    refine v_iastL (pc := 25) h dX4_tells_25 (h_o.2.2.2.2 _ (vp_lt h1)).2.1 (h_o.2.2.2.2 _ (vp_lt h1)).2.2 (vpd rfl) (k := 0) rfl ?_
    refine v_nmI (fun I2 => ?_)
    refine v_aload_n (pc := 26) h dX4_tells_26 0 rfl rfl ?_
    refine v_getp (pc := 27) h dX4_tells_27 fX4_11 rfl h_o.1 h_o.2.1 ?_
    refine v_aload_n (pc := 30) h dX4_tells_30 0 rfl rfl ?_
    refine v_geti (pc := 31) h dX4_tells_31 fX4_16 rfl h_o.1 ?_
    refine v_aaldk (pc := 34) h dX4_tells_34 (t := 5) h_o.2.2.1 rfl rfl h_o.2.2.2.1 (fun hin => (h_o.2.2.2.2 _ (vp_lt hin)).1) (fun h3 => ?_)
    refine v_iconst (pc := 35) h dX4_tells_35 (v := 1) rfl ?_
    refine v_iload_n (pc := 36) h dX4_tells_36 2 rfl rfl ?_
    refine v_iastL (pc := 37) h dX4_tells_37 (h_o.2.2.2.2 _ (vp_lt h3)).2.1 (h_o.2.2.2.2 _ (vp_lt h3)).2.2 (vpd rfl) (k := 1) rfl ?_
    refine v_nmI (fun I4 => ?_)
    refine v_aload_n (pc := 38) h dX4_tells_38 0 rfl rfl ?_
    refine v_getp (pc := 39) h dX4_tells_39 fX4_11 rfl h_o.1 h_o.2.1 ?_
    refine v_aload_n (pc := 42) h dX4_tells_42 0 rfl rfl ?_
    refine v_geti (pc := 43) h dX4_tells_43 fX4_16 rfl h_o.1 ?_
    refine v_aaldk (pc := 46) h dX4_tells_46 (t := 5) h_o.2.2.1 rfl rfl h_o.2.2.2.1 (fun hin => (h_o.2.2.2.2 _ (vp_lt hin)).1) (fun h5 => ?_)
    refine v_iconst (pc := 47) h dX4_tells_47 (v := 2) rfl ?_
    refine v_iload_n (pc := 48) h dX4_tells_48 3 rfl rfl ?_
    refine v_iastL (pc := 49) h dX4_tells_49 (h_o.2.2.2.2 _ (vp_lt h5)).2.1 (h_o.2.2.2.2 _ (vp_lt h5)).2.2 (vpd rfl) (k := 2) rfl ?_
    refine v_nmI (fun I6 => ?_)
    refine v_aload_n (pc := 50) h dX4_tells_50 0 rfl rfl ?_
    refine v_dup (pc := 51) h dX4_tells_51 rfl ?_
    refine v_geti (pc := 52) h dX4_tells_52 fX4_16 rfl h_o.1 ?_
    refine v_iconst (pc := 55) h dX4_tells_55 (v := 1) rfl ?_
    refine v_iadd (pc := 56) h dX4_tells_56 ?_
    refine v_puti (pc := 57) h dX4_tells_57 fX4_16 rfl h_o.1 ?_
    refine v_nmI (fun I7 => ?_)
    refine v_aload_n (pc := 60) h dX4_tells_60 0 rfl rfl ?_
    refine v_geti (pc := 61) h dX4_tells_61 fX4_16 rfl h_o.1 ?_
    exact v_iret (pc := 64) h hr dX4_tells_64
  · refine v_iconst (pc := 12) h dX4_tells_12 (v := (-1)) rfl ?_
    exact v_iret (pc := 13) h hr dX4_tells_13
set_option maxHeartbeats 4000000 in
theorem tX0_blow {g : Gl}  (o : Nat) (a1 : Int32) (I : MI) (r : Rh) (h_o : KpS o r) : CtI g yX0_blow cX0_blow 2 (some .int) 2 [.ref o, .int a1] I r (pX0_blow o a1 I r) := by
  refine CtI.mk (lv := [(0, .ref o), (1, .int a1)]) (by decide) (Nat.le_of_ble_eq_true rfl) rfl (fun x Q h hr => ?_)
  unfold pX0_blow
  refine v_iload_n (pc := 0) h dX0_blow_0 1 rfl rfl ?_
  refine v_if_ne (pc := 1) (t := 17) h dX0_blow_1 rfl (fun _ => ?_) (fun _ => ?_)
  · refine v_iload_n (pc := 17) h dX0_blow_17 1 rfl rfl ?_
    refine v_bipush (pc := 18) h dX0_blow_18 (v := (-50)) rfl ?_
    refine v_bipush (pc := 20) h dX0_blow_20 (v := 50) rfl ?_
    refine v_callsp (pc := 22) h dX0_blow_22 sX0_78 (tX0_isIn a1 (-50 : Int32) (50 : Int32) I r ) (by decide) rfl rfl (Nat.le_of_ble_eq_true rfl) ⟨Nat.zero_le _, Nat.zero_le _⟩ (fun r1 => ?_)
    refine v_if_eq (pc := 25) (t := 44) h dX0_blow_25 rfl (fun _ => ?_) (fun _ => ?_)
    · refine v_iconst (pc := 44) h dX0_blow_44 (v := (-1)) rfl ?_
      exact v_iret (pc := 45) h hr dX0_blow_45
    · refine v_aload_n (pc := 28) h dX0_blow_28 0 rfl rfl ?_
      refine v_getp (pc := 29) h dX0_blow_29 fX0_20 rfl (KpS.c h_o) (KpS.walk h_o).1 ?_
      refine v_getp (pc := 32) h dX0_blow_32 fX0_289 rfl (WkS.c (KpS.walk h_o).2) (WkS.blows (KpS.walk h_o).2).1 ?_
      refine v_iload_n (pc := 35) h dX0_blow_35 1 rfl rfl ?_
      refine v_iconst (pc := 36) h dX0_blow_36 (v := 0) rfl ?_
      refine v_iconst (pc := 37) h dX0_blow_37 (v := 0) rfl ?_
      refine v_callI (pc := 38) h dX0_blow_38 kX0_298 rfl (WkS.blows (KpS.walk h_o).2).2.1 (tX4_tells (o + 183) 8 a1 (0 : Int32) (0 : Int32) I r (WkS.blows (KpS.walk h_o).2).2) (by decide) rfl rfl (Nat.le_of_ble_eq_true rfl) ⟨Nat.zero_le _, Nat.zero_le _⟩ (fun r2 I3 => ?_)
      refine v_goto (pc := 41) (t := 45) h dX0_blow_41 rfl ?_
      exact v_iret (pc := 45) h hr dX0_blow_45
  · refine v_aload_n (pc := 4) h dX0_blow_4 0 rfl rfl ?_
    refine v_getp (pc := 5) h dX0_blow_5 fX0_20 rfl (KpS.c h_o) (KpS.walk h_o).1 ?_
    refine v_getp (pc := 8) h dX0_blow_8 fX0_289 rfl (WkS.c (KpS.walk h_o).2) (WkS.blows (KpS.walk h_o).2).1 ?_
    refine v_callI (pc := 11) h dX0_blow_11 kX0_293 rfl (WkS.blows (KpS.walk h_o).2).2.1 (tX4_ends (o + 183) 8 I r (WkS.blows (KpS.walk h_o).2).2) (by decide) rfl rfl (Nat.le_of_ble_eq_true rfl) ⟨Nat.zero_le _, Nat.zero_le _⟩ (fun r4 I5 => ?_)
    refine v_goto (pc := 14) (t := 45) h dX0_blow_14 rfl ?_
    exact v_iret (pc := 45) h hr dX0_blow_45
set_option maxHeartbeats 4000000 in
theorem tJ6_bitCount {g : Gl}  (a1 : Int32) (I : MI) (r : Rh)  : CtP g yJ6_bitCount cJ6_bitCount 1 (some .int) 1 [.int a1] I r (pJ6_bitCount a1 I r) := by
  refine CtP.mk (lv := [(0, .int a1)]) (by decide) (Nat.le_of_ble_eq_true rfl) rfl (fun x Q h hr => ?_)
  unfold pJ6_bitCount
  refine v_iload_n (pc := 0) h dJ6_bitCount_0 0 rfl rfl ?_
  refine v_iload_n (pc := 1) h dJ6_bitCount_1 0 rfl rfl ?_
  refine v_iconst (pc := 2) h dJ6_bitCount_2 (v := 1) rfl ?_
  refine v_iushr (pc := 3) h dJ6_bitCount_3 ?_
  refine v_ldcw (pc := 4) h dJ6_bitCount_4 (v := (1431655765)) q1248 ?_
  refine v_iand (pc := 7) h dJ6_bitCount_7 ?_
  refine v_isub (pc := 8) h dJ6_bitCount_8 ?_
  refine v_nmi (fun v1 => ?_)
  refine v_istore_n (pc := 9) h dJ6_bitCount_9 rfl (by decide) (lv' := [(0, .int v1)]) rfl ?_
  refine v_iload_n (pc := 10) h dJ6_bitCount_10 0 rfl rfl ?_
  refine v_ldcw (pc := 11) h dJ6_bitCount_11 (v := (858993459)) q1249 ?_
  refine v_iand (pc := 14) h dJ6_bitCount_14 ?_
  refine v_iload_n (pc := 15) h dJ6_bitCount_15 0 rfl rfl ?_
  refine v_iconst (pc := 16) h dJ6_bitCount_16 (v := 2) rfl ?_
  refine v_iushr (pc := 17) h dJ6_bitCount_17 ?_
  refine v_ldcw (pc := 18) h dJ6_bitCount_18 (v := (858993459)) q1249 ?_
  refine v_iand (pc := 21) h dJ6_bitCount_21 ?_
  refine v_iadd (pc := 22) h dJ6_bitCount_22 ?_
  refine v_nmi (fun v2 => ?_)
  refine v_istore_n (pc := 23) h dJ6_bitCount_23 rfl (by decide) (lv' := [(0, .int v2)]) rfl ?_
  refine v_iload_n (pc := 24) h dJ6_bitCount_24 0 rfl rfl ?_
  refine v_iload_n (pc := 25) h dJ6_bitCount_25 0 rfl rfl ?_
  refine v_iconst (pc := 26) h dJ6_bitCount_26 (v := 4) rfl ?_
  refine v_iushr (pc := 27) h dJ6_bitCount_27 ?_
  refine v_iadd (pc := 28) h dJ6_bitCount_28 ?_
  refine v_ldcw (pc := 29) h dJ6_bitCount_29 (v := (252645135)) q1250 ?_
  refine v_iand (pc := 32) h dJ6_bitCount_32 ?_
  refine v_nmi (fun v3 => ?_)
  refine v_istore_n (pc := 33) h dJ6_bitCount_33 rfl (by decide) (lv' := [(0, .int v3)]) rfl ?_
  refine v_iload_n (pc := 34) h dJ6_bitCount_34 0 rfl rfl ?_
  refine v_iload_n (pc := 35) h dJ6_bitCount_35 0 rfl rfl ?_
  refine v_bipush (pc := 36) h dJ6_bitCount_36 (v := 8) rfl ?_
  refine v_iushr (pc := 38) h dJ6_bitCount_38 ?_
  refine v_iadd (pc := 39) h dJ6_bitCount_39 ?_
  refine v_nmi (fun v4 => ?_)
  refine v_istore_n (pc := 40) h dJ6_bitCount_40 rfl (by decide) (lv' := [(0, .int v4)]) rfl ?_
  refine v_iload_n (pc := 41) h dJ6_bitCount_41 0 rfl rfl ?_
  refine v_iload_n (pc := 42) h dJ6_bitCount_42 0 rfl rfl ?_
  refine v_bipush (pc := 43) h dJ6_bitCount_43 (v := 16) rfl ?_
  refine v_iushr (pc := 45) h dJ6_bitCount_45 ?_
  refine v_iadd (pc := 46) h dJ6_bitCount_46 ?_
  refine v_nmi (fun v5 => ?_)
  refine v_istore_n (pc := 47) h dJ6_bitCount_47 rfl (by decide) (lv' := [(0, .int v5)]) rfl ?_
  refine v_iload_n (pc := 48) h dJ6_bitCount_48 0 rfl rfl ?_
  refine v_bipush (pc := 49) h dJ6_bitCount_49 (v := 63) rfl ?_
  refine v_iand (pc := 51) h dJ6_bitCount_51 ?_
  exact v_iretP (pc := 52) h hr dJ6_bitCount_52
set_option maxHeartbeats 4000000 in
theorem tX0_laysBlows {g : Gl}  (o : Nat) (a1 : Int32) (a2 : Int32) (I : MI) (r : Rh) (h_o : KpS o r) : CtV g yX0_laysBlows cX0_laysBlows 8 2 [.ref o, .int a1, .int a2] I r (pX0_laysBlows o a1 a2 I r) := by
  refine CtV.mk (lv := [(0, .ref o), (1, .int a1), (2, .int a2)]) (by decide) (Nat.le_of_ble_eq_true rfl) rfl (fun x Q h hr => ?_)
  unfold pX0_laysBlows
  refine v_aload_n (pc := 0) h dX0_laysBlows_0 0 rfl rfl ?_
  refine v_getp (pc := 1) h dX0_laysBlows_1 fX0_20 rfl (KpS.c h_o) (KpS.walk h_o).1 ?_
  refine v_getp (pc := 4) h dX0_laysBlows_4 fX0_289 rfl (WkS.c (KpS.walk h_o).2) (WkS.blows (KpS.walk h_o).2).1 ?_
  refine v_geti (pc := 7) h dX0_laysBlows_7 fX0_302 rfl (WkS.blows (KpS.walk h_o).2).2.1 ?_
  refine v_nmi (fun v1 => ?_)
  refine v_istore_n (pc := 10) h dX0_laysBlows_10 rfl (by decide) (lv' := [(3, .int v1), (0, .ref o), (1, .int a1), (2, .int a2)]) rfl ?_
  refine v_iconst (pc := 11) h dX0_laysBlows_11 (v := 0) rfl ?_
  refine v_istore (pc := 12) h dX0_laysBlows_12 (by decide) (lv' := [(4, .int (0 : Int32)), (3, .int v1), (0, .ref o), (1, .int a1), (2, .int a2)]) rfl ?_
  refine v_sub [2, 3, 4, 1, 0] rfl ?_
  refine L2.run (lv := fun i4_2 I3 => [(0, .ref o), (1, .int a1), (2, .int a2), (3, .int v1), (4, .int i4_2)]) (st := fun i4_2 I3 => []) (Im := fun i4_2 I3 => I3) (r := fun i4_2 I3 => r) (fun X4 hX4 i4_2 I3 => ?_) (0 : Int32) I
  refine v_iload (pc := 14) h dX0_laysBlows_14 4 rfl ?_
  refine v_iconst (pc := 16) h dX0_laysBlows_16 (v := 1) rfl ?_
  refine v_iload_n (pc := 17) h dX0_laysBlows_17 3 rfl rfl ?_
  refine v_ishl (pc := 18) h dX0_laysBlows_18 ?_
  refine v_icmp_ge (pc := 19) (t := 180) h dX0_laysBlows_19 rfl (fun _ => ?_) (fun _ => ?_)
  · exact v_vret (pc := 180) h hr dX0_laysBlows_180
  · refine v_aload_n (pc := 22) h dX0_laysBlows_22 0 rfl rfl ?_
    refine v_getp (pc := 23) h dX0_laysBlows_23 fX0_50 rfl (KpS.c h_o) (KpS.mostOf h_o).1 ?_
    refine v_iload (pc := 26) h dX0_laysBlows_26 4 rfl ?_
    refine v_iload (pc := 28) h dX0_laysBlows_28 4 rfl ?_
    refine v_jn1 (fun t5 => V g x 8 (0, 0) 38 [(0, .ref o), (1, .int a1), (2, .int a2), (3, .int v1), (4, .int i4_2)] [.int t5, .int i4_2, .ref (o + 2605)] I3 r) (fun k6 hk6 => ?_) (fun t5 => ?_)
    · refine v_if_ne (pc := 30) (t := 37) h dX0_laysBlows_30 rfl (fun _ => ?_) (fun _ => ?_)
      · refine v_iconst (pc := 37) h dX0_laysBlows_37 (v := (-1)) rfl ?_
        exact hk6 (-1 : Int32)
      · refine v_iload_n (pc := 33) h dX0_laysBlows_33 1 rfl rfl ?_
        refine v_goto (pc := 34) (t := 38) h dX0_laysBlows_34 rfl ?_
        exact hk6 a1
    · refine v_iast (pc := 38) h dX0_laysBlows_38 (KpS.mostOf h_o).2.1 (KpS.mostOf h_o).2.2 ?_
      refine v_nmI (fun I7 => ?_)
      refine v_iconst (pc := 39) h dX0_laysBlows_39 (v := 0) rfl ?_
      refine v_istore (pc := 40) h dX0_laysBlows_40 (by decide) (lv' := [(5, .int (0 : Int32)), (0, .ref o), (1, .int a1), (2, .int a2), (3, .int v1), (4, .int i4_2)]) rfl ?_
      refine v_sub [1, 2, 3, 4, 5, 0] rfl ?_
      refine L2.run (lv := fun i5_8 I9 => [(0, .ref o), (1, .int a1), (2, .int a2), (3, .int v1), (4, .int i4_2), (5, .int i5_8)]) (st := fun i5_8 I9 => []) (Im := fun i5_8 I9 => I9) (r := fun i5_8 I9 => r) (fun X10 hX10 i5_8 I9 => ?_) (0 : Int32) I7
      refine v_iload (pc := 42) h dX0_laysBlows_42 5 rfl ?_
      refine v_iload_n (pc := 44) h dX0_laysBlows_44 3 rfl rfl ?_
      refine v_icmp_ge (pc := 45) (t := 174) h dX0_laysBlows_45 rfl (fun _ => ?_) (fun _ => ?_)
      · refine v_iinc (pc := 174) h dX0_laysBlows_174 4 rfl (w := (i4_2 + (1 : Int32))) rfl (by decide) (lv' := [(4, .int (i4_2 + (1 : Int32))), (0, .ref o), (1, .int a1), (2, .int a2), (3, .int v1), (5, .int i5_8)]) rfl ?_
        refine v_goto (pc := 177) (t := 14) h dX0_laysBlows_177 rfl ?_
        refine v_sub [1, 2, 3, 4, 0] rfl ?_
        exact hX4 (i4_2 + (1 : Int32)) I9
      · refine v_iload (pc := 48) h dX0_laysBlows_48 4 rfl ?_
        refine v_iload (pc := 50) h dX0_laysBlows_50 5 rfl ?_
        refine v_ishr (pc := 52) h dX0_laysBlows_52 ?_
        refine v_iconst (pc := 53) h dX0_laysBlows_53 (v := 1) rfl ?_
        refine v_iand (pc := 54) h dX0_laysBlows_54 ?_
        refine v_iconst (pc := 55) h dX0_laysBlows_55 (v := 1) rfl ?_
        refine v_jn1 (fun t11 => V g x 8 (0, 0) 77 [(0, .ref o), (1, .int a1), (2, .int a2), (3, .int v1), (4, .int i4_2), (5, .int i5_8)] [.int t11] I9 r) (fun k12 hk12 => ?_) (fun t11 => ?_)
        · refine v_icmp_ne (pc := 56) (t := 76) h dX0_laysBlows_56 rfl (fun _ => ?_) (fun _ => ?_)
          · refine v_iconst (pc := 76) h dX0_laysBlows_76 (v := (-1)) rfl ?_
            exact hk12 (-1 : Int32)
          · refine v_aload_n (pc := 59) h dX0_laysBlows_59 0 rfl rfl ?_
            refine v_getp (pc := 60) h dX0_laysBlows_60 fX0_50 rfl (KpS.c h_o) (KpS.mostOf h_o).1 ?_
            refine v_iload (pc := 63) h dX0_laysBlows_63 4 rfl ?_
            refine v_iconst (pc := 65) h dX0_laysBlows_65 (v := 1) rfl ?_
            refine v_iload (pc := 66) h dX0_laysBlows_66 5 rfl ?_
            refine v_ishl (pc := 68) h dX0_laysBlows_68 ?_
            refine v_iconst (pc := 69) h dX0_laysBlows_69 (v := (-1)) rfl ?_
            refine v_ixor (pc := 70) h dX0_laysBlows_70 ?_
            refine v_iand (pc := 71) h dX0_laysBlows_71 ?_
            refine v_iald (pc := 72) h dX0_laysBlows_72 (KpS.mostOf h_o).2.1 (KpS.mostOf h_o).2.2 ?_
            refine v_goto (pc := 73) (t := 77) h dX0_laysBlows_73 rfl ?_
            exact hk12 (I9 (o + 2605) (i4_2 &&& ((sl (1 : Int32) i5_8) ^^^ (-1 : Int32))).toNatClampNeg)
        · refine v_istore (pc := 77) h dX0_laysBlows_77 (by decide) (lv' := [(6, .int t11), (0, .ref o), (1, .int a1), (2, .int a2), (3, .int v1), (4, .int i4_2), (5, .int i5_8)]) rfl ?_
          refine v_iload (pc := 79) h dX0_laysBlows_79 0 rfl ?_
          refine v_iconst (pc := 81) h dX0_laysBlows_81 (v := (-1)) rfl ?_
          refine v_jn1 (fun I13 => V g x 8 (0, 0) 168 [(0, .ref o), (1, .int a1), (2, .int a2), (3, .int v1), (4, .int i4_2), (5, .int i5_8)] [] I13 r) (fun k14 hk14 => ?_) (fun I13 => ?_)
          · refine v_icmp_eq (pc := 82) (t := 168) h dX0_laysBlows_82 rfl (fun _ => ?_) (fun _ => ?_)
            · refine v_sub [1, 2, 3, 4, 5, 6] rfl ?_
              exact hk14 I9
            · refine v_iload_n (pc := 85) h dX0_laysBlows_85 3 rfl rfl ?_
              refine v_iconst (pc := 86) h dX0_laysBlows_86 (v := (-1)) rfl ?_
              refine v_jn0 (V g x 8 (0, 0) 108 [(0, .ref o), (1, .int a1), (2, .int a2), (3, .int v1), (4, .int i4_2), (5, .int i5_8), (6, .int t11)] [] I9 r) (fun k15 hk15 => ?_) ?_
              · refine v_icmp_eq (pc := 87) (t := 108) h dX0_laysBlows_87 rfl (fun _ => ?_) (fun _ => ?_)
                · refine v_sub [1, 2, 3, 4, 5, 6, 0] rfl ?_
                  exact hk15
                · refine v_iload (pc := 90) h dX0_laysBlows_90 5 rfl ?_
                  refine v_callsp (pc := 92) h dX0_laysBlows_92 sX0_303 (tJ6_bitCount i4_2 I9 r ) (by decide) rfl rfl (Nat.le_of_ble_eq_true rfl) ⟨Nat.zero_le _, Nat.zero_le _⟩ (fun r16 => ?_)
                  refine v_iconst (pc := 95) h dX0_laysBlows_95 (v := 1) rfl ?_
                  refine v_icmp_ne (pc := 96) (t := 108) h dX0_laysBlows_96 rfl (fun _ => ?_) (fun _ => ?_)
                  · refine v_sub [1, 2, 3, 4, 5, 6, 0] rfl ?_
                    exact hk15
                  · refine v_iload (pc := 99) h dX0_laysBlows_99 6 rfl ?_
                    refine v_iload_n (pc := 101) h dX0_laysBlows_101 3 rfl rfl ?_
                    refine v_icmp_eq (pc := 102) (t := 108) h dX0_laysBlows_102 rfl (fun _ => ?_) (fun _ => ?_)
                    · refine v_sub [1, 2, 3, 4, 5, 6, 0] rfl ?_
                      exact hk15
                    · refine v_goto (pc := 105) (t := 168) h dX0_laysBlows_105 rfl ?_
                      refine v_sub [1, 2, 3, 4, 5, 6] rfl ?_
                      exact hk14 I9
              · refine v_bipush (pc := 108) h dX0_laysBlows_108 (v := 99) rfl ?_
                refine v_iload (pc := 110) h dX0_laysBlows_110 6 rfl ?_
                refine v_aload_n (pc := 112) h dX0_laysBlows_112 0 rfl rfl ?_
                refine v_getp (pc := 113) h dX0_laysBlows_113 fX0_20 rfl (KpS.c h_o) (KpS.walk h_o).1 ?_
                refine v_getp (pc := 116) h dX0_laysBlows_116 fX0_289 rfl (WkS.c (KpS.walk h_o).2) (WkS.blows (KpS.walk h_o).2).1 ?_
                refine v_getp (pc := 119) h dX0_laysBlows_119 fX0_308 rfl (WkS.blows (KpS.walk h_o).2).2.1 (WkS.blows (KpS.walk h_o).2).2.2.1 ?_
                refine v_iload (pc := 122) h dX0_laysBlows_122 5 rfl ?_
                refine v_aaldk (pc := 124) h dX0_laysBlows_124 (t := 5) (WkS.blows (KpS.walk h_o).2).2.2.2.1 rfl rfl (WkS.blows (KpS.walk h_o).2).2.2.2.2.1 (fun hin => ((WkS.blows (KpS.walk h_o).2).2.2.2.2.2 _ (vp_lt hin)).1) (fun h17 => ?_)
                refine v_iconst (pc := 125) h dX0_laysBlows_125 (v := 0) rfl ?_
                refine v_ialdL (pc := 126) h dX0_laysBlows_126 ((WkS.blows (KpS.walk h_o).2).2.2.2.2.2 _ (vp_lt h17)).2.1 ((WkS.blows (KpS.walk h_o).2).2.2.2.2.2 _ (vp_lt h17)).2.2 (vpd rfl) (k := 0) rfl ?_
                refine v_iadd (pc := 127) h dX0_laysBlows_127 ?_
                refine v_mmin (pc := 128) h dX0_laysBlows_128 q1103 (by decide) (Nat.le_of_ble_eq_true rfl) ⟨Nat.zero_le _, Nat.zero_le _⟩ ?_
                refine v_nmi (fun v18 => ?_)
                refine v_istore (pc := 131) h dX0_laysBlows_131 (by decide) (lv' := [(7, .int v18), (0, .ref o), (1, .int a1), (2, .int a2), (3, .int v1), (4, .int i4_2), (5, .int i5_8), (6, .int t11)]) rfl ?_
                refine v_aload_n (pc := 133) h dX0_laysBlows_133 1 rfl rfl ?_
                refine v_getp (pc := 134) h dX0_laysBlows_134 fX0_50 rfl (KpS.c h_o) (KpS.mostOf h_o).1 ?_
                refine v_iload (pc := 137) h dX0_laysBlows_137 5 rfl ?_
                refine v_iload (pc := 139) h dX0_laysBlows_139 0 rfl ?_
                refine v_iconst (pc := 141) h dX0_laysBlows_141 (v := 1) rfl ?_
                refine v_jn1 (fun t19 => V g x 8 (0, 0) 167 [(0, .ref o), (1, .int a1), (2, .int a2), (3, .int v1), (4, .int i4_2), (5, .int i5_8)] [.int t19, .int i4_2, .ref (o + 2605)] I9 r) (fun k20 hk20 => ?_) (fun t19 => ?_)
                · refine v_icmp_ge (pc := 142) (t := 155) h dX0_laysBlows_142 rfl (fun _ => ?_) (fun _ => ?_)
                  · refine v_aload_n (pc := 155) h dX0_laysBlows_155 1 rfl rfl ?_
                    refine v_getp (pc := 156) h dX0_laysBlows_156 fX0_50 rfl (KpS.c h_o) (KpS.mostOf h_o).1 ?_
                    refine v_iload (pc := 159) h dX0_laysBlows_159 5 rfl ?_
                    refine v_iald (pc := 161) h dX0_laysBlows_161 (KpS.mostOf h_o).2.1 (KpS.mostOf h_o).2.2 ?_
                    refine v_iload (pc := 162) h dX0_laysBlows_162 0 rfl ?_
                    refine v_mmax (pc := 164) h dX0_laysBlows_164 q1104 (by decide) (Nat.le_of_ble_eq_true rfl) ⟨Nat.zero_le _, Nat.zero_le _⟩ ?_
                    refine v_sub [1, 2, 3, 4, 5, 6] rfl ?_
                    exact hk20 (imx (I9 (o + 2605) i4_2.toNatClampNeg) v18)
                  · refine v_aload_n (pc := 145) h dX0_laysBlows_145 1 rfl rfl ?_
                    refine v_getp (pc := 146) h dX0_laysBlows_146 fX0_50 rfl (KpS.c h_o) (KpS.mostOf h_o).1 ?_
                    refine v_iload (pc := 149) h dX0_laysBlows_149 5 rfl ?_
                    refine v_iald (pc := 151) h dX0_laysBlows_151 (KpS.mostOf h_o).2.1 (KpS.mostOf h_o).2.2 ?_
                    refine v_goto (pc := 152) (t := 167) h dX0_laysBlows_152 rfl ?_
                    refine v_sub [1, 2, 3, 4, 5, 6] rfl ?_
                    exact hk20 (I9 (o + 2605) i4_2.toNatClampNeg)
                · refine v_iast (pc := 167) h dX0_laysBlows_167 (KpS.mostOf h_o).2.1 (KpS.mostOf h_o).2.2 ?_
                  refine v_nmI (fun I21 => ?_)
                  exact hk14 I21
          · refine v_iinc (pc := 168) h dX0_laysBlows_168 5 rfl (w := (i5_8 + (1 : Int32))) rfl (by decide) (lv' := [(5, .int (i5_8 + (1 : Int32))), (0, .ref o), (1, .int a1), (2, .int a2), (3, .int v1), (4, .int i4_2)]) rfl ?_
            refine v_goto (pc := 171) (t := 42) h dX0_laysBlows_171 rfl ?_
            refine v_sub [1, 2, 3, 4, 5, 0] rfl ?_
            exact hX10 (i5_8 + (1 : Int32)) I13
set_option maxHeartbeats 4000000 in
theorem tX0_bears {g : Gl}  (o : Nat) (a1 : Int32) (a2 : Int32) (I : MI) (r : Rh) (h_o : KpS o r) : CtI g yX0_bears cX0_bears 5 (some .int) 3 [.ref o, .int a1, .int a2] I r (pX0_bears o a1 a2 I r) := by
  refine CtI.mk (lv := [(0, .ref o), (1, .int a1), (2, .int a2)]) (by decide) (Nat.le_of_ble_eq_true rfl) rfl (fun x Q h hr => ?_)
  unfold pX0_bears
  refine v_iload_n (pc := 0) h dX0_bears_0 1 rfl rfl ?_
  refine v_iconst (pc := 1) h dX0_bears_1 (v := 1) rfl ?_
  refine v_bipush (pc := 2) h dX0_bears_2 (v := 99) rfl ?_
  refine v_callsp (pc := 4) h dX0_bears_4 sX0_78 (tX0_isIn a1 (1 : Int32) (99 : Int32) I r ) (by decide) rfl rfl (Nat.le_of_ble_eq_true rfl) ⟨Nat.zero_le _, Nat.zero_le _⟩ (fun r1 => ?_)
  refine v_if_eq (pc := 7) (t := 19) h dX0_bears_7 rfl (fun _ => ?_) (fun _ => ?_)
  · refine v_iconst (pc := 19) h dX0_bears_19 (v := (-1)) rfl ?_
    exact v_iret (pc := 20) h hr dX0_bears_20
  · refine v_iload_n (pc := 10) h dX0_bears_10 2 rfl rfl ?_
    refine v_iconst (pc := 11) h dX0_bears_11 (v := 0) rfl ?_
    refine v_iconst (pc := 12) h dX0_bears_12 (v := 1) rfl ?_
    refine v_callsp (pc := 13) h dX0_bears_13 sX0_78 (tX0_isIn a2 (0 : Int32) (1 : Int32) I r ) (by decide) rfl rfl (Nat.le_of_ble_eq_true rfl) ⟨Nat.zero_le _, Nat.zero_le _⟩ (fun r2 => ?_)
    refine v_if_ne (pc := 16) (t := 21) h dX0_bears_16 rfl (fun _ => ?_) (fun _ => ?_)
    · refine v_iconst (pc := 21) h dX0_bears_21 (v := 1) rfl ?_
      refine v_aload_n (pc := 22) h dX0_bears_22 0 rfl rfl ?_
      refine v_getp (pc := 23) h dX0_bears_23 fX0_20 rfl (KpS.c h_o) (KpS.walk h_o).1 ?_
      refine v_getp (pc := 26) h dX0_bears_26 fX0_289 rfl (WkS.c (KpS.walk h_o).2) (WkS.blows (KpS.walk h_o).2).1 ?_
      refine v_geti (pc := 29) h dX0_bears_29 fX0_302 rfl (WkS.blows (KpS.walk h_o).2).2.1 ?_
      refine v_ishl (pc := 32) h dX0_bears_32 ?_
      refine v_iconst (pc := 33) h dX0_bears_33 (v := 1) rfl ?_
      refine v_isub (pc := 34) h dX0_bears_34 ?_
      refine v_nmi (fun v3 => ?_)
      refine v_istore_n (pc := 35) h dX0_bears_35 rfl (by decide) (lv' := [(3, .int v3), (0, .ref o), (1, .int a1), (2, .int a2)]) rfl ?_
      refine v_aload_n (pc := 36) h dX0_bears_36 1 rfl rfl ?_
      refine v_iload_n (pc := 37) h dX0_bears_37 2 rfl rfl ?_
      refine v_iconst (pc := 38) h dX0_bears_38 (v := (-1)) rfl ?_
      refine v_callV (pc := 39) h dX0_bears_39 kX0_311 rfl (KpS.c h_o) (tX0_laysBlows o a1 (-1 : Int32) I r h_o) (by decide) rfl rfl (Nat.le_of_ble_eq_true rfl) ⟨Nat.zero_le _, Nat.zero_le _⟩ (fun I4 => ?_)
      refine v_iload_n (pc := 42) h dX0_bears_42 3 rfl rfl ?_
      refine v_iconst (pc := 43) h dX0_bears_43 (v := 1) rfl ?_
      refine v_jn0 (V g x 5 (0, 0) 57 [(0, .ref o), (3, .int v3)] [] I4 r) (fun k5 hk5 => ?_) ?_
      · refine v_icmp_eq (pc := 44) (t := 57) h dX0_bears_44 rfl (fun _ => ?_) (fun _ => ?_)
        · refine v_sub [1, 0] rfl ?_
          exact hk5
        · refine v_aload_n (pc := 47) h dX0_bears_47 1 rfl rfl ?_
          refine v_getp (pc := 48) h dX0_bears_48 fX0_50 rfl (KpS.c h_o) (KpS.mostOf h_o).1 ?_
          refine v_iload_n (pc := 51) h dX0_bears_51 0 rfl rfl ?_
          refine v_iald (pc := 52) h dX0_bears_52 (KpS.mostOf h_o).2.1 (KpS.mostOf h_o).2.2 ?_
          refine v_iconst (pc := 53) h dX0_bears_53 (v := (-1)) rfl ?_
          refine v_icmp_ne (pc := 54) (t := 64) h dX0_bears_54 rfl (fun _ => ?_) (fun _ => ?_)
          · refine v_iconst (pc := 64) h dX0_bears_64 (v := 0) rfl ?_
            refine v_istore (pc := 65) h dX0_bears_65 (by decide) (lv' := [(4, .int (0 : Int32)), (3, .int v3), (0, .ref o), (1, .int a1), (2, .int a2)]) rfl ?_
            refine v_sub [2, 3, 1, 0] rfl ?_
            refine L2.run (lv := fun i4_6 I7 => [(0, .ref o), (1, .int a1), (3, .int v3), (4, .int i4_6)]) (st := fun i4_6 I7 => []) (Im := fun i4_6 I7 => I7) (r := fun i4_6 I7 => r) (fun X8 hX8 i4_6 I7 => ?_) (0 : Int32) I4
            refine v_iload (pc := 67) h dX0_bears_67 3 rfl ?_
            refine v_aload_n (pc := 69) h dX0_bears_69 0 rfl rfl ?_
            refine v_getp (pc := 70) h dX0_bears_70 fX0_20 rfl (KpS.c h_o) (KpS.walk h_o).1 ?_
            refine v_getp (pc := 73) h dX0_bears_73 fX0_289 rfl (WkS.c (KpS.walk h_o).2) (WkS.blows (KpS.walk h_o).2).1 ?_
            refine v_geti (pc := 76) h dX0_bears_76 fX0_302 rfl (WkS.blows (KpS.walk h_o).2).2.1 ?_
            refine v_icmp_ge (pc := 79) (t := 108) h dX0_bears_79 rfl (fun _ => ?_) (fun _ => ?_)
            · refine v_iconst (pc := 108) h dX0_bears_108 (v := (-1)) rfl ?_
              exact v_iret (pc := 109) h hr dX0_bears_109
            · refine v_aload_n (pc := 82) h dX0_bears_82 0 rfl rfl ?_
              refine v_iload_n (pc := 83) h dX0_bears_83 1 rfl rfl ?_
              refine v_iload (pc := 84) h dX0_bears_84 3 rfl ?_
              refine v_callV (pc := 86) h dX0_bears_86 kX0_311 rfl (KpS.c h_o) (tX0_laysBlows o a1 i4_6 I7 r h_o) (by decide) rfl rfl (Nat.le_of_ble_eq_true rfl) ⟨Nat.zero_le _, Nat.zero_le _⟩ (fun I9 => ?_)
              refine v_aload_n (pc := 89) h dX0_bears_89 0 rfl rfl ?_
              refine v_getp (pc := 90) h dX0_bears_90 fX0_50 rfl (KpS.c h_o) (KpS.mostOf h_o).1 ?_
              refine v_iload_n (pc := 93) h dX0_bears_93 2 rfl rfl ?_
              refine v_iald (pc := 94) h dX0_bears_94 (KpS.mostOf h_o).2.1 (KpS.mostOf h_o).2.2 ?_
              refine v_iconst (pc := 95) h dX0_bears_95 (v := (-1)) rfl ?_
              refine v_icmp_eq (pc := 96) (t := 102) h dX0_bears_96 rfl (fun _ => ?_) (fun _ => ?_)
              · refine v_iinc (pc := 102) h dX0_bears_102 3 rfl (w := (i4_6 + (1 : Int32))) rfl (by decide) (lv' := [(4, .int (i4_6 + (1 : Int32))), (0, .ref o), (1, .int a1), (3, .int v3)]) rfl ?_
                refine v_goto (pc := 105) (t := 67) h dX0_bears_105 rfl ?_
                refine v_sub [1, 2, 3, 0] rfl ?_
                exact hX8 (i4_6 + (1 : Int32)) I9
              · refine v_iload (pc := 99) h dX0_bears_99 3 rfl ?_
                exact v_iret (pc := 101) h hr dX0_bears_101
          · refine v_sub [1, 0] rfl ?_
            exact hk5
      · refine v_aload_n (pc := 57) h dX0_bears_57 0 rfl rfl ?_
        refine v_getp (pc := 58) h dX0_bears_58 fX0_50 rfl (KpS.c h_o) (KpS.mostOf h_o).1 ?_
        refine v_iload_n (pc := 61) h dX0_bears_61 1 rfl rfl ?_
        refine v_iald (pc := 62) h dX0_bears_62 (KpS.mostOf h_o).2.1 (KpS.mostOf h_o).2.2 ?_
        exact v_iret (pc := 63) h hr dX0_bears_63
    · refine v_iconst (pc := 19) h dX0_bears_19 (v := (-1)) rfl ?_
      exact v_iret (pc := 20) h hr dX0_bears_20
set_option maxHeartbeats 4000000 in
theorem tX0_manyWithin {g : Gl}  (o : Nat) (a1 : Int32) (I : MI) (r : Rh) (h_o : KpS o r) : CtP g yX0_manyWithin cX0_manyWithin 6 (some .int) 1 [.ref o, .int a1] I r (pX0_manyWithin o a1 I r) := by
  refine CtP.mk (lv := [(0, .ref o), (1, .int a1)]) (by decide) (Nat.le_of_ble_eq_true rfl) rfl (fun x Q h hr => ?_)
  unfold pX0_manyWithin
  refine v_iload_n (pc := 0) h dX0_manyWithin_0 1 rfl rfl ?_
  refine v_istore_n (pc := 1) h dX0_manyWithin_1 rfl (by decide) (lv' := [(2, .int a1), (0, .ref o), (1, .int a1)]) rfl ?_
  refine v_iconst (pc := 2) h dX0_manyWithin_2 (v := 0) rfl ?_
  refine v_istore_n (pc := 3) h dX0_manyWithin_3 rfl (by decide) (lv' := [(3, .int (0 : Int32)), (2, .int a1), (0, .ref o), (1, .int a1)]) rfl ?_
  refine v_iconst (pc := 4) h dX0_manyWithin_4 (v := 1) rfl ?_
  refine v_istore (pc := 5) h dX0_manyWithin_5 (by decide) (lv' := [(4, .int (1 : Int32)), (3, .int (0 : Int32)), (2, .int a1), (0, .ref o), (1, .int a1)]) rfl ?_
  refine v_sub [3, 2, 1, 0] rfl ?_
  refine L3.run (lv := fun i2_1 i3_2 i4_3 => [(0, .ref o), (2, .int i2_1), (3, .int i3_2), (4, .int i4_3)]) (st := fun i2_1 i3_2 i4_3 => []) (Im := fun i2_1 i3_2 i4_3 => I) (r := fun i2_1 i3_2 i4_3 => r) (fun X4 hX4 i2_1 i3_2 i4_3 => ?_) a1 (0 : Int32) (1 : Int32)
  refine v_iload (pc := 7) h dX0_manyWithin_7 3 rfl ?_
  refine v_bipush (pc := 9) h dX0_manyWithin_9 (v := 99) rfl ?_
  refine v_icmp_gt (pc := 11) (t := 82) h dX0_manyWithin_11 rfl (fun _ => ?_) (fun _ => ?_)
  · refine v_iload_n (pc := 82) h dX0_manyWithin_82 2 rfl rfl ?_
    exact v_iretP (pc := 83) h hr dX0_manyWithin_83
  · refine v_iconst (pc := 14) h dX0_manyWithin_14 (v := 0) rfl ?_
    refine v_istore (pc := 15) h dX0_manyWithin_15 (by decide) (lv' := [(5, .int (0 : Int32)), (0, .ref o), (2, .int i2_1), (3, .int i3_2), (4, .int i4_3)]) rfl ?_
    refine v_sub [1, 2, 3, 4, 0] rfl ?_
    refine L3.run (lv := fun i2_5 i3_6 i5_7 => [(0, .ref o), (2, .int i2_5), (3, .int i3_6), (4, .int i4_3), (5, .int i5_7)]) (st := fun i2_5 i3_6 i5_7 => []) (Im := fun i2_5 i3_6 i5_7 => I) (r := fun i2_5 i3_6 i5_7 => r) (fun X8 hX8 i2_5 i3_6 i5_7 => ?_) i2_1 i3_2 (0 : Int32)
    refine v_iload (pc := 17) h dX0_manyWithin_17 4 rfl ?_
    refine v_aload_n (pc := 19) h dX0_manyWithin_19 0 rfl rfl ?_
    refine v_getp (pc := 20) h dX0_manyWithin_20 fX0_20 rfl (KpS.c h_o) (KpS.walk h_o).1 ?_
    refine v_getp (pc := 23) h dX0_manyWithin_23 fX0_195 rfl (WkS.c (KpS.walk h_o).2) (WkS.bag (KpS.walk h_o).2).1 ?_
    refine v_geti (pc := 26) h dX0_manyWithin_26 fX0_199 rfl (WkS.bag (KpS.walk h_o).2).2.1 ?_
    refine v_icmp_ge (pc := 29) (t := 76) h dX0_manyWithin_29 rfl (fun _ => ?_) (fun _ => ?_)
    · refine v_iinc (pc := 76) h dX0_manyWithin_76 3 rfl (w := (i4_3 + (1 : Int32))) rfl (by decide) (lv' := [(4, .int (i4_3 + (1 : Int32))), (0, .ref o), (2, .int i2_5), (3, .int i3_6), (5, .int i5_7)]) rfl ?_
      refine v_goto (pc := 79) (t := 7) h dX0_manyWithin_79 rfl ?_
      refine v_sub [1, 2, 3, 0] rfl ?_
      exact hX4 i2_5 i3_6 (i4_3 + (1 : Int32))
    · refine v_aload_n (pc := 32) h dX0_manyWithin_32 0 rfl rfl ?_
      refine v_getp (pc := 33) h dX0_manyWithin_33 fX0_20 rfl (KpS.c h_o) (KpS.walk h_o).1 ?_
      refine v_getp (pc := 36) h dX0_manyWithin_36 fX0_195 rfl (WkS.c (KpS.walk h_o).2) (WkS.bag (KpS.walk h_o).2).1 ?_
      refine v_getp (pc := 39) h dX0_manyWithin_39 fX0_235 rfl (WkS.bag (KpS.walk h_o).2).2.1 (WkS.bag (KpS.walk h_o).2).2.2.1 ?_
      refine v_iload (pc := 42) h dX0_manyWithin_42 4 rfl ?_
      refine v_aaldx (pc := 44) h dX0_manyWithin_44 (t := 3) (WkS.bag (KpS.walk h_o).2).2.2.2.1 rfl rfl (WkS.bag (KpS.walk h_o).2).2.2.2.2.1 (fun b9 h10 h11 => ?_)
      refine v_geti (pc := 45) h dX0_manyWithin_45 fX0_247 rfl (BgS.lt (WkS.bag (KpS.walk h_o).2).2 h10 h11) ?_
      refine v_iload (pc := 48) h dX0_manyWithin_48 3 rfl ?_
      refine v_jn2 (fun v2_12 v3_13 => V g x 6 (0, 0) 70 [(0, .ref o), (2, .int v2_12), (3, .int v3_13), (4, .int i4_3), (5, .int i5_7)] [] I r) (fun k14 hk14 => ?_) (fun v2_12 v3_13 => ?_)
      · refine v_icmp_ne (pc := 50) (t := 70) h dX0_manyWithin_50 rfl (fun _ => ?_) (fun _ => ?_)
        · exact hk14 i2_5 i3_6
        · refine v_iload (pc := 53) h dX0_manyWithin_53 3 rfl ?_
          refine v_iload_n (pc := 55) h dX0_manyWithin_55 1 rfl rfl ?_
          refine v_icmp_le (pc := 56) (t := 62) h dX0_manyWithin_56 rfl (fun _ => ?_) (fun _ => ?_)
          · refine v_iload_n (pc := 62) h dX0_manyWithin_62 1 rfl rfl ?_
            refine v_iload (pc := 63) h dX0_manyWithin_63 3 rfl ?_
            refine v_isub (pc := 65) h dX0_manyWithin_65 ?_
            refine v_nmi (fun v15 => ?_)
            refine v_istore_n (pc := 66) h dX0_manyWithin_66 rfl (by decide) (lv' := [(2, .int v15), (0, .ref o), (3, .int i3_6), (4, .int i4_3), (5, .int i5_7)]) rfl ?_
            refine v_iinc (pc := 67) h dX0_manyWithin_67 2 rfl (w := (i3_6 + (1 : Int32))) rfl (by decide) (lv' := [(3, .int (i3_6 + (1 : Int32))), (2, .int v15), (0, .ref o), (4, .int i4_3), (5, .int i5_7)]) rfl ?_
            refine v_sub [2, 1, 0, 3, 4] rfl ?_
            exact hk14 v15 (i3_6 + (1 : Int32))
          · refine v_goto (pc := 59) (t := 70) h dX0_manyWithin_59 rfl ?_
            exact hk14 i2_5 i3_6
      · refine v_iinc (pc := 70) h dX0_manyWithin_70 4 rfl (w := (i5_7 + (1 : Int32))) rfl (by decide) (lv' := [(5, .int (i5_7 + (1 : Int32))), (0, .ref o), (2, .int v2_12), (3, .int v3_13), (4, .int i4_3)]) rfl ?_
        refine v_goto (pc := 73) (t := 17) h dX0_manyWithin_73 rfl ?_
        refine v_sub [1, 2, 3, 4, 0] rfl ?_
        exact hX8 v2_12 v3_13 (i5_7 + (1 : Int32))
set_option maxHeartbeats 4000000 in
theorem tX0_carries {g : Gl}  (o : Nat) (a1 : Int32) (a2 : Int32) (I : MI) (r : Rh) (h_o : KpS o r) : CtI g yX0_carries cX0_carries 7 (some .int) 2 [.ref o, .int a1, .int a2] I r (pX0_carries o a1 a2 I r) := by
  refine CtI.mk (lv := [(0, .ref o), (1, .int a1), (2, .int a2)]) (by decide) (Nat.le_of_ble_eq_true rfl) rfl (fun x Q h hr => ?_)
  unfold pX0_carries
  refine v_iload_n (pc := 0) h dX0_carries_0 1 rfl rfl ?_
  refine v_iconst (pc := 1) h dX0_carries_1 (v := 1) rfl ?_
  refine v_sipush (pc := 2) h dX0_carries_2 (v := 400) rfl ?_
  refine v_callsp (pc := 5) h dX0_carries_5 sX0_78 (tX0_isIn a1 (1 : Int32) (400 : Int32) I r ) (by decide) rfl rfl (Nat.le_of_ble_eq_true rfl) ⟨Nat.zero_le _, Nat.zero_le _⟩ (fun r1 => ?_)
  refine v_if_eq (pc := 8) (t := 20) h dX0_carries_8 rfl (fun _ => ?_) (fun _ => ?_)
  · refine v_iconst (pc := 20) h dX0_carries_20 (v := (-1)) rfl ?_
    exact v_iret (pc := 21) h hr dX0_carries_21
  · refine v_iload_n (pc := 11) h dX0_carries_11 2 rfl rfl ?_
    refine v_iconst (pc := 12) h dX0_carries_12 (v := 0) rfl ?_
    refine v_iconst (pc := 13) h dX0_carries_13 (v := 1) rfl ?_
    refine v_callsp (pc := 14) h dX0_carries_14 sX0_78 (tX0_isIn a2 (0 : Int32) (1 : Int32) I r ) (by decide) rfl rfl (Nat.le_of_ble_eq_true rfl) ⟨Nat.zero_le _, Nat.zero_le _⟩ (fun r2 => ?_)
    refine v_if_ne (pc := 17) (t := 22) h dX0_carries_17 rfl (fun _ => ?_) (fun _ => ?_)
    · refine v_iconst (pc := 22) h dX0_carries_22 (v := 0) rfl ?_
      refine v_istore_n (pc := 23) h dX0_carries_23 rfl (by decide) (lv' := [(3, .int (0 : Int32)), (0, .ref o), (1, .int a1), (2, .int a2)]) rfl ?_
      refine v_sub [1, 2, 3, 0] rfl ?_
      refine L2.run (lv := fun i3_3 I4 => [(0, .ref o), (1, .int a1), (2, .int a2), (3, .int i3_3)]) (st := fun i3_3 I4 => []) (Im := fun i3_3 I4 => I4) (r := fun i3_3 I4 => r) (fun X5 hX5 i3_3 I4 => ?_) (0 : Int32) I
      refine v_iload_n (pc := 24) h dX0_carries_24 3 rfl rfl ?_
      refine v_bipush (pc := 25) h dX0_carries_25 (v := 24) rfl ?_
      refine v_icmp_gt (pc := 27) (t := 74) h dX0_carries_27 rfl (fun _ => ?_) (fun _ => ?_)
      · refine v_iconst (pc := 74) h dX0_carries_74 (v := 0) rfl ?_
        refine v_istore_n (pc := 75) h dX0_carries_75 rfl (by decide) (lv' := [(3, .int (0 : Int32)), (0, .ref o), (1, .int a1), (2, .int a2)]) rfl ?_
        refine v_sub [1, 2, 3, 0] rfl ?_
        refine L2.run (lv := fun i3_6 I7 => [(0, .ref o), (1, .int a1), (2, .int a2), (3, .int i3_6)]) (st := fun i3_6 I7 => []) (Im := fun i3_6 I7 => I7) (r := fun i3_6 I7 => r) (fun X8 hX8 i3_6 I7 => ?_) (0 : Int32) I4
        refine v_iload_n (pc := 76) h dX0_carries_76 3 rfl rfl ?_
        refine v_aload_n (pc := 77) h dX0_carries_77 0 rfl rfl ?_
        refine v_getp (pc := 78) h dX0_carries_78 fX0_20 rfl (KpS.c h_o) (KpS.walk h_o).1 ?_
        refine v_getp (pc := 81) h dX0_carries_81 fX0_195 rfl (WkS.c (KpS.walk h_o).2) (WkS.bag (KpS.walk h_o).2).1 ?_
        refine v_geti (pc := 84) h dX0_carries_84 fX0_199 rfl (WkS.bag (KpS.walk h_o).2).2.1 ?_
        refine v_icmp_ge (pc := 87) (t := 185) h dX0_carries_87 rfl (fun _ => ?_) (fun _ => ?_)
        · refine v_aload_n (pc := 185) h dX0_carries_185 0 rfl rfl ?_
          refine v_iload_n (pc := 186) h dX0_carries_186 1 rfl rfl ?_
          refine v_callP (pc := 187) h dX0_carries_187 kX0_315 rfl (KpS.c h_o) (tX0_manyWithin o a1 I7 r h_o) (by decide) rfl rfl (Nat.le_of_ble_eq_true rfl) ⟨Nat.zero_le _, Nat.zero_le _⟩ (fun r9 => ?_)
          refine v_istore_n (pc := 190) h dX0_carries_190 rfl (by decide) (lv' := [(3, .int r9), (0, .ref o), (1, .int a1), (2, .int a2)]) rfl ?_
          refine v_iconst (pc := 191) h dX0_carries_191 (v := 0) rfl ?_
          refine v_istore (pc := 192) h dX0_carries_192 (by decide) (lv' := [(4, .int (0 : Int32)), (3, .int r9), (0, .ref o), (1, .int a1), (2, .int a2)]) rfl ?_
          refine v_iconst (pc := 194) h dX0_carries_194 (v := 0) rfl ?_
          refine v_istore (pc := 195) h dX0_carries_195 (by decide) (lv' := [(5, .int (0 : Int32)), (4, .int (0 : Int32)), (3, .int r9), (0, .ref o), (1, .int a1), (2, .int a2)]) rfl ?_
          refine v_sub [3, 4, 5, 2, 1, 0] rfl ?_
          refine L2.run (lv := fun i4_10 i5_11 => [(0, .ref o), (1, .int a1), (2, .int a2), (3, .int r9), (4, .int i4_10), (5, .int i5_11)]) (st := fun i4_10 i5_11 => []) (Im := fun i4_10 i5_11 => I7) (r := fun i4_10 i5_11 => r) (fun X12 hX12 i4_10 i5_11 => ?_) (0 : Int32) (0 : Int32)
          refine v_iload (pc := 197) h dX0_carries_197 5 rfl ?_
          refine v_iload_n (pc := 199) h dX0_carries_199 1 rfl rfl ?_
          refine v_icmp_gt (pc := 200) (t := 227) h dX0_carries_200 rfl (fun _ => ?_) (fun _ => ?_)
          · refine v_iload_n (pc := 227) h dX0_carries_227 2 rfl rfl ?_
            refine v_if_ne (pc := 228) (t := 235) h dX0_carries_228 rfl (fun _ => ?_) (fun _ => ?_)
            · refine v_iload (pc := 235) h dX0_carries_235 4 rfl ?_
              exact v_iret (pc := 237) h hr dX0_carries_237
            · refine v_iload_n (pc := 231) h dX0_carries_231 3 rfl rfl ?_
              refine v_goto (pc := 232) (t := 237) h dX0_carries_232 rfl ?_
              exact v_iret (pc := 237) h hr dX0_carries_237
          · refine v_iload (pc := 203) h dX0_carries_203 4 rfl ?_
            refine v_aload_n (pc := 205) h dX0_carries_205 0 rfl rfl ?_
            refine v_getp (pc := 206) h dX0_carries_206 fX0_53 rfl (KpS.c h_o) (KpS.waysFor h_o).1 ?_
            refine v_iload_n (pc := 209) h dX0_carries_209 3 rfl rfl ?_
            refine v_aaldk (pc := 210) h dX0_carries_210 (t := 5) (KpS.waysFor h_o).2.1 rfl rfl (KpS.waysFor h_o).2.2.1 (fun hin => ((KpS.waysFor h_o).2.2.2 _ (vp_lt hin)).1) (fun h13 => ?_)
            refine v_iload (pc := 211) h dX0_carries_211 5 rfl ?_
            refine v_iald (pc := 213) h dX0_carries_213 ((KpS.waysFor h_o).2.2.2 _ (vp_lt h13)).2.1 ((KpS.waysFor h_o).2.2.2 _ (vp_lt h13)).2.2 ?_
            refine v_iadd (pc := 214) h dX0_carries_214 ?_
            refine v_ldcw (pc := 215) h dX0_carries_215 (v := (1000000007)) q1255 ?_
            refine v_iremK (pc := 218) h dX0_carries_218 (by decide) ?_
            refine v_nmi (fun v14 => ?_)
            refine v_istore (pc := 219) h dX0_carries_219 (by decide) (lv' := [(4, .int v14), (0, .ref o), (1, .int a1), (2, .int a2), (3, .int r9), (5, .int i5_11)]) rfl ?_
            refine v_iinc (pc := 221) h dX0_carries_221 5 rfl (w := (i5_11 + (1 : Int32))) rfl (by decide) (lv' := [(5, .int (i5_11 + (1 : Int32))), (4, .int v14), (0, .ref o), (1, .int a1), (2, .int a2), (3, .int r9)]) rfl ?_
            refine v_goto (pc := 224) (t := 197) h dX0_carries_224 rfl ?_
            refine v_sub [2, 3, 4, 5, 1, 0] rfl ?_
            exact hX12 v14 (i5_11 + (1 : Int32))
        · refine v_aload_n (pc := 90) h dX0_carries_90 0 rfl rfl ?_
          refine v_getp (pc := 91) h dX0_carries_91 fX0_20 rfl (KpS.c h_o) (KpS.walk h_o).1 ?_
          refine v_getp (pc := 94) h dX0_carries_94 fX0_195 rfl (WkS.c (KpS.walk h_o).2) (WkS.bag (KpS.walk h_o).2).1 ?_
          refine v_getp (pc := 97) h dX0_carries_97 fX0_235 rfl (WkS.bag (KpS.walk h_o).2).2.1 (WkS.bag (KpS.walk h_o).2).2.2.1 ?_
          refine v_iload_n (pc := 100) h dX0_carries_100 3 rfl rfl ?_
          refine v_aaldx (pc := 101) h dX0_carries_101 (t := 3) (WkS.bag (KpS.walk h_o).2).2.2.2.1 rfl rfl (WkS.bag (KpS.walk h_o).2).2.2.2.2.1 (fun b15 h16 h17 => ?_)
          refine v_geti (pc := 102) h dX0_carries_102 fX0_247 rfl (BgS.lt (WkS.bag (KpS.walk h_o).2).2 h16 h17) ?_
          refine v_nmi (fun v18 => ?_)
          refine v_istore (pc := 105) h dX0_carries_105 (by decide) (lv' := [(4, .int v18), (0, .ref o), (1, .int a1), (2, .int a2), (3, .int i3_6)]) rfl ?_
          refine v_iload_n (pc := 107) h dX0_carries_107 4 rfl rfl ?_
          refine v_iconst (pc := 108) h dX0_carries_108 (v := 1) rfl ?_
          refine v_iadd (pc := 109) h dX0_carries_109 ?_
          refine v_nmi (fun v19 => ?_)
          refine v_istore (pc := 110) h dX0_carries_110 (by decide) (lv' := [(5, .int v19), (4, .int v18), (0, .ref o), (1, .int a1), (2, .int a2), (3, .int i3_6)]) rfl ?_
          refine v_sub [2, 3, 4, 5, 1, 0] rfl ?_
          refine L2.run (lv := fun i5_20 I21 => [(0, .ref o), (1, .int a1), (2, .int a2), (3, .int i3_6), (4, .int v18), (5, .int i5_20)]) (st := fun i5_20 I21 => []) (Im := fun i5_20 I21 => I21) (r := fun i5_20 I21 => r) (fun X22 hX22 i5_20 I21 => ?_) v19 I7
          refine v_iload (pc := 112) h dX0_carries_112 5 rfl ?_
          refine v_if_le (pc := 114) (t := 179) h dX0_carries_114 rfl (fun _ => ?_) (fun _ => ?_)
          · refine v_iinc (pc := 179) h dX0_carries_179 3 rfl (w := (i3_6 + (1 : Int32))) rfl (by decide) (lv' := [(3, .int (i3_6 + (1 : Int32))), (0, .ref o), (1, .int a1), (2, .int a2), (4, .int v18), (5, .int i5_20)]) rfl ?_
            refine v_goto (pc := 182) (t := 76) h dX0_carries_182 rfl ?_
            refine v_sub [1, 2, 3, 0] rfl ?_
            exact hX8 (i3_6 + (1 : Int32)) I21
          · refine v_iload_n (pc := 117) h dX0_carries_117 1 rfl rfl ?_
            refine v_istore (pc := 118) h dX0_carries_118 (by decide) (lv' := [(6, .int a1), (0, .ref o), (1, .int a1), (2, .int a2), (3, .int i3_6), (4, .int v18), (5, .int i5_20)]) rfl ?_
            refine v_sub [1, 2, 3, 4, 5, 6, 0] rfl ?_
            refine L2.run (lv := fun i6_23 I24 => [(0, .ref o), (1, .int a1), (2, .int a2), (3, .int i3_6), (4, .int v18), (5, .int i5_20), (6, .int i6_23)]) (st := fun i6_23 I24 => []) (Im := fun i6_23 I24 => I24) (r := fun i6_23 I24 => r) (fun X25 hX25 i6_23 I24 => ?_) a1 I21
            refine v_iload (pc := 120) h dX0_carries_120 6 rfl ?_
            refine v_iload (pc := 122) h dX0_carries_122 4 rfl ?_
            refine v_icmp_lt (pc := 124) (t := 173) h dX0_carries_124 rfl (fun _ => ?_) (fun _ => ?_)
            · refine v_iinc (pc := 173) h dX0_carries_173 5 rfl (w := (i5_20 + (-1 : Int32))) rfl (by decide) (lv' := [(5, .int (i5_20 + (-1 : Int32))), (0, .ref o), (1, .int a1), (2, .int a2), (3, .int i3_6), (4, .int v18), (6, .int i6_23)]) rfl ?_
              refine v_goto (pc := 176) (t := 112) h dX0_carries_176 rfl ?_
              refine v_sub [1, 2, 3, 4, 5, 0] rfl ?_
              exact hX22 (i5_20 + (-1 : Int32)) I24
            · refine v_aload_n (pc := 127) h dX0_carries_127 0 rfl rfl ?_
              refine v_getp (pc := 128) h dX0_carries_128 fX0_53 rfl (KpS.c h_o) (KpS.waysFor h_o).1 ?_
              refine v_iload (pc := 131) h dX0_carries_131 5 rfl ?_
              refine v_aaldk (pc := 133) h dX0_carries_133 (t := 5) (KpS.waysFor h_o).2.1 rfl rfl (KpS.waysFor h_o).2.2.1 (fun hin => ((KpS.waysFor h_o).2.2.2 _ (vp_lt hin)).1) (fun h26 => ?_)
              refine v_iload (pc := 134) h dX0_carries_134 6 rfl ?_
              refine v_aload_n (pc := 136) h dX0_carries_136 0 rfl rfl ?_
              refine v_getp (pc := 137) h dX0_carries_137 fX0_53 rfl (KpS.c h_o) (KpS.waysFor h_o).1 ?_
              refine v_iload (pc := 140) h dX0_carries_140 5 rfl ?_
              refine v_aaldk (pc := 142) h dX0_carries_142 (t := 5) (KpS.waysFor h_o).2.1 rfl rfl (KpS.waysFor h_o).2.2.1 (fun hin => ((KpS.waysFor h_o).2.2.2 _ (vp_lt hin)).1) (fun h27 => ?_)
              refine v_iload (pc := 143) h dX0_carries_143 6 rfl ?_
              refine v_iald (pc := 145) h dX0_carries_145 ((KpS.waysFor h_o).2.2.2 _ (vp_lt h27)).2.1 ((KpS.waysFor h_o).2.2.2 _ (vp_lt h27)).2.2 ?_
              refine v_aload_n (pc := 146) h dX0_carries_146 0 rfl rfl ?_
              refine v_getp (pc := 147) h dX0_carries_147 fX0_53 rfl (KpS.c h_o) (KpS.waysFor h_o).1 ?_
              refine v_iload (pc := 150) h dX0_carries_150 5 rfl ?_
              refine v_iconst (pc := 152) h dX0_carries_152 (v := 1) rfl ?_
              refine v_isub (pc := 153) h dX0_carries_153 ?_
              refine v_aaldk (pc := 154) h dX0_carries_154 (t := 5) (KpS.waysFor h_o).2.1 rfl rfl (KpS.waysFor h_o).2.2.1 (fun hin => ((KpS.waysFor h_o).2.2.2 _ (vp_lt hin)).1) (fun h28 => ?_)
              refine v_iload (pc := 155) h dX0_carries_155 6 rfl ?_
              refine v_iload (pc := 157) h dX0_carries_157 4 rfl ?_
              refine v_isub (pc := 159) h dX0_carries_159 ?_
              refine v_iald (pc := 160) h dX0_carries_160 ((KpS.waysFor h_o).2.2.2 _ (vp_lt h28)).2.1 ((KpS.waysFor h_o).2.2.2 _ (vp_lt h28)).2.2 ?_
              refine v_iadd (pc := 161) h dX0_carries_161 ?_
              refine v_ldcw (pc := 162) h dX0_carries_162 (v := (1000000007)) q1255 ?_
              refine v_iremK (pc := 165) h dX0_carries_165 (by decide) ?_
              refine v_iast (pc := 166) h dX0_carries_166 ((KpS.waysFor h_o).2.2.2 _ (vp_lt h27)).2.1 ((KpS.waysFor h_o).2.2.2 _ (vp_lt h27)).2.2 ?_
              refine v_nmI (fun I29 => ?_)
              refine v_iinc (pc := 167) h dX0_carries_167 6 rfl (w := (i6_23 + (-1 : Int32))) rfl (by decide) (lv' := [(6, .int (i6_23 + (-1 : Int32))), (0, .ref o), (1, .int a1), (2, .int a2), (3, .int i3_6), (4, .int v18), (5, .int i5_20)]) rfl ?_
              refine v_goto (pc := 170) (t := 120) h dX0_carries_170 rfl ?_
              refine v_sub [1, 2, 3, 4, 5, 6, 0] rfl ?_
              exact hX25 (i6_23 + (-1 : Int32)) I29
      · refine v_iconst (pc := 30) h dX0_carries_30 (v := 0) rfl ?_
        refine v_istore (pc := 31) h dX0_carries_31 (by decide) (lv' := [(4, .int (0 : Int32)), (0, .ref o), (1, .int a1), (2, .int a2), (3, .int i3_3)]) rfl ?_
        refine v_sub [1, 2, 3, 4, 0] rfl ?_
        refine L2.run (lv := fun i4_30 I31 => [(0, .ref o), (1, .int a1), (2, .int a2), (3, .int i3_3), (4, .int i4_30)]) (st := fun i4_30 I31 => []) (Im := fun i4_30 I31 => I31) (r := fun i4_30 I31 => r) (fun X32 hX32 i4_30 I31 => ?_) (0 : Int32) I4
        refine v_iload (pc := 33) h dX0_carries_33 4 rfl ?_
        refine v_iload_n (pc := 35) h dX0_carries_35 1 rfl rfl ?_
        refine v_icmp_gt (pc := 36) (t := 68) h dX0_carries_36 rfl (fun _ => ?_) (fun _ => ?_)
        · refine v_iinc (pc := 68) h dX0_carries_68 3 rfl (w := (i3_3 + (1 : Int32))) rfl (by decide) (lv' := [(3, .int (i3_3 + (1 : Int32))), (0, .ref o), (1, .int a1), (2, .int a2), (4, .int i4_30)]) rfl ?_
          refine v_goto (pc := 71) (t := 24) h dX0_carries_71 rfl ?_
          refine v_sub [1, 2, 3, 0] rfl ?_
          exact hX5 (i3_3 + (1 : Int32)) I31
        · refine v_aload_n (pc := 39) h dX0_carries_39 0 rfl rfl ?_
          refine v_getp (pc := 40) h dX0_carries_40 fX0_53 rfl (KpS.c h_o) (KpS.waysFor h_o).1 ?_
          refine v_iload_n (pc := 43) h dX0_carries_43 3 rfl rfl ?_
          refine v_aaldk (pc := 44) h dX0_carries_44 (t := 5) (KpS.waysFor h_o).2.1 rfl rfl (KpS.waysFor h_o).2.2.1 (fun hin => ((KpS.waysFor h_o).2.2.2 _ (vp_lt hin)).1) (fun h33 => ?_)
          refine v_iload (pc := 45) h dX0_carries_45 4 rfl ?_
          refine v_iload_n (pc := 47) h dX0_carries_47 3 rfl rfl ?_
          refine v_jn1 (fun t34 => V g x 7 (0, 0) 61 [(0, .ref o), (1, .int a1), (2, .int a2), (3, .int i3_3), (4, .int i4_30)] [.int t34, .int i4_30, .ref (o + 2607 + i3_3.toNatClampNeg)] I31 r) (fun k35 hk35 => ?_) (fun t34 => ?_)
          · refine v_jn0 (V g x 7 (0, 0) 60 [(0, .ref o), (1, .int a1), (2, .int a2), (3, .int i3_3), (4, .int i4_30)] [.int i4_30, .ref (o + 2607 + i3_3.toNatClampNeg)] I31 r) (fun k36 hk36 => ?_) ?_
            · refine v_if_ne (pc := 48) (t := 60) h dX0_carries_48 rfl (fun _ => ?_) (fun _ => ?_)
              · exact hk36
              · refine v_iload (pc := 51) h dX0_carries_51 4 rfl ?_
                refine v_if_ne (pc := 53) (t := 60) h dX0_carries_53 rfl (fun _ => ?_) (fun _ => ?_)
                · exact hk36
                · refine v_iconst (pc := 56) h dX0_carries_56 (v := 1) rfl ?_
                  refine v_goto (pc := 57) (t := 61) h dX0_carries_57 rfl ?_
                  exact hk35 (1 : Int32)
            · refine v_iconst (pc := 60) h dX0_carries_60 (v := 0) rfl ?_
              exact hk35 (0 : Int32)
          · refine v_iast (pc := 61) h dX0_carries_61 ((KpS.waysFor h_o).2.2.2 _ (vp_lt h33)).2.1 ((KpS.waysFor h_o).2.2.2 _ (vp_lt h33)).2.2 ?_
            refine v_nmI (fun I37 => ?_)
            refine v_iinc (pc := 62) h dX0_carries_62 4 rfl (w := (i4_30 + (1 : Int32))) rfl (by decide) (lv' := [(4, .int (i4_30 + (1 : Int32))), (0, .ref o), (1, .int a1), (2, .int a2), (3, .int i3_3)]) rfl ?_
            refine v_goto (pc := 65) (t := 33) h dX0_carries_65 rfl ?_
            refine v_sub [1, 2, 3, 4, 0] rfl ?_
            exact hX32 (i4_30 + (1 : Int32)) I37
    · refine v_iconst (pc := 20) h dX0_carries_20 (v := (-1)) rfl ?_
      exact v_iret (pc := 21) h hr dX0_carries_21
set_option maxHeartbeats 4000000 in
theorem tX0_owes {g : Gl}  (o : Nat) (a1 : Int32) (a2 : Int32) (a3 : Int32) (I : MI) (r : Rh) (h_o : KpS o r) : CtI g yX0_owes cX0_owes 4 (some .int) 2 [.ref o, .int a1, .int a2, .int a3] I r (pX0_owes o a1 a2 a3 I r) := by
  refine CtI.mk (lv := [(0, .ref o), (1, .int a1), (2, .int a2), (3, .int a3)]) (by decide) (Nat.le_of_ble_eq_true rfl) rfl (fun x Q h hr => ?_)
  unfold pX0_owes
  refine v_iload_n (pc := 0) h dX0_owes_0 1 rfl rfl ?_
  refine v_iconst (pc := 1) h dX0_owes_1 (v := (-1)) rfl ?_
  refine v_icmp_ne (pc := 2) (t := 18) h dX0_owes_2 rfl (fun _ => ?_) (fun _ => ?_)
  · refine v_iload_n (pc := 18) h dX0_owes_18 1 rfl rfl ?_
    refine v_iconst (pc := 19) h dX0_owes_19 (v := 0) rfl ?_
    refine v_bipush (pc := 20) h dX0_owes_20 (v := 11) rfl ?_
    refine v_callsp (pc := 22) h dX0_owes_22 sX0_78 (tX0_isIn a1 (0 : Int32) (11 : Int32) I r ) (by decide) rfl rfl (Nat.le_of_ble_eq_true rfl) ⟨Nat.zero_le _, Nat.zero_le _⟩ (fun r1 => ?_)
    refine v_jn0 (V g x 4 (0, 0) 69 [] [] I r) (fun k2 hk2 => ?_) ?_
    · refine v_if_eq (pc := 25) (t := 69) h dX0_owes_25 rfl (fun _ => ?_) (fun _ => ?_)
      · refine v_sub [] rfl ?_
        exact hk2
      · refine v_iload_n (pc := 28) h dX0_owes_28 2 rfl rfl ?_
        refine v_iconst (pc := 29) h dX0_owes_29 (v := 0) rfl ?_
        refine v_bipush (pc := 30) h dX0_owes_30 (v := 11) rfl ?_
        refine v_callsp (pc := 32) h dX0_owes_32 sX0_78 (tX0_isIn a2 (0 : Int32) (11 : Int32) I r ) (by decide) rfl rfl (Nat.le_of_ble_eq_true rfl) ⟨Nat.zero_le _, Nat.zero_le _⟩ (fun r3 => ?_)
        refine v_if_eq (pc := 35) (t := 69) h dX0_owes_35 rfl (fun _ => ?_) (fun _ => ?_)
        · refine v_sub [] rfl ?_
          exact hk2
        · refine v_iload_n (pc := 38) h dX0_owes_38 1 rfl rfl ?_
          refine v_iload_n (pc := 39) h dX0_owes_39 2 rfl rfl ?_
          refine v_icmp_eq (pc := 40) (t := 69) h dX0_owes_40 rfl (fun _ => ?_) (fun _ => ?_)
          · refine v_sub [] rfl ?_
            exact hk2
          · refine v_iload_n (pc := 43) h dX0_owes_43 3 rfl rfl ?_
            refine v_iconst (pc := 44) h dX0_owes_44 (v := 1) rfl ?_
            refine v_bipush (pc := 45) h dX0_owes_45 (v := 99) rfl ?_
            refine v_callsp (pc := 47) h dX0_owes_47 sX0_78 (tX0_isIn a3 (1 : Int32) (99 : Int32) I r ) (by decide) rfl rfl (Nat.le_of_ble_eq_true rfl) ⟨Nat.zero_le _, Nat.zero_le _⟩ (fun r4 => ?_)
            refine v_if_eq (pc := 50) (t := 69) h dX0_owes_50 rfl (fun _ => ?_) (fun _ => ?_)
            · refine v_sub [] rfl ?_
              exact hk2
            · refine v_aload_n (pc := 53) h dX0_owes_53 0 rfl rfl ?_
              refine v_getp (pc := 54) h dX0_owes_54 fX0_20 rfl (KpS.c h_o) (KpS.walk h_o).1 ?_
              refine v_getp (pc := 57) h dX0_owes_57 fX0_318 rfl (WkS.c (KpS.walk h_o).2) (WkS.owed (KpS.walk h_o).2).1 ?_
              refine v_iload_n (pc := 60) h dX0_owes_60 1 rfl rfl ?_
              refine v_iload_n (pc := 61) h dX0_owes_61 2 rfl rfl ?_
              refine v_iload_n (pc := 62) h dX0_owes_62 3 rfl rfl ?_
              refine v_callI (pc := 63) h dX0_owes_63 kX0_298 rfl (WkS.owed (KpS.walk h_o).2).2.1 (tX4_tells (o + 193) 16 a1 a2 a3 I r (WkS.owed (KpS.walk h_o).2).2) (by decide) rfl rfl (Nat.le_of_ble_eq_true rfl) ⟨Nat.zero_le _, Nat.zero_le _⟩ (fun r5 I6 => ?_)
              refine v_goto (pc := 66) (t := 70) h dX0_owes_66 rfl ?_
              exact v_iret (pc := 70) h hr dX0_owes_70
    · refine v_iconst (pc := 69) h dX0_owes_69 (v := (-1)) rfl ?_
      exact v_iret (pc := 70) h hr dX0_owes_70
  · refine v_aload_n (pc := 5) h dX0_owes_5 0 rfl rfl ?_
    refine v_getp (pc := 6) h dX0_owes_6 fX0_20 rfl (KpS.c h_o) (KpS.walk h_o).1 ?_
    refine v_getp (pc := 9) h dX0_owes_9 fX0_318 rfl (WkS.c (KpS.walk h_o).2) (WkS.owed (KpS.walk h_o).2).1 ?_
    refine v_callI (pc := 12) h dX0_owes_12 kX0_293 rfl (WkS.owed (KpS.walk h_o).2).2.1 (tX4_ends (o + 193) 16 I r (WkS.owed (KpS.walk h_o).2).2) (by decide) rfl rfl (Nat.le_of_ble_eq_true rfl) ⟨Nat.zero_le _, Nat.zero_le _⟩ (fun r7 I8 => ?_)
    refine v_goto (pc := 15) (t := 70) h dX0_owes_15 rfl ?_
    exact v_iret (pc := 70) h hr dX0_owes_70
set_option maxHeartbeats 4000000 in
theorem tX0_netOf {g : Gl}  (o : Nat) (a1 : Int32) (I : MI) (r : Rh) (h_o : KpS o r) : CtP g yX0_netOf cX0_netOf 5 (some .int) 1 [.ref o, .int a1] I r (pX0_netOf o a1 I r) := by
  refine CtP.mk (lv := [(0, .ref o), (1, .int a1)]) (by decide) (Nat.le_of_ble_eq_true rfl) rfl (fun x Q h hr => ?_)
  unfold pX0_netOf
  refine v_iconst (pc := 0) h dX0_netOf_0 (v := 0) rfl ?_
  refine v_istore_n (pc := 1) h dX0_netOf_1 rfl (by decide) (lv' := [(2, .int (0 : Int32)), (0, .ref o), (1, .int a1)]) rfl ?_
  refine v_iconst (pc := 2) h dX0_netOf_2 (v := 0) rfl ?_
  refine v_istore_n (pc := 3) h dX0_netOf_3 rfl (by decide) (lv' := [(3, .int (0 : Int32)), (2, .int (0 : Int32)), (0, .ref o), (1, .int a1)]) rfl ?_
  refine v_sub [2, 3, 1, 0] rfl ?_
  refine L2.run (lv := fun i2_1 i3_2 => [(0, .ref o), (1, .int a1), (2, .int i2_1), (3, .int i3_2)]) (st := fun i2_1 i3_2 => []) (Im := fun i2_1 i3_2 => I) (r := fun i2_1 i3_2 => r) (fun X3 hX3 i2_1 i3_2 => ?_) (0 : Int32) (0 : Int32)
  refine v_iload_n (pc := 4) h dX0_netOf_4 3 rfl rfl ?_
  refine v_aload_n (pc := 5) h dX0_netOf_5 0 rfl rfl ?_
  refine v_getp (pc := 6) h dX0_netOf_6 fX0_20 rfl (KpS.c h_o) (KpS.walk h_o).1 ?_
  refine v_getp (pc := 9) h dX0_netOf_9 fX0_318 rfl (WkS.c (KpS.walk h_o).2) (WkS.owed (KpS.walk h_o).2).1 ?_
  refine v_geti (pc := 12) h dX0_netOf_12 fX0_302 rfl (WkS.owed (KpS.walk h_o).2).2.1 ?_
  refine v_icmp_ge (pc := 15) (t := 63) h dX0_netOf_15 rfl (fun _ => ?_) (fun _ => ?_)
  · refine v_iload_n (pc := 63) h dX0_netOf_63 2 rfl rfl ?_
    exact v_iretP (pc := 64) h hr dX0_netOf_64
  · refine v_aload_n (pc := 18) h dX0_netOf_18 0 rfl rfl ?_
    refine v_getp (pc := 19) h dX0_netOf_19 fX0_20 rfl (KpS.c h_o) (KpS.walk h_o).1 ?_
    refine v_getp (pc := 22) h dX0_netOf_22 fX0_318 rfl (WkS.c (KpS.walk h_o).2) (WkS.owed (KpS.walk h_o).2).1 ?_
    refine v_getp (pc := 25) h dX0_netOf_25 fX0_308 rfl (WkS.owed (KpS.walk h_o).2).2.1 (WkS.owed (KpS.walk h_o).2).2.2.1 ?_
    refine v_iload_n (pc := 28) h dX0_netOf_28 3 rfl rfl ?_
    refine v_aaldk (pc := 29) h dX0_netOf_29 (t := 5) (WkS.owed (KpS.walk h_o).2).2.2.2.1 rfl rfl (WkS.owed (KpS.walk h_o).2).2.2.2.2.1 (fun hin => ((WkS.owed (KpS.walk h_o).2).2.2.2.2.2 _ (vp_lt hin)).1) (fun h4 => ?_)
    refine v_astore (pc := 30) h dX0_netOf_30 (by decide) (lv' := [(4, .ref (o + 195 + i3_2.toNatClampNeg)), (0, .ref o), (1, .int a1), (2, .int i2_1), (3, .int i3_2)]) rfl ?_
    refine v_iload_n (pc := 32) h dX0_netOf_32 3 rfl rfl ?_
    refine v_iload_n (pc := 33) h dX0_netOf_33 2 rfl rfl ?_
    refine v_aload (pc := 34) h dX0_netOf_34 0 rfl ?_
    refine v_iconst (pc := 36) h dX0_netOf_36 (v := 1) rfl ?_
    refine v_ialdL (pc := 37) h dX0_netOf_37 ((WkS.owed (KpS.walk h_o).2).2.2.2.2.2 _ (vp_lt h4)).2.1 ((WkS.owed (KpS.walk h_o).2).2.2.2.2.2 _ (vp_lt h4)).2.2 (vpd rfl) (k := 1) rfl ?_
    refine v_ishr (pc := 38) h dX0_netOf_38 ?_
    refine v_iconst (pc := 39) h dX0_netOf_39 (v := 1) rfl ?_
    refine v_iand (pc := 40) h dX0_netOf_40 ?_
    refine v_iload_n (pc := 41) h dX0_netOf_41 2 rfl rfl ?_
    refine v_aload (pc := 42) h dX0_netOf_42 0 rfl ?_
    refine v_iconst (pc := 44) h dX0_netOf_44 (v := 0) rfl ?_
    refine v_ialdL (pc := 45) h dX0_netOf_45 ((WkS.owed (KpS.walk h_o).2).2.2.2.2.2 _ (vp_lt h4)).2.1 ((WkS.owed (KpS.walk h_o).2).2.2.2.2.2 _ (vp_lt h4)).2.2 (vpd rfl) (k := 0) rfl ?_
    refine v_ishr (pc := 46) h dX0_netOf_46 ?_
    refine v_iconst (pc := 47) h dX0_netOf_47 (v := 1) rfl ?_
    refine v_iand (pc := 48) h dX0_netOf_48 ?_
    refine v_isub (pc := 49) h dX0_netOf_49 ?_
    refine v_aload (pc := 50) h dX0_netOf_50 0 rfl ?_
    refine v_iconst (pc := 52) h dX0_netOf_52 (v := 2) rfl ?_
    refine v_ialdL (pc := 53) h dX0_netOf_53 ((WkS.owed (KpS.walk h_o).2).2.2.2.2.2 _ (vp_lt h4)).2.1 ((WkS.owed (KpS.walk h_o).2).2.2.2.2.2 _ (vp_lt h4)).2.2 (vpd rfl) (k := 2) rfl ?_
    refine v_imul (pc := 54) h dX0_netOf_54 ?_
    refine v_iadd (pc := 55) h dX0_netOf_55 ?_
    refine v_nmi (fun v5 => ?_)
    refine v_istore_n (pc := 56) h dX0_netOf_56 rfl (by decide) (lv' := [(2, .int v5), (4, .ref (o + 195 + i3_2.toNatClampNeg)), (0, .ref o), (1, .int a1), (3, .int i3_2)]) rfl ?_
    refine v_iinc (pc := 57) h dX0_netOf_57 4 rfl (w := (i3_2 + (1 : Int32))) rfl (by decide) (lv' := [(3, .int (i3_2 + (1 : Int32))), (2, .int v5), (4, .ref (o + 195 + i3_2.toNatClampNeg)), (0, .ref o), (1, .int a1)]) rfl ?_
    refine v_goto (pc := 60) (t := 4) h dX0_netOf_60 rfl ?_
    refine v_sub [3, 4, 1, 0] rfl ?_
    exact hX3 v5 (i3_2 + (1 : Int32))
set_option maxHeartbeats 4000000 in
theorem tX0_fewest {g : Gl}  (o : Nat) (I : MI) (r : Rh) (h_o : KpS o r) : CtI g yX0_fewest cX0_fewest 4 (some .int) 2 [.ref o] I r (pX0_fewest o I r) := by
  refine CtI.mk (lv := [(0, .ref o)]) (by decide) (Nat.le_of_ble_eq_true rfl) rfl (fun x Q h hr => ?_)
  unfold pX0_fewest
  refine v_iconst (pc := 0) h dX0_fewest_0 (v := 0) rfl ?_
  refine v_istore_n (pc := 1) h dX0_fewest_1 rfl (by decide) (lv' := [(1, .int (0 : Int32)), (0, .ref o)]) rfl ?_
  refine v_iconst (pc := 2) h dX0_fewest_2 (v := 0) rfl ?_
  refine v_istore_n (pc := 3) h dX0_fewest_3 rfl (by decide) (lv' := [(2, .int (0 : Int32)), (1, .int (0 : Int32)), (0, .ref o)]) rfl ?_
  refine v_sub [2, 1, 0] rfl ?_
  refine L2.run (lv := fun i1_1 i2_2 => [(0, .ref o), (1, .int i1_1), (2, .int i2_2)]) (st := fun i1_1 i2_2 => []) (Im := fun i1_1 i2_2 => I) (r := fun i1_1 i2_2 => r) (fun X3 hX3 i1_1 i2_2 => ?_) (0 : Int32) (0 : Int32)
  refine v_iload_n (pc := 4) h dX0_fewest_4 2 rfl rfl ?_
  refine v_bipush (pc := 5) h dX0_fewest_5 (v := 12) rfl ?_
  refine v_icmp_ge (pc := 7) (t := 36) h dX0_fewest_7 rfl (fun _ => ?_) (fun _ => ?_)
  · refine v_iconst (pc := 36) h dX0_fewest_36 (v := 0) rfl ?_
    refine v_istore_n (pc := 37) h dX0_fewest_37 rfl (by decide) (lv' := [(2, .int (0 : Int32)), (0, .ref o), (1, .int i1_1)]) rfl ?_
    refine v_sub [1, 2, 0] rfl ?_
    refine L2.run (lv := fun i2_4 I5 => [(0, .ref o), (1, .int i1_1), (2, .int i2_4)]) (st := fun i2_4 I5 => []) (Im := fun i2_4 I5 => I5) (r := fun i2_4 I5 => r) (fun X6 hX6 i2_4 I5 => ?_) (0 : Int32) I
    refine v_iload_n (pc := 38) h dX0_fewest_38 2 rfl rfl ?_
    refine v_iload_n (pc := 39) h dX0_fewest_39 1 rfl rfl ?_
    refine v_icmp_gt (pc := 40) (t := 143) h dX0_fewest_40 rfl (fun _ => ?_) (fun _ => ?_)
    · refine v_iload_n (pc := 143) h dX0_fewest_143 1 rfl rfl ?_
      refine v_callsp (pc := 144) h dX0_fewest_144 sX0_303 (tJ6_bitCount i1_1 I5 r ) (by decide) rfl rfl (Nat.le_of_ble_eq_true rfl) ⟨Nat.zero_le _, Nat.zero_le _⟩ (fun r7 => ?_)
      refine v_aload_n (pc := 147) h dX0_fewest_147 0 rfl rfl ?_
      refine v_getp (pc := 148) h dX0_fewest_148 fX0_56 rfl (KpS.c h_o) (KpS.groups h_o).1 ?_
      refine v_iload_n (pc := 151) h dX0_fewest_151 1 rfl rfl ?_
      refine v_iald (pc := 152) h dX0_fewest_152 (KpS.groups h_o).2.1 (KpS.groups h_o).2.2 ?_
      refine v_isub (pc := 153) h dX0_fewest_153 ?_
      exact v_iret (pc := 154) h hr dX0_fewest_154
    · refine v_aload_n (pc := 43) h dX0_fewest_43 0 rfl rfl ?_
      refine v_getp (pc := 44) h dX0_fewest_44 fX0_56 rfl (KpS.c h_o) (KpS.groups h_o).1 ?_
      refine v_iload_n (pc := 47) h dX0_fewest_47 2 rfl rfl ?_
      refine v_iconst (pc := 48) h dX0_fewest_48 (v := 0) rfl ?_
      refine v_iast (pc := 49) h dX0_fewest_49 (KpS.groups h_o).2.1 (KpS.groups h_o).2.2 ?_
      refine v_nmI (fun I8 => ?_)
      refine v_iload_n (pc := 50) h dX0_fewest_50 2 rfl rfl ?_
      refine v_jn1 (fun I9 => V g x 4 (0, 0) 137 [(0, .ref o), (1, .int i1_1), (2, .int i2_4)] [] I9 r) (fun k10 hk10 => ?_) (fun I9 => ?_)
      · refine v_if_eq (pc := 51) (t := 137) h dX0_fewest_51 rfl (fun _ => ?_) (fun _ => ?_)
        · exact hk10 I8
        · refine v_iload_n (pc := 54) h dX0_fewest_54 2 rfl rfl ?_
          refine v_iload_n (pc := 55) h dX0_fewest_55 1 rfl rfl ?_
          refine v_iconst (pc := 56) h dX0_fewest_56 (v := (-1)) rfl ?_
          refine v_ixor (pc := 57) h dX0_fewest_57 ?_
          refine v_iand (pc := 58) h dX0_fewest_58 ?_
          refine v_if_eq (pc := 59) (t := 65) h dX0_fewest_59 rfl (fun _ => ?_) (fun _ => ?_)
          · refine v_iconst (pc := 65) h dX0_fewest_65 (v := 0) rfl ?_
            refine v_istore_n (pc := 66) h dX0_fewest_66 rfl (by decide) (lv' := [(3, .int (0 : Int32)), (0, .ref o), (1, .int i1_1), (2, .int i2_4)]) rfl ?_
            refine v_sub [1, 2, 3, 0] rfl ?_
            refine L2.run (lv := fun i3_11 I12 => [(0, .ref o), (1, .int i1_1), (2, .int i2_4), (3, .int i3_11)]) (st := fun i3_11 I12 => []) (Im := fun i3_11 I12 => I12) (r := fun i3_11 I12 => r) (fun X13 hX13 i3_11 I12 => ?_) (0 : Int32) I8
            refine v_iload_n (pc := 67) h dX0_fewest_67 3 rfl rfl ?_
            refine v_bipush (pc := 68) h dX0_fewest_68 (v := 12) rfl ?_
            refine v_icmp_ge (pc := 70) (t := 115) h dX0_fewest_70 rfl (fun _ => ?_) (fun _ => ?_)
            · refine v_aload_n (pc := 115) h dX0_fewest_115 0 rfl rfl ?_
              refine v_getp (pc := 116) h dX0_fewest_116 fX0_56 rfl (KpS.c h_o) (KpS.groups h_o).1 ?_
              refine v_iload_n (pc := 119) h dX0_fewest_119 2 rfl rfl ?_
              refine v_dup2 (pc := 120) h dX0_fewest_120 rfl rfl ?_
              refine v_iald (pc := 121) h dX0_fewest_121 (KpS.groups h_o).2.1 (KpS.groups h_o).2.2 ?_
              refine v_aload_n (pc := 122) h dX0_fewest_122 0 rfl rfl ?_
              refine v_iload_n (pc := 123) h dX0_fewest_123 2 rfl rfl ?_
              refine v_callP (pc := 124) h dX0_fewest_124 kX0_321 rfl (KpS.c h_o) (tX0_netOf o i2_4 I12 r h_o) (by decide) rfl rfl (Nat.le_of_ble_eq_true rfl) ⟨Nat.zero_le _, Nat.zero_le _⟩ (fun r14 => ?_)
              refine v_jn1 (fun t15 => V g x 4 (0, 0) 135 [(0, .ref o), (1, .int i1_1), (2, .int i2_4)] [.int t15, .int (I12 (o + 2632) i2_4.toNatClampNeg), .int i2_4, .ref (o + 2632)] I12 r) (fun k16 hk16 => ?_) (fun t15 => ?_)
              · refine v_if_ne (pc := 127) (t := 134) h dX0_fewest_127 rfl (fun _ => ?_) (fun _ => ?_)
                · refine v_iconst (pc := 134) h dX0_fewest_134 (v := 0) rfl ?_
                  refine v_sub [0, 1, 2] rfl ?_
                  exact hk16 (0 : Int32)
                · refine v_iconst (pc := 130) h dX0_fewest_130 (v := 1) rfl ?_
                  refine v_goto (pc := 131) (t := 135) h dX0_fewest_131 rfl ?_
                  refine v_sub [0, 1, 2] rfl ?_
                  exact hk16 (1 : Int32)
              · refine v_iadd (pc := 135) h dX0_fewest_135 ?_
                refine v_iast (pc := 136) h dX0_fewest_136 (KpS.groups h_o).2.1 (KpS.groups h_o).2.2 ?_
                refine v_nmI (fun I17 => ?_)
                exact hk10 I17
            · refine v_iload_n (pc := 73) h dX0_fewest_73 2 rfl rfl ?_
              refine v_iload_n (pc := 74) h dX0_fewest_74 3 rfl rfl ?_
              refine v_ishr (pc := 75) h dX0_fewest_75 ?_
              refine v_iconst (pc := 76) h dX0_fewest_76 (v := 1) rfl ?_
              refine v_iand (pc := 77) h dX0_fewest_77 ?_
              refine v_iconst (pc := 78) h dX0_fewest_78 (v := 1) rfl ?_
              refine v_jn1 (fun I18 => V g x 4 (0, 0) 109 [(0, .ref o), (1, .int i1_1), (2, .int i2_4), (3, .int i3_11)] [] I18 r) (fun k19 hk19 => ?_) (fun I18 => ?_)
              · refine v_icmp_ne (pc := 79) (t := 109) h dX0_fewest_79 rfl (fun _ => ?_) (fun _ => ?_)
                · exact hk19 I12
                · refine v_aload_n (pc := 82) h dX0_fewest_82 0 rfl rfl ?_
                  refine v_getp (pc := 83) h dX0_fewest_83 fX0_56 rfl (KpS.c h_o) (KpS.groups h_o).1 ?_
                  refine v_iload_n (pc := 86) h dX0_fewest_86 2 rfl rfl ?_
                  refine v_aload_n (pc := 87) h dX0_fewest_87 0 rfl rfl ?_
                  refine v_getp (pc := 88) h dX0_fewest_88 fX0_56 rfl (KpS.c h_o) (KpS.groups h_o).1 ?_
                  refine v_iload_n (pc := 91) h dX0_fewest_91 2 rfl rfl ?_
                  refine v_iald (pc := 92) h dX0_fewest_92 (KpS.groups h_o).2.1 (KpS.groups h_o).2.2 ?_
                  refine v_aload_n (pc := 93) h dX0_fewest_93 0 rfl rfl ?_
                  refine v_getp (pc := 94) h dX0_fewest_94 fX0_56 rfl (KpS.c h_o) (KpS.groups h_o).1 ?_
                  refine v_iload_n (pc := 97) h dX0_fewest_97 2 rfl rfl ?_
                  refine v_iconst (pc := 98) h dX0_fewest_98 (v := 1) rfl ?_
                  refine v_iload_n (pc := 99) h dX0_fewest_99 3 rfl rfl ?_
                  refine v_ishl (pc := 100) h dX0_fewest_100 ?_
                  refine v_iconst (pc := 101) h dX0_fewest_101 (v := (-1)) rfl ?_
                  refine v_ixor (pc := 102) h dX0_fewest_102 ?_
                  refine v_iand (pc := 103) h dX0_fewest_103 ?_
                  refine v_iald (pc := 104) h dX0_fewest_104 (KpS.groups h_o).2.1 (KpS.groups h_o).2.2 ?_
                  refine v_mmax (pc := 105) h dX0_fewest_105 q1104 (by decide) (Nat.le_of_ble_eq_true rfl) ⟨Nat.zero_le _, Nat.zero_le _⟩ ?_
                  refine v_iast (pc := 108) h dX0_fewest_108 (KpS.groups h_o).2.1 (KpS.groups h_o).2.2 ?_
                  refine v_nmI (fun I20 => ?_)
                  exact hk19 I20
              · refine v_iinc (pc := 109) h dX0_fewest_109 3 rfl (w := (i3_11 + (1 : Int32))) rfl (by decide) (lv' := [(3, .int (i3_11 + (1 : Int32))), (0, .ref o), (1, .int i1_1), (2, .int i2_4)]) rfl ?_
                refine v_goto (pc := 112) (t := 67) h dX0_fewest_112 rfl ?_
                refine v_sub [1, 2, 3, 0] rfl ?_
                exact hX13 (i3_11 + (1 : Int32)) I18
          · refine v_goto (pc := 62) (t := 137) h dX0_fewest_62 rfl ?_
            exact hk10 I8
      · refine v_iinc (pc := 137) h dX0_fewest_137 2 rfl (w := (i2_4 + (1 : Int32))) rfl (by decide) (lv' := [(2, .int (i2_4 + (1 : Int32))), (0, .ref o), (1, .int i1_1)]) rfl ?_
        refine v_goto (pc := 140) (t := 38) h dX0_fewest_140 rfl ?_
        refine v_sub [1, 2, 0] rfl ?_
        exact hX6 (i2_4 + (1 : Int32)) I9
  · refine v_iload_n (pc := 10) h dX0_fewest_10 1 rfl rfl ?_
    refine v_aload_n (pc := 11) h dX0_fewest_11 0 rfl rfl ?_
    refine v_iconst (pc := 12) h dX0_fewest_12 (v := 1) rfl ?_
    refine v_iload_n (pc := 13) h dX0_fewest_13 2 rfl rfl ?_
    refine v_ishl (pc := 14) h dX0_fewest_14 ?_
    refine v_callP (pc := 15) h dX0_fewest_15 kX0_321 rfl (KpS.c h_o) (tX0_netOf o (sl (1 : Int32) i2_2) I r h_o) (by decide) rfl rfl (Nat.le_of_ble_eq_true rfl) ⟨Nat.zero_le _, Nat.zero_le _⟩ (fun r21 => ?_)
    refine v_jn1 (fun t22 => V g x 4 (0, 0) 28 [(0, .ref o), (2, .int i2_2)] [.int t22, .int i1_1] I r) (fun k23 hk23 => ?_) (fun t22 => ?_)
    · refine v_if_ne (pc := 18) (t := 25) h dX0_fewest_18 rfl (fun _ => ?_) (fun _ => ?_)
      · refine v_iconst (pc := 25) h dX0_fewest_25 (v := 1) rfl ?_
        refine v_iload_n (pc := 26) h dX0_fewest_26 2 rfl rfl ?_
        refine v_ishl (pc := 27) h dX0_fewest_27 ?_
        refine v_sub [0, 2] rfl ?_
        exact hk23 (sl (1 : Int32) i2_2)
      · refine v_iconst (pc := 21) h dX0_fewest_21 (v := 0) rfl ?_
        refine v_goto (pc := 22) (t := 28) h dX0_fewest_22 rfl ?_
        refine v_sub [0, 2] rfl ?_
        exact hk23 (0 : Int32)
    · refine v_ior (pc := 28) h dX0_fewest_28 ?_
      refine v_nmi (fun v24 => ?_)
      refine v_istore_n (pc := 29) h dX0_fewest_29 rfl (by decide) (lv' := [(1, .int v24), (0, .ref o), (2, .int i2_2)]) rfl ?_
      refine v_iinc (pc := 30) h dX0_fewest_30 2 rfl (w := (i2_2 + (1 : Int32))) rfl (by decide) (lv' := [(2, .int (i2_2 + (1 : Int32))), (1, .int v24), (0, .ref o)]) rfl ?_
      refine v_goto (pc := 33) (t := 4) h dX0_fewest_33 rfl ?_
      refine v_sub [2, 1, 0] rfl ?_
      exact hX3 v24 (i2_2 + (1 : Int32))
set_option maxHeartbeats 4000000 in
theorem tX0_net {g : Gl}  (o : Nat) (a1 : Int32) (I : MI) (r : Rh) (h_o : KpS o r) : CtI g yX0_net cX0_net 2 (some .int) 3 [.ref o, .int a1] I r (pX0_net o a1 I r) := by
  refine CtI.mk (lv := [(0, .ref o), (1, .int a1)]) (by decide) (Nat.le_of_ble_eq_true rfl) rfl (fun x Q h hr => ?_)
  unfold pX0_net
  refine v_iload_n (pc := 0) h dX0_net_0 1 rfl rfl ?_
  refine v_iconst (pc := 1) h dX0_net_1 (v := (-1)) rfl ?_
  refine v_icmp_ne (pc := 2) (t := 12) h dX0_net_2 rfl (fun _ => ?_) (fun _ => ?_)
  · refine v_iload_n (pc := 12) h dX0_net_12 1 rfl rfl ?_
    refine v_iconst (pc := 13) h dX0_net_13 (v := 0) rfl ?_
    refine v_bipush (pc := 14) h dX0_net_14 (v := 11) rfl ?_
    refine v_callsp (pc := 16) h dX0_net_16 sX0_78 (tX0_isIn a1 (0 : Int32) (11 : Int32) I r ) (by decide) rfl rfl (Nat.le_of_ble_eq_true rfl) ⟨Nat.zero_le _, Nat.zero_le _⟩ (fun r1 => ?_)
    refine v_if_eq (pc := 19) (t := 32) h dX0_net_19 rfl (fun _ => ?_) (fun _ => ?_)
    · refine v_sipush (pc := 32) h dX0_net_32 (v := (-10000)) rfl ?_
      exact v_iret (pc := 35) h hr dX0_net_35
    · refine v_aload_n (pc := 22) h dX0_net_22 0 rfl rfl ?_
      refine v_iconst (pc := 23) h dX0_net_23 (v := 1) rfl ?_
      refine v_iload_n (pc := 24) h dX0_net_24 1 rfl rfl ?_
      refine v_ishl (pc := 25) h dX0_net_25 ?_
      refine v_callP (pc := 26) h dX0_net_26 kX0_321 rfl (KpS.c h_o) (tX0_netOf o (sl (1 : Int32) a1) I r h_o) (by decide) rfl rfl (Nat.le_of_ble_eq_true rfl) ⟨Nat.zero_le _, Nat.zero_le _⟩ (fun r2 => ?_)
      refine v_goto (pc := 29) (t := 35) h dX0_net_29 rfl ?_
      exact v_iret (pc := 35) h hr dX0_net_35
  · refine v_aload_n (pc := 5) h dX0_net_5 0 rfl rfl ?_
    refine v_callI (pc := 6) h dX0_net_6 kX0_324 rfl (KpS.c h_o) (tX0_fewest o I r h_o) (by decide) rfl rfl (Nat.le_of_ble_eq_true rfl) ⟨Nat.zero_le _, Nat.zero_le _⟩ (fun r3 I4 => ?_)
    refine v_goto (pc := 9) (t := 35) h dX0_net_9 rfl ?_
    exact v_iret (pc := 35) h hr dX0_net_35
set_option maxHeartbeats 4000000 in
theorem tX0_chain {g : Gl}  (o : Nat) (a1 : Int32) (a2 : Int32) (a3 : Int32) (a4 : Int32) (I : MI) (r : Rh) (h_o : KpS o r) : CtP g yX0_chain cX0_chain 8 (some .int) 2 [.ref o, .int a1, .int a2, .int a3, .int a4] I r (pX0_chain o a1 a2 a3 a4 I r) := by
  refine CtP.mk (lv := [(0, .ref o), (1, .int a1), (2, .int a2), (3, .int a3), (4, .int a4)]) (by decide) (Nat.le_of_ble_eq_true rfl) rfl (fun x Q h hr => ?_)
  unfold pX0_chain
  refine v_iload_n (pc := 0) h dX0_chain_0 1 rfl rfl ?_
  refine v_iconst (pc := 1) h dX0_chain_1 (v := 1) rfl ?_
  refine v_bipush (pc := 2) h dX0_chain_2 (v := 9) rfl ?_
  refine v_callsp (pc := 4) h dX0_chain_4 sX0_78 (tX0_isIn a1 (1 : Int32) (9 : Int32) I r ) (by decide) rfl rfl (Nat.le_of_ble_eq_true rfl) ⟨Nat.zero_le _, Nat.zero_le _⟩ (fun r1 => ?_)
  refine v_if_eq (pc := 7) (t := 46) h dX0_chain_7 rfl (fun _ => ?_) (fun _ => ?_)
  · refine v_iconst (pc := 46) h dX0_chain_46 (v := (-1)) rfl ?_
    exact v_iretP (pc := 47) h hr dX0_chain_47
  · refine v_iload_n (pc := 10) h dX0_chain_10 2 rfl rfl ?_
    refine v_iconst (pc := 11) h dX0_chain_11 (v := 1) rfl ?_
    refine v_sipush (pc := 12) h dX0_chain_12 (v := 9999) rfl ?_
    refine v_callsp (pc := 15) h dX0_chain_15 sX0_78 (tX0_isIn a2 (1 : Int32) (9999 : Int32) I r ) (by decide) rfl rfl (Nat.le_of_ble_eq_true rfl) ⟨Nat.zero_le _, Nat.zero_le _⟩ (fun r2 => ?_)
    refine v_if_eq (pc := 18) (t := 46) h dX0_chain_18 rfl (fun _ => ?_) (fun _ => ?_)
    · refine v_iconst (pc := 46) h dX0_chain_46 (v := (-1)) rfl ?_
      exact v_iretP (pc := 47) h hr dX0_chain_47
    · refine v_iload (pc := 21) h dX0_chain_21 4 rfl ?_
      refine v_jn0 (V g x 8 (0, 0) 36 [(1, .int a1), (2, .int a2), (3, .int a3), (4, .int a4)] [] I r) (fun k3 hk3 => ?_) ?_
      · refine v_if_ne (pc := 23) (t := 36) h dX0_chain_23 rfl (fun _ => ?_) (fun _ => ?_)
        · refine v_sub [1, 2, 3, 4] rfl ?_
          exact hk3
        · refine v_iload_n (pc := 26) h dX0_chain_26 3 rfl rfl ?_
          refine v_iconst (pc := 27) h dX0_chain_27 (v := 0) rfl ?_
          refine v_bipush (pc := 28) h dX0_chain_28 (v := 99) rfl ?_
          refine v_callsp (pc := 30) h dX0_chain_30 sX0_78 (tX0_isIn a3 (0 : Int32) (99 : Int32) I r ) (by decide) rfl rfl (Nat.le_of_ble_eq_true rfl) ⟨Nat.zero_le _, Nat.zero_le _⟩ (fun r4 => ?_)
          refine v_if_eq (pc := 33) (t := 46) h dX0_chain_33 rfl (fun _ => ?_) (fun _ => ?_)
          · refine v_iconst (pc := 46) h dX0_chain_46 (v := (-1)) rfl ?_
            exact v_iretP (pc := 47) h hr dX0_chain_47
          · refine v_sub [1, 2, 3, 4] rfl ?_
            exact hk3
      · refine v_iload (pc := 36) h dX0_chain_36 3 rfl ?_
        refine v_iconst (pc := 38) h dX0_chain_38 (v := 0) rfl ?_
        refine v_iconst (pc := 39) h dX0_chain_39 (v := 1) rfl ?_
        refine v_callsp (pc := 40) h dX0_chain_40 sX0_78 (tX0_isIn a4 (0 : Int32) (1 : Int32) I r ) (by decide) rfl rfl (Nat.le_of_ble_eq_true rfl) ⟨Nat.zero_le _, Nat.zero_le _⟩ (fun r5 => ?_)
        refine v_if_ne (pc := 43) (t := 48) h dX0_chain_43 rfl (fun _ => ?_) (fun _ => ?_)
        · refine v_iconst (pc := 48) h dX0_chain_48 (v := 1) rfl ?_
          refine v_istore (pc := 49) h dX0_chain_49 (by decide) (lv' := [(5, .int (1 : Int32)), (1, .int a1), (2, .int a2), (3, .int a3), (4, .int a4)]) rfl ?_
          refine v_iconst (pc := 51) h dX0_chain_51 (v := 1) rfl ?_
          refine v_istore (pc := 52) h dX0_chain_52 (by decide) (lv' := [(6, .int (1 : Int32)), (5, .int (1 : Int32)), (1, .int a1), (2, .int a2), (3, .int a3), (4, .int a4)]) rfl ?_
          refine v_iconst (pc := 54) h dX0_chain_54 (v := 0) rfl ?_
          refine v_istore (pc := 55) h dX0_chain_55 (by decide) (lv' := [(7, .int (0 : Int32)), (6, .int (1 : Int32)), (5, .int (1 : Int32)), (1, .int a1), (2, .int a2), (3, .int a3), (4, .int a4)]) rfl ?_
          refine v_sub [3, 4, 5, 6, 2, 1, 0] rfl ?_
          refine L3.run (lv := fun i5_6 i6_7 i7_8 => [(1, .int a1), (2, .int a2), (3, .int a3), (4, .int a4), (5, .int i5_6), (6, .int i6_7), (7, .int i7_8)]) (st := fun i5_6 i6_7 i7_8 => []) (Im := fun i5_6 i6_7 i7_8 => I) (r := fun i5_6 i6_7 i7_8 => r) (fun X9 hX9 i5_6 i6_7 i7_8 => ?_) (1 : Int32) (1 : Int32) (0 : Int32)
          refine v_iload (pc := 57) h dX0_chain_57 6 rfl ?_
          refine v_bipush (pc := 59) h dX0_chain_59 (v := 99) rfl ?_
          refine v_icmp_gt (pc := 61) (t := 119) h dX0_chain_61 rfl (fun _ => ?_) (fun _ => ?_)
          · refine v_iconst (pc := 119) h dX0_chain_119 (v := (-1)) rfl ?_
            exact v_iretP (pc := 120) h hr dX0_chain_120
          · refine v_iload (pc := 64) h dX0_chain_64 3 rfl ?_
            refine v_jn0 (V g x 8 (0, 0) 78 [(1, .int a1), (2, .int a2), (3, .int a3), (4, .int a4), (5, .int i5_6), (6, .int i6_7), (7, .int i7_8)] [] I r) (fun k10 hk10 => ?_) ?_
            · refine v_if_ne (pc := 66) (t := 78) h dX0_chain_66 rfl (fun _ => ?_) (fun _ => ?_)
              · exact hk10
              · refine v_iload (pc := 69) h dX0_chain_69 6 rfl ?_
                refine v_iload_n (pc := 71) h dX0_chain_71 2 rfl rfl ?_
                refine v_icmp_ne (pc := 72) (t := 78) h dX0_chain_72 rfl (fun _ => ?_) (fun _ => ?_)
                · exact hk10
                · refine v_iload (pc := 75) h dX0_chain_75 4 rfl ?_
                  exact v_iretP (pc := 77) h hr dX0_chain_77
            · refine v_iload (pc := 78) h dX0_chain_78 3 rfl ?_
              refine v_iconst (pc := 80) h dX0_chain_80 (v := 1) rfl ?_
              refine v_jn0 (V g x 8 (0, 0) 93 [(1, .int a1), (2, .int a2), (3, .int a3), (4, .int a4), (5, .int i5_6), (6, .int i6_7), (7, .int i7_8)] [] I r) (fun k11 hk11 => ?_) ?_
              · refine v_icmp_ne (pc := 81) (t := 93) h dX0_chain_81 rfl (fun _ => ?_) (fun _ => ?_)
                · exact hk11
                · refine v_iload (pc := 84) h dX0_chain_84 4 rfl ?_
                  refine v_iload_n (pc := 86) h dX0_chain_86 1 rfl rfl ?_
                  refine v_icmp_ne (pc := 87) (t := 93) h dX0_chain_87 rfl (fun _ => ?_) (fun _ => ?_)
                  · exact hk11
                  · refine v_iload (pc := 90) h dX0_chain_90 6 rfl ?_
                    exact v_iretP (pc := 92) h hr dX0_chain_92
              · refine v_iload_n (pc := 93) h dX0_chain_93 0 rfl rfl ?_
                refine v_iload (pc := 94) h dX0_chain_94 5 rfl ?_
                refine v_imul (pc := 96) h dX0_chain_96 ?_
                refine v_iload_n (pc := 97) h dX0_chain_97 1 rfl rfl ?_
                refine v_iload (pc := 98) h dX0_chain_98 4 rfl ?_
                refine v_isub (pc := 100) h dX0_chain_100 ?_
                refine v_mmin (pc := 101) h dX0_chain_101 q1103 (by decide) (Nat.le_of_ble_eq_true rfl) ⟨Nat.zero_le _, Nat.zero_le _⟩ ?_
                refine v_nmi (fun v12 => ?_)
                refine v_istore (pc := 104) h dX0_chain_104 (by decide) (lv' := [(6, .int v12), (1, .int a1), (2, .int a2), (3, .int a3), (4, .int a4), (5, .int i5_6), (7, .int i7_8)]) rfl ?_
                refine v_iload (pc := 106) h dX0_chain_106 5 rfl ?_
                refine v_iload (pc := 108) h dX0_chain_108 0 rfl ?_
                refine v_iadd (pc := 110) h dX0_chain_110 ?_
                refine v_nmi (fun v13 => ?_)
                refine v_istore (pc := 111) h dX0_chain_111 (by decide) (lv' := [(5, .int v13), (6, .int v12), (1, .int a1), (2, .int a2), (3, .int a3), (4, .int a4), (7, .int i7_8)]) rfl ?_
                refine v_iinc (pc := 113) h dX0_chain_113 6 rfl (w := (i7_8 + (1 : Int32))) rfl (by decide) (lv' := [(7, .int (i7_8 + (1 : Int32))), (5, .int v13), (6, .int v12), (1, .int a1), (2, .int a2), (3, .int a3), (4, .int a4)]) rfl ?_
                refine v_goto (pc := 116) (t := 57) h dX0_chain_116 rfl ?_
                refine v_sub [3, 4, 5, 6, 1, 2, 0] rfl ?_
                exact hX9 v13 v12 (i7_8 + (1 : Int32))
        · refine v_iconst (pc := 46) h dX0_chain_46 (v := (-1)) rfl ?_
          exact v_iretP (pc := 47) h hr dX0_chain_47
set_option maxHeartbeats 4000000 in
theorem tX0_has {g : Gl}  (o : Nat) (a1 : Int32) (a2 : Int32) (I : MI) (r : Rh) (h_o : KpS o r) : CtI g yX0_has cX0_has 3 (some .boolean) 2 [.ref o, .int a1, .int a2] I r (pX0_has o a1 a2 I r) := by
  refine CtI.mk (lv := [(0, .ref o), (1, .int a1), (2, .int a2)]) (by decide) (Nat.le_of_ble_eq_true rfl) rfl (fun x Q h hr => ?_)
  unfold pX0_has
  refine v_iload_n (pc := 0) h dX0_has_0 1 rfl rfl ?_
  refine v_iconst (pc := 1) h dX0_has_1 (v := 0) rfl ?_
  refine v_bipush (pc := 2) h dX0_has_2 (v := 25) rfl ?_
  refine v_callsp (pc := 4) h dX0_has_4 sX0_78 (tX0_isIn a1 (0 : Int32) (25 : Int32) I r ) (by decide) rfl rfl (Nat.le_of_ble_eq_true rfl) ⟨Nat.zero_le _, Nat.zero_le _⟩ (fun r1 => ?_)
  refine v_if_eq (pc := 7) (t := 20) h dX0_has_7 rfl (fun _ => ?_) (fun _ => ?_)
  · refine v_iconst (pc := 20) h dX0_has_20 (v := 0) rfl ?_
    exact v_zret (pc := 21) h hr (Or.inl rfl) dX0_has_21
  · refine v_iload_n (pc := 10) h dX0_has_10 2 rfl rfl ?_
    refine v_iconst (pc := 11) h dX0_has_11 (v := 0) rfl ?_
    refine v_bipush (pc := 12) h dX0_has_12 (v := 9) rfl ?_
    refine v_callsp (pc := 14) h dX0_has_14 sX0_78 (tX0_isIn a2 (0 : Int32) (9 : Int32) I r ) (by decide) rfl rfl (Nat.le_of_ble_eq_true rfl) ⟨Nat.zero_le _, Nat.zero_le _⟩ (fun r2 => ?_)
    refine v_if_ne (pc := 17) (t := 22) h dX0_has_17 rfl (fun _ => ?_) (fun _ => ?_)
    · refine v_aload_n (pc := 22) h dX0_has_22 0 rfl rfl ?_
      refine v_getp (pc := 23) h dX0_has_23 fX0_20 rfl (KpS.c h_o) (KpS.walk h_o).1 ?_
      refine v_getp (pc := 26) h dX0_has_26 fX0_327 rfl (WkS.c (KpS.walk h_o).2) (WkS.has (KpS.walk h_o).2).1 ?_
      refine v_iload_n (pc := 29) h dX0_has_29 1 rfl rfl ?_
      refine v_iload_n (pc := 30) h dX0_has_30 2 rfl rfl ?_
      refine v_iast (pc := 31) h dX0_has_31 (WkS.has (KpS.walk h_o).2).2.1 (WkS.has (KpS.walk h_o).2).2.2 ?_
      refine v_nmI (fun I3 => ?_)
      refine v_iconst (pc := 32) h dX0_has_32 (v := 1) rfl ?_
      exact v_zret (pc := 33) h hr (Or.inr rfl) dX0_has_33
    · refine v_iconst (pc := 20) h dX0_has_20 (v := 0) rfl ?_
      exact v_zret (pc := 21) h hr (Or.inl rfl) dX0_has_21
set_option maxHeartbeats 4000000 in
theorem tX0_spell {g : Gl}  (o : Nat) (a1 : Int32) (I : MI) (r : Rh) (h_o : KpS o r) : CtI g yX0_spell cX0_spell 2 (some .int) 2 [.ref o, .int a1] I r (pX0_spell o a1 I r) := by
  refine CtI.mk (lv := [(0, .ref o), (1, .int a1)]) (by decide) (Nat.le_of_ble_eq_true rfl) rfl (fun x Q h hr => ?_)
  unfold pX0_spell
  refine v_iload_n (pc := 0) h dX0_spell_0 1 rfl rfl ?_
  refine v_iconst (pc := 1) h dX0_spell_1 (v := (-1)) rfl ?_
  refine v_icmp_ne (pc := 2) (t := 18) h dX0_spell_2 rfl (fun _ => ?_) (fun _ => ?_)
  · refine v_iload_n (pc := 18) h dX0_spell_18 1 rfl rfl ?_
    refine v_iconst (pc := 19) h dX0_spell_19 (v := 0) rfl ?_
    refine v_bipush (pc := 20) h dX0_spell_20 (v := 25) rfl ?_
    refine v_callsp (pc := 22) h dX0_spell_22 sX0_78 (tX0_isIn a1 (0 : Int32) (25 : Int32) I r ) (by decide) rfl rfl (Nat.le_of_ble_eq_true rfl) ⟨Nat.zero_le _, Nat.zero_le _⟩ (fun r1 => ?_)
    refine v_if_eq (pc := 25) (t := 44) h dX0_spell_25 rfl (fun _ => ?_) (fun _ => ?_)
    · refine v_iconst (pc := 44) h dX0_spell_44 (v := (-1)) rfl ?_
      exact v_iret (pc := 45) h hr dX0_spell_45
    · refine v_aload_n (pc := 28) h dX0_spell_28 0 rfl rfl ?_
      refine v_getp (pc := 29) h dX0_spell_29 fX0_20 rfl (KpS.c h_o) (KpS.walk h_o).1 ?_
      refine v_getp (pc := 32) h dX0_spell_32 fX0_330 rfl (WkS.c (KpS.walk h_o).2) (WkS.word (KpS.walk h_o).2).1 ?_
      refine v_iload_n (pc := 35) h dX0_spell_35 1 rfl rfl ?_
      refine v_iconst (pc := 36) h dX0_spell_36 (v := 0) rfl ?_
      refine v_iconst (pc := 37) h dX0_spell_37 (v := 0) rfl ?_
      refine v_callI (pc := 38) h dX0_spell_38 kX0_298 rfl (WkS.word (KpS.walk h_o).2).2.1 (tX4_tells (o + 211) 8 a1 (0 : Int32) (0 : Int32) I r (WkS.word (KpS.walk h_o).2).2) (by decide) rfl rfl (Nat.le_of_ble_eq_true rfl) ⟨Nat.zero_le _, Nat.zero_le _⟩ (fun r2 I3 => ?_)
      refine v_goto (pc := 41) (t := 45) h dX0_spell_41 rfl ?_
      exact v_iret (pc := 45) h hr dX0_spell_45
  · refine v_aload_n (pc := 5) h dX0_spell_5 0 rfl rfl ?_
    refine v_getp (pc := 6) h dX0_spell_6 fX0_20 rfl (KpS.c h_o) (KpS.walk h_o).1 ?_
    refine v_getp (pc := 9) h dX0_spell_9 fX0_330 rfl (WkS.c (KpS.walk h_o).2) (WkS.word (KpS.walk h_o).2).1 ?_
    refine v_callI (pc := 12) h dX0_spell_12 kX0_293 rfl (WkS.word (KpS.walk h_o).2).2.1 (tX4_ends (o + 211) 8 I r (WkS.word (KpS.walk h_o).2).2) (by decide) rfl rfl (Nat.le_of_ble_eq_true rfl) ⟨Nat.zero_le _, Nat.zero_le _⟩ (fun r4 I5 => ?_)
    refine v_goto (pc := 15) (t := 45) h dX0_spell_15 rfl ?_
    exact v_iret (pc := 45) h hr dX0_spell_45
set_option maxHeartbeats 4000000 in
theorem tX0_inWord {g : Gl}  (o : Nat) (a1 : Int32) (a2 : Int32) (I : MI) (r : Rh) (h_o : KpS o r) : CtP g yX0_inWord cX0_inWord 5 (some .int) 1 [.ref o, .int a1, .int a2] I r (pX0_inWord o a1 a2 I r) := by
  refine CtP.mk (lv := [(0, .ref o), (1, .int a1), (2, .int a2)]) (by decide) (Nat.le_of_ble_eq_true rfl) rfl (fun x Q h hr => ?_)
  unfold pX0_inWord
  refine v_iconst (pc := 0) h dX0_inWord_0 (v := 0) rfl ?_
  refine v_istore_n (pc := 1) h dX0_inWord_1 rfl (by decide) (lv' := [(3, .int (0 : Int32)), (0, .ref o), (1, .int a1), (2, .int a2)]) rfl ?_
  refine v_iconst (pc := 2) h dX0_inWord_2 (v := 0) rfl ?_
  refine v_istore (pc := 3) h dX0_inWord_3 (by decide) (lv' := [(4, .int (0 : Int32)), (3, .int (0 : Int32)), (0, .ref o), (1, .int a1), (2, .int a2)]) rfl ?_
  refine v_sub [2, 3, 4, 1, 0] rfl ?_
  refine L2.run (lv := fun i3_1 i4_2 => [(0, .ref o), (1, .int a1), (2, .int a2), (3, .int i3_1), (4, .int i4_2)]) (st := fun i3_1 i4_2 => []) (Im := fun i3_1 i4_2 => I) (r := fun i3_1 i4_2 => r) (fun X3 hX3 i3_1 i4_2 => ?_) (0 : Int32) (0 : Int32)
  refine v_iload (pc := 5) h dX0_inWord_5 4 rfl ?_
  refine v_iload_n (pc := 7) h dX0_inWord_7 2 rfl rfl ?_
  refine v_icmp_ge (pc := 8) (t := 44) h dX0_inWord_8 rfl (fun _ => ?_) (fun _ => ?_)
  · refine v_iload_n (pc := 44) h dX0_inWord_44 3 rfl rfl ?_
    exact v_iretP (pc := 45) h hr dX0_inWord_45
  · refine v_iload_n (pc := 11) h dX0_inWord_11 3 rfl rfl ?_
    refine v_aload_n (pc := 12) h dX0_inWord_12 0 rfl rfl ?_
    refine v_getp (pc := 13) h dX0_inWord_13 fX0_20 rfl (KpS.c h_o) (KpS.walk h_o).1 ?_
    refine v_getp (pc := 16) h dX0_inWord_16 fX0_330 rfl (WkS.c (KpS.walk h_o).2) (WkS.word (KpS.walk h_o).2).1 ?_
    refine v_getp (pc := 19) h dX0_inWord_19 fX0_308 rfl (WkS.word (KpS.walk h_o).2).2.1 (WkS.word (KpS.walk h_o).2).2.2.1 ?_
    refine v_iload (pc := 22) h dX0_inWord_22 4 rfl ?_
    refine v_aaldk (pc := 24) h dX0_inWord_24 (t := 5) (WkS.word (KpS.walk h_o).2).2.2.2.1 rfl rfl (WkS.word (KpS.walk h_o).2).2.2.2.2.1 (fun hin => ((WkS.word (KpS.walk h_o).2).2.2.2.2.2 _ (vp_lt hin)).1) (fun h4 => ?_)
    refine v_iconst (pc := 25) h dX0_inWord_25 (v := 0) rfl ?_
    refine v_ialdL (pc := 26) h dX0_inWord_26 ((WkS.word (KpS.walk h_o).2).2.2.2.2.2 _ (vp_lt h4)).2.1 ((WkS.word (KpS.walk h_o).2).2.2.2.2.2 _ (vp_lt h4)).2.2 (vpd rfl) (k := 0) rfl ?_
    refine v_iload_n (pc := 27) h dX0_inWord_27 1 rfl rfl ?_
    refine v_jn1 (fun t5 => V g x 5 (0, 0) 36 [(0, .ref o), (1, .int a1), (2, .int a2), (4, .int i4_2)] [.int t5, .int i3_1] I r) (fun k6 hk6 => ?_) (fun t5 => ?_)
    · refine v_icmp_ne (pc := 28) (t := 35) h dX0_inWord_28 rfl (fun _ => ?_) (fun _ => ?_)
      · refine v_iconst (pc := 35) h dX0_inWord_35 (v := 0) rfl ?_
        refine v_sub [0, 1, 2, 4] rfl ?_
        exact hk6 (0 : Int32)
      · refine v_iconst (pc := 31) h dX0_inWord_31 (v := 1) rfl ?_
        refine v_goto (pc := 32) (t := 36) h dX0_inWord_32 rfl ?_
        refine v_sub [0, 1, 2, 4] rfl ?_
        exact hk6 (1 : Int32)
    · refine v_iadd (pc := 36) h dX0_inWord_36 ?_
      refine v_nmi (fun v7 => ?_)
      refine v_istore_n (pc := 37) h dX0_inWord_37 rfl (by decide) (lv' := [(3, .int v7), (0, .ref o), (1, .int a1), (2, .int a2), (4, .int i4_2)]) rfl ?_
      refine v_iinc (pc := 38) h dX0_inWord_38 4 rfl (w := (i4_2 + (1 : Int32))) rfl (by decide) (lv' := [(4, .int (i4_2 + (1 : Int32))), (3, .int v7), (0, .ref o), (1, .int a1), (2, .int a2)]) rfl ?_
      refine v_goto (pc := 41) (t := 5) h dX0_inWord_41 rfl ?_
      refine v_sub [2, 3, 4, 1, 0] rfl ?_
      exact hX3 v7 (i4_2 + (1 : Int32))
set_option maxHeartbeats 4000000 in
theorem tX0_lays {g : Gl}  (o : Nat) (a1 : Int32) (I : MI) (r : Rh) (h_o : KpS o r) : CtP g yX0_lays cX0_lays 7 (some .int) 2 [.ref o, .int a1] I r (pX0_lays o a1 I r) := by
  refine CtP.mk (lv := [(0, .ref o), (1, .int a1)]) (by decide) (Nat.le_of_ble_eq_true rfl) rfl (fun x Q h hr => ?_)
  unfold pX0_lays
  refine v_iload_n (pc := 0) h dX0_lays_0 1 rfl rfl ?_
  refine v_iconst (pc := 1) h dX0_lays_1 (v := 0) rfl ?_
  refine v_iconst (pc := 2) h dX0_lays_2 (v := 1) rfl ?_
  refine v_callsp (pc := 3) h dX0_lays_3 sX0_78 (tX0_isIn a1 (0 : Int32) (1 : Int32) I r ) (by decide) rfl rfl (Nat.le_of_ble_eq_true rfl) ⟨Nat.zero_le _, Nat.zero_le _⟩ (fun r1 => ?_)
  refine v_if_ne (pc := 6) (t := 11) h dX0_lays_6 rfl (fun _ => ?_) (fun _ => ?_)
  · refine v_aload_n (pc := 11) h dX0_lays_11 0 rfl rfl ?_
    refine v_getp (pc := 12) h dX0_lays_12 fX0_20 rfl (KpS.c h_o) (KpS.walk h_o).1 ?_
    refine v_getp (pc := 15) h dX0_lays_15 fX0_330 rfl (WkS.c (KpS.walk h_o).2) (WkS.word (KpS.walk h_o).2).1 ?_
    refine v_geti (pc := 18) h dX0_lays_18 fX0_302 rfl (WkS.word (KpS.walk h_o).2).2.1 ?_
    refine v_nmi (fun v2 => ?_)
    refine v_istore_n (pc := 21) h dX0_lays_21 rfl (by decide) (lv' := [(2, .int v2), (0, .ref o), (1, .int a1)]) rfl ?_
    refine v_iload_n (pc := 22) h dX0_lays_22 0 rfl rfl ?_
    refine v_jn1 (fun t3 => V g x 7 (0, 0) 32 [(0, .ref o), (1, .int a1), (2, .int v2)] [.int t3] I r) (fun k4 hk4 => ?_) (fun t3 => ?_)
    · refine v_if_ne (pc := 23) (t := 30) h dX0_lays_23 rfl (fun _ => ?_) (fun _ => ?_)
      · refine v_bipush (pc := 30) h dX0_lays_30 (v := 9) rfl ?_
        refine v_sub [1, 2, 0] rfl ?_
        exact hk4 (9 : Int32)
      · refine v_iconst (pc := 26) h dX0_lays_26 (v := 0) rfl ?_
        refine v_goto (pc := 27) (t := 32) h dX0_lays_27 rfl ?_
        refine v_sub [1, 2, 0] rfl ?_
        exact hk4 (0 : Int32)
    · refine v_istore_n (pc := 32) h dX0_lays_32 rfl (by decide) (lv' := [(3, .int t3), (0, .ref o), (1, .int a1), (2, .int v2)]) rfl ?_
      refine v_iconst (pc := 33) h dX0_lays_33 (v := 1) rfl ?_
      refine v_istore (pc := 34) h dX0_lays_34 (by decide) (lv' := [(4, .int (1 : Int32)), (3, .int t3), (0, .ref o), (1, .int a1), (2, .int v2)]) rfl ?_
      refine v_iconst (pc := 36) h dX0_lays_36 (v := 0) rfl ?_
      refine v_istore (pc := 37) h dX0_lays_37 (by decide) (lv' := [(5, .int (0 : Int32)), (4, .int (1 : Int32)), (3, .int t3), (0, .ref o), (1, .int a1), (2, .int v2)]) rfl ?_
      refine v_sub [3, 4, 5, 2, 1, 0] rfl ?_
      refine L3.run (lv := fun i3_5 i4_6 i5_7 => [(0, .ref o), (1, .int a1), (2, .int v2), (3, .int i3_5), (4, .int i4_6), (5, .int i5_7)]) (st := fun i3_5 i4_6 i5_7 => []) (Im := fun i3_5 i4_6 i5_7 => I) (r := fun i3_5 i4_6 i5_7 => r) (fun X8 hX8 i3_5 i4_6 i5_7 => ?_) t3 (1 : Int32) (0 : Int32)
      refine v_iload (pc := 39) h dX0_lays_39 5 rfl ?_
      refine v_iload_n (pc := 41) h dX0_lays_41 2 rfl rfl ?_
      refine v_icmp_ge (pc := 42) (t := 111) h dX0_lays_42 rfl (fun _ => ?_) (fun _ => ?_)
      · refine v_iload_n (pc := 111) h dX0_lays_111 1 rfl rfl ?_
        refine v_if_ne (pc := 112) (t := 119) h dX0_lays_112 rfl (fun _ => ?_) (fun _ => ?_)
        · refine v_iload (pc := 119) h dX0_lays_119 4 rfl ?_
          exact v_iretP (pc := 121) h hr dX0_lays_121
        · refine v_iload_n (pc := 115) h dX0_lays_115 3 rfl rfl ?_
          refine v_goto (pc := 116) (t := 121) h dX0_lays_116 rfl ?_
          exact v_iretP (pc := 121) h hr dX0_lays_121
      · refine v_aload_n (pc := 45) h dX0_lays_45 0 rfl rfl ?_
        refine v_getp (pc := 46) h dX0_lays_46 fX0_20 rfl (KpS.c h_o) (KpS.walk h_o).1 ?_
        refine v_getp (pc := 49) h dX0_lays_49 fX0_330 rfl (WkS.c (KpS.walk h_o).2) (WkS.word (KpS.walk h_o).2).1 ?_
        refine v_getp (pc := 52) h dX0_lays_52 fX0_308 rfl (WkS.word (KpS.walk h_o).2).2.1 (WkS.word (KpS.walk h_o).2).2.2.1 ?_
        refine v_iload (pc := 55) h dX0_lays_55 5 rfl ?_
        refine v_aaldk (pc := 57) h dX0_lays_57 (t := 5) (WkS.word (KpS.walk h_o).2).2.2.2.1 rfl rfl (WkS.word (KpS.walk h_o).2).2.2.2.2.1 (fun hin => ((WkS.word (KpS.walk h_o).2).2.2.2.2.2 _ (vp_lt hin)).1) (fun h9 => ?_)
        refine v_iconst (pc := 58) h dX0_lays_58 (v := 0) rfl ?_
        refine v_ialdL (pc := 59) h dX0_lays_59 ((WkS.word (KpS.walk h_o).2).2.2.2.2.2 _ (vp_lt h9)).2.1 ((WkS.word (KpS.walk h_o).2).2.2.2.2.2 _ (vp_lt h9)).2.2 (vpd rfl) (k := 0) rfl ?_
        refine v_nmi (fun v10 => ?_)
        refine v_istore (pc := 60) h dX0_lays_60 (by decide) (lv' := [(6, .int v10), (0, .ref o), (1, .int a1), (2, .int v2), (3, .int i3_5), (4, .int i4_6), (5, .int i5_7)]) rfl ?_
        refine v_iload_n (pc := 62) h dX0_lays_62 4 rfl rfl ?_
        refine v_aload_n (pc := 63) h dX0_lays_63 1 rfl rfl ?_
        refine v_getp (pc := 64) h dX0_lays_64 fX0_20 rfl (KpS.c h_o) (KpS.walk h_o).1 ?_
        refine v_getp (pc := 67) h dX0_lays_67 fX0_327 rfl (WkS.c (KpS.walk h_o).2) (WkS.has (KpS.walk h_o).2).1 ?_
        refine v_iload (pc := 70) h dX0_lays_70 0 rfl ?_
        refine v_iald (pc := 72) h dX0_lays_72 (WkS.has (KpS.walk h_o).2).2.1 (WkS.has (KpS.walk h_o).2).2.2 ?_
        refine v_aload_n (pc := 73) h dX0_lays_73 1 rfl rfl ?_
        refine v_iload (pc := 74) h dX0_lays_74 0 rfl ?_
        refine v_iload_n (pc := 76) h dX0_lays_76 3 rfl rfl ?_
        refine v_callP (pc := 77) h dX0_lays_77 kX0_332 rfl (KpS.c h_o) (tX0_inWord o v10 v2 I r h_o) (by decide) rfl rfl (Nat.le_of_ble_eq_true rfl) ⟨Nat.zero_le _, Nat.zero_le _⟩ (fun r11 => ?_)
        refine v_idiv (pc := 80) h dX0_lays_80 ?_
        refine v_mmin (pc := 81) h dX0_lays_81 q1103 (by decide) (Nat.le_of_ble_eq_true rfl) ⟨Nat.zero_le _, Nat.zero_le _⟩ ?_
        refine v_nmi (fun v12 => ?_)
        refine v_istore_n (pc := 84) h dX0_lays_84 rfl (by decide) (lv' := [(3, .int v12), (6, .int v10), (0, .ref o), (1, .int a1), (2, .int v2), (4, .int i4_6), (5, .int i5_7)]) rfl ?_
        refine v_iload (pc := 85) h dX0_lays_85 5 rfl ?_
        refine v_iload (pc := 87) h dX0_lays_87 6 rfl ?_
        refine v_iconst (pc := 89) h dX0_lays_89 (v := 1) rfl ?_
        refine v_iadd (pc := 90) h dX0_lays_90 ?_
        refine v_imul (pc := 91) h dX0_lays_91 ?_
        refine v_aload_n (pc := 92) h dX0_lays_92 2 rfl rfl ?_
        refine v_iload (pc := 93) h dX0_lays_93 1 rfl ?_
        refine v_iload (pc := 95) h dX0_lays_95 6 rfl ?_
        refine v_iconst (pc := 97) h dX0_lays_97 (v := 1) rfl ?_
        refine v_iadd (pc := 98) h dX0_lays_98 ?_
        refine v_callP (pc := 99) h dX0_lays_99 kX0_332 rfl (KpS.c h_o) (tX0_inWord o v10 (i5_7 + (1 : Int32)) I r h_o) (by decide) rfl rfl (Nat.le_of_ble_eq_true rfl) ⟨Nat.zero_le _, Nat.zero_le _⟩ (fun r13 => ?_)
        refine v_idiv (pc := 102) h dX0_lays_102 ?_
        refine v_nmi (fun v14 => ?_)
        refine v_istore (pc := 103) h dX0_lays_103 (by decide) (lv' := [(4, .int v14), (3, .int v12), (6, .int v10), (0, .ref o), (1, .int a1), (2, .int v2), (5, .int i5_7)]) rfl ?_
        refine v_iinc (pc := 105) h dX0_lays_105 6 rfl (w := (i5_7 + (1 : Int32))) rfl (by decide) (lv' := [(5, .int (i5_7 + (1 : Int32))), (4, .int v14), (3, .int v12), (6, .int v10), (0, .ref o), (1, .int a1), (2, .int v2)]) rfl ?_
        refine v_goto (pc := 108) (t := 39) h dX0_lays_108 rfl ?_
        refine v_sub [4, 5, 6, 2, 1, 0] rfl ?_
        exact hX8 v12 v14 (i5_7 + (1 : Int32))
  · refine v_iconst (pc := 9) h dX0_lays_9 (v := (-1)) rfl ?_
    exact v_iretP (pc := 10) h hr dX0_lays_10
set_option maxHeartbeats 4000000 in
theorem tX0_answer {g : Gl}  (o : Nat) (a1 : Int32) (a2 : Int32) (I : MI) (r : Rh) (h_o : KpS o r) : CtI g yX0_answer cX0_answer 3 (some .int) 3 [.ref o, .int a1, .int a2] I r (pX0_answer o a1 a2 I r) := by
  refine CtI.mk (lv := [(0, .ref o), (1, .int a1), (2, .int a2)]) (by decide) (Nat.le_of_ble_eq_true rfl) rfl (fun x Q h hr => ?_)
  unfold pX0_answer
  refine v_iload_n (pc := 0) h dX0_answer_0 1 rfl rfl ?_
  refine v_iconst (pc := 1) h dX0_answer_1 (v := (-1)) rfl ?_
  refine v_icmp_ne (pc := 2) (t := 18) h dX0_answer_2 rfl (fun _ => ?_) (fun _ => ?_)
  · refine v_iload_n (pc := 18) h dX0_answer_18 1 rfl rfl ?_
    refine v_callsp (pc := 19) h dX0_answer_19 sX0_192 (tX0_isKind a1 I r ) (by decide) rfl rfl (Nat.le_of_ble_eq_true rfl) ⟨Nat.zero_le _, Nat.zero_le _⟩ (fun r1 => ?_)
    refine v_jn0 (V g x 3 (0, 0) 48 [] [] I r) (fun k2 hk2 => ?_) ?_
    · refine v_if_eq (pc := 22) (t := 48) h dX0_answer_22 rfl (fun _ => ?_) (fun _ => ?_)
      · refine v_sub [] rfl ?_
        exact hk2
      · refine v_iload_n (pc := 25) h dX0_answer_25 2 rfl rfl ?_
        refine v_callsp (pc := 26) h dX0_answer_26 sX0_192 (tX0_isKind a2 I r ) (by decide) rfl rfl (Nat.le_of_ble_eq_true rfl) ⟨Nat.zero_le _, Nat.zero_le _⟩ (fun r3 => ?_)
        refine v_if_eq (pc := 29) (t := 48) h dX0_answer_29 rfl (fun _ => ?_) (fun _ => ?_)
        · refine v_sub [] rfl ?_
          exact hk2
        · refine v_aload_n (pc := 32) h dX0_answer_32 0 rfl rfl ?_
          refine v_getp (pc := 33) h dX0_answer_33 fX0_20 rfl (KpS.c h_o) (KpS.walk h_o).1 ?_
          refine v_getp (pc := 36) h dX0_answer_36 fX0_335 rfl (WkS.c (KpS.walk h_o).2) (WkS.answers (KpS.walk h_o).2).1 ?_
          refine v_iload_n (pc := 39) h dX0_answer_39 1 rfl rfl ?_
          refine v_iload_n (pc := 40) h dX0_answer_40 2 rfl rfl ?_
          refine v_iconst (pc := 41) h dX0_answer_41 (v := 0) rfl ?_
          refine v_callI (pc := 42) h dX0_answer_42 kX0_298 rfl (WkS.answers (KpS.walk h_o).2).2.1 (tX4_tells (o + 221) 12 a1 a2 (0 : Int32) I r (WkS.answers (KpS.walk h_o).2).2) (by decide) rfl rfl (Nat.le_of_ble_eq_true rfl) ⟨Nat.zero_le _, Nat.zero_le _⟩ (fun r4 I5 => ?_)
          refine v_goto (pc := 45) (t := 49) h dX0_answer_45 rfl ?_
          exact v_iret (pc := 49) h hr dX0_answer_49
    · refine v_iconst (pc := 48) h dX0_answer_48 (v := (-1)) rfl ?_
      exact v_iret (pc := 49) h hr dX0_answer_49
  · refine v_aload_n (pc := 5) h dX0_answer_5 0 rfl rfl ?_
    refine v_getp (pc := 6) h dX0_answer_6 fX0_20 rfl (KpS.c h_o) (KpS.walk h_o).1 ?_
    refine v_getp (pc := 9) h dX0_answer_9 fX0_335 rfl (WkS.c (KpS.walk h_o).2) (WkS.answers (KpS.walk h_o).2).1 ?_
    refine v_callI (pc := 12) h dX0_answer_12 kX0_293 rfl (WkS.answers (KpS.walk h_o).2).2.1 (tX4_ends (o + 221) 12 I r (WkS.answers (KpS.walk h_o).2).2) (by decide) rfl rfl (Nat.le_of_ble_eq_true rfl) ⟨Nat.zero_le _, Nat.zero_le _⟩ (fun r6 I7 => ?_)
    refine v_goto (pc := 15) (t := 49) h dX0_answer_15 rfl ?_
    exact v_iret (pc := 49) h hr dX0_answer_49
set_option maxHeartbeats 4000000 in
theorem tX0_answered {g : Gl}  (o : Nat) (a1 : Int32) (a2 : Int32) (I : MI) (r : Rh) (h_o : KpS o r) : CtP g yX0_answered cX0_answered 5 (some .int) 1 [.ref o, .int a1, .int a2] I r (pX0_answered o a1 a2 I r) := by
  refine CtP.mk (lv := [(0, .ref o), (1, .int a1), (2, .int a2)]) (by decide) (Nat.le_of_ble_eq_true rfl) rfl (fun x Q h hr => ?_)
  unfold pX0_answered
  refine v_iconst (pc := 0) h dX0_answered_0 (v := 0) rfl ?_
  refine v_istore_n (pc := 1) h dX0_answered_1 rfl (by decide) (lv' := [(3, .int (0 : Int32)), (0, .ref o), (1, .int a1), (2, .int a2)]) rfl ?_
  refine v_iconst (pc := 2) h dX0_answered_2 (v := 0) rfl ?_
  refine v_istore (pc := 3) h dX0_answered_3 (by decide) (lv' := [(4, .int (0 : Int32)), (3, .int (0 : Int32)), (0, .ref o), (1, .int a1), (2, .int a2)]) rfl ?_
  refine v_sub [2, 3, 4, 1, 0] rfl ?_
  refine L2.run (lv := fun i3_1 i4_2 => [(0, .ref o), (1, .int a1), (2, .int a2), (3, .int i3_1), (4, .int i4_2)]) (st := fun i3_1 i4_2 => []) (Im := fun i3_1 i4_2 => I) (r := fun i3_1 i4_2 => r) (fun X3 hX3 i3_1 i4_2 => ?_) (0 : Int32) (0 : Int32)
  refine v_iload (pc := 5) h dX0_answered_5 4 rfl ?_
  refine v_aload_n (pc := 7) h dX0_answered_7 0 rfl rfl ?_
  refine v_getp (pc := 8) h dX0_answered_8 fX0_20 rfl (KpS.c h_o) (KpS.walk h_o).1 ?_
  refine v_getp (pc := 11) h dX0_answered_11 fX0_335 rfl (WkS.c (KpS.walk h_o).2) (WkS.answers (KpS.walk h_o).2).1 ?_
  refine v_geti (pc := 14) h dX0_answered_14 fX0_302 rfl (WkS.answers (KpS.walk h_o).2).2.1 ?_
  refine v_icmp_ge (pc := 17) (t := 72) h dX0_answered_17 rfl (fun _ => ?_) (fun _ => ?_)
  · refine v_iload_n (pc := 72) h dX0_answered_72 3 rfl rfl ?_
    exact v_iretP (pc := 73) h hr dX0_answered_73
  · refine v_iload_n (pc := 20) h dX0_answered_20 3 rfl rfl ?_
    refine v_aload_n (pc := 21) h dX0_answered_21 0 rfl rfl ?_
    refine v_getp (pc := 22) h dX0_answered_22 fX0_20 rfl (KpS.c h_o) (KpS.walk h_o).1 ?_
    refine v_getp (pc := 25) h dX0_answered_25 fX0_335 rfl (WkS.c (KpS.walk h_o).2) (WkS.answers (KpS.walk h_o).2).1 ?_
    refine v_getp (pc := 28) h dX0_answered_28 fX0_308 rfl (WkS.answers (KpS.walk h_o).2).2.1 (WkS.answers (KpS.walk h_o).2).2.2.1 ?_
    refine v_iload (pc := 31) h dX0_answered_31 4 rfl ?_
    refine v_aaldk (pc := 33) h dX0_answered_33 (t := 5) (WkS.answers (KpS.walk h_o).2).2.2.2.1 rfl rfl (WkS.answers (KpS.walk h_o).2).2.2.2.2.1 (fun hin => ((WkS.answers (KpS.walk h_o).2).2.2.2.2.2 _ (vp_lt hin)).1) (fun h4 => ?_)
    refine v_iconst (pc := 34) h dX0_answered_34 (v := 0) rfl ?_
    refine v_ialdL (pc := 35) h dX0_answered_35 ((WkS.answers (KpS.walk h_o).2).2.2.2.2.2 _ (vp_lt h4)).2.1 ((WkS.answers (KpS.walk h_o).2).2.2.2.2.2 _ (vp_lt h4)).2.2 (vpd rfl) (k := 0) rfl ?_
    refine v_iload_n (pc := 36) h dX0_answered_36 1 rfl rfl ?_
    refine v_jn1 (fun t5 => V g x 5 (0, 0) 64 [(0, .ref o), (1, .int a1), (2, .int a2), (4, .int i4_2)] [.int t5, .int i3_1] I r) (fun k6 hk6 => ?_) (fun t5 => ?_)
    · refine v_jn0 (V g x 5 (0, 0) 63 [(0, .ref o), (1, .int a1), (2, .int a2), (4, .int i4_2)] [.int i3_1] I r) (fun k7 hk7 => ?_) ?_
      · refine v_icmp_ne (pc := 37) (t := 63) h dX0_answered_37 rfl (fun _ => ?_) (fun _ => ?_)
        · refine v_sub [0, 1, 2, 4] rfl ?_
          exact hk7
        · refine v_aload_n (pc := 40) h dX0_answered_40 0 rfl rfl ?_
          refine v_getp (pc := 41) h dX0_answered_41 fX0_20 rfl (KpS.c h_o) (KpS.walk h_o).1 ?_
          refine v_getp (pc := 44) h dX0_answered_44 fX0_335 rfl (WkS.c (KpS.walk h_o).2) (WkS.answers (KpS.walk h_o).2).1 ?_
          refine v_getp (pc := 47) h dX0_answered_47 fX0_308 rfl (WkS.answers (KpS.walk h_o).2).2.1 (WkS.answers (KpS.walk h_o).2).2.2.1 ?_
          refine v_iload (pc := 50) h dX0_answered_50 4 rfl ?_
          refine v_aaldk (pc := 52) h dX0_answered_52 (t := 5) (WkS.answers (KpS.walk h_o).2).2.2.2.1 rfl rfl (WkS.answers (KpS.walk h_o).2).2.2.2.2.1 (fun hin => ((WkS.answers (KpS.walk h_o).2).2.2.2.2.2 _ (vp_lt hin)).1) (fun h8 => ?_)
          refine v_iconst (pc := 53) h dX0_answered_53 (v := 1) rfl ?_
          refine v_ialdL (pc := 54) h dX0_answered_54 ((WkS.answers (KpS.walk h_o).2).2.2.2.2.2 _ (vp_lt h8)).2.1 ((WkS.answers (KpS.walk h_o).2).2.2.2.2.2 _ (vp_lt h8)).2.2 (vpd rfl) (k := 1) rfl ?_
          refine v_iload_n (pc := 55) h dX0_answered_55 2 rfl rfl ?_
          refine v_icmp_ne (pc := 56) (t := 63) h dX0_answered_56 rfl (fun _ => ?_) (fun _ => ?_)
          · refine v_sub [0, 1, 2, 4] rfl ?_
            exact hk7
          · refine v_iconst (pc := 59) h dX0_answered_59 (v := 1) rfl ?_
            refine v_goto (pc := 60) (t := 64) h dX0_answered_60 rfl ?_
            refine v_sub [0, 1, 2, 4] rfl ?_
            exact hk6 (1 : Int32)
      · refine v_iconst (pc := 63) h dX0_answered_63 (v := 0) rfl ?_
        exact hk6 (0 : Int32)
    · refine v_iadd (pc := 64) h dX0_answered_64 ?_
      refine v_nmi (fun v9 => ?_)
      refine v_istore_n (pc := 65) h dX0_answered_65 rfl (by decide) (lv' := [(3, .int v9), (0, .ref o), (1, .int a1), (2, .int a2), (4, .int i4_2)]) rfl ?_
      refine v_iinc (pc := 66) h dX0_answered_66 4 rfl (w := (i4_2 + (1 : Int32))) rfl (by decide) (lv' := [(4, .int (i4_2 + (1 : Int32))), (3, .int v9), (0, .ref o), (1, .int a1), (2, .int a2)]) rfl ?_
      refine v_goto (pc := 69) (t := 5) h dX0_answered_69 rfl ?_
      refine v_sub [2, 3, 4, 1, 0] rfl ?_
      exact hX3 v9 (i4_2 + (1 : Int32))
set_option maxHeartbeats 4000000 in
theorem tX0_likelyOf {g : Gl}  (o : Nat) (a1 : Int32) (I : MI) (r : Rh) (h_o : KpS o r) : CtP g yX0_likelyOf cX0_likelyOf 4 (some .int) 2 [.ref o, .int a1] I r (pX0_likelyOf o a1 I r) := by
  refine CtP.mk (lv := [(0, .ref o), (1, .int a1)]) (by decide) (Nat.le_of_ble_eq_true rfl) rfl (fun x Q h hr => ?_)
  unfold pX0_likelyOf
  refine v_iconst (pc := 0) h dX0_likelyOf_0 (v := 0) rfl ?_
  refine v_istore_n (pc := 1) h dX0_likelyOf_1 rfl (by decide) (lv' := [(2, .int (0 : Int32)), (0, .ref o), (1, .int a1)]) rfl ?_
  refine v_iconst (pc := 2) h dX0_likelyOf_2 (v := 1) rfl ?_
  refine v_istore_n (pc := 3) h dX0_likelyOf_3 rfl (by decide) (lv' := [(3, .int (1 : Int32)), (2, .int (0 : Int32)), (0, .ref o), (1, .int a1)]) rfl ?_
  refine v_sub [2, 3, 1, 0] rfl ?_
  refine L2.run (lv := fun i2_1 i3_2 => [(0, .ref o), (1, .int a1), (2, .int i2_1), (3, .int i3_2)]) (st := fun i2_1 i3_2 => []) (Im := fun i2_1 i3_2 => I) (r := fun i2_1 i3_2 => r) (fun X3 hX3 i2_1 i3_2 => ?_) (0 : Int32) (1 : Int32)
  refine v_iload_n (pc := 4) h dX0_likelyOf_4 3 rfl rfl ?_
  refine v_bipush (pc := 5) h dX0_likelyOf_5 (v := 7) rfl ?_
  refine v_icmp_ge (pc := 7) (t := 37) h dX0_likelyOf_7 rfl (fun _ => ?_) (fun _ => ?_)
  · refine v_aload_n (pc := 37) h dX0_likelyOf_37 0 rfl rfl ?_
    refine v_iload_n (pc := 38) h dX0_likelyOf_38 1 rfl rfl ?_
    refine v_iload_n (pc := 39) h dX0_likelyOf_39 2 rfl rfl ?_
    refine v_callP (pc := 40) h dX0_likelyOf_40 kX0_338 rfl (KpS.c h_o) (tX0_answered o a1 i2_1 I r h_o) (by decide) rfl rfl (Nat.le_of_ble_eq_true rfl) ⟨Nat.zero_le _, Nat.zero_le _⟩ (fun r4 => ?_)
    refine v_if_ne (pc := 43) (t := 50) h dX0_likelyOf_43 rfl (fun _ => ?_) (fun _ => ?_)
    · refine v_iload_n (pc := 50) h dX0_likelyOf_50 2 rfl rfl ?_
      exact v_iretP (pc := 51) h hr dX0_likelyOf_51
    · refine v_iconst (pc := 46) h dX0_likelyOf_46 (v := (-1)) rfl ?_
      refine v_goto (pc := 47) (t := 51) h dX0_likelyOf_47 rfl ?_
      exact v_iretP (pc := 51) h hr dX0_likelyOf_51
  · refine v_aload_n (pc := 10) h dX0_likelyOf_10 0 rfl rfl ?_
    refine v_iload_n (pc := 11) h dX0_likelyOf_11 1 rfl rfl ?_
    refine v_iload_n (pc := 12) h dX0_likelyOf_12 3 rfl rfl ?_
    refine v_callP (pc := 13) h dX0_likelyOf_13 kX0_338 rfl (KpS.c h_o) (tX0_answered o a1 i3_2 I r h_o) (by decide) rfl rfl (Nat.le_of_ble_eq_true rfl) ⟨Nat.zero_le _, Nat.zero_le _⟩ (fun r5 => ?_)
    refine v_aload_n (pc := 16) h dX0_likelyOf_16 0 rfl rfl ?_
    refine v_iload_n (pc := 17) h dX0_likelyOf_17 1 rfl rfl ?_
    refine v_iload_n (pc := 18) h dX0_likelyOf_18 2 rfl rfl ?_
    refine v_callP (pc := 19) h dX0_likelyOf_19 kX0_338 rfl (KpS.c h_o) (tX0_answered o a1 i2_1 I r h_o) (by decide) rfl rfl (Nat.le_of_ble_eq_true rfl) ⟨Nat.zero_le _, Nat.zero_le _⟩ (fun r6 => ?_)
    refine v_jn1 (fun t7 => V g x 4 (0, 0) 30 [(0, .ref o), (1, .int a1), (3, .int i3_2)] [.int t7] I r) (fun k8 hk8 => ?_) (fun t7 => ?_)
    · refine v_icmp_le (pc := 22) (t := 29) h dX0_likelyOf_22 rfl (fun _ => ?_) (fun _ => ?_)
      · refine v_iload_n (pc := 29) h dX0_likelyOf_29 2 rfl rfl ?_
        refine v_sub [0, 1, 3] rfl ?_
        exact hk8 i2_1
      · refine v_iload_n (pc := 25) h dX0_likelyOf_25 3 rfl rfl ?_
        refine v_goto (pc := 26) (t := 30) h dX0_likelyOf_26 rfl ?_
        refine v_sub [0, 1, 3] rfl ?_
        exact hk8 i3_2
    · refine v_istore_n (pc := 30) h dX0_likelyOf_30 rfl (by decide) (lv' := [(2, .int t7), (0, .ref o), (1, .int a1), (3, .int i3_2)]) rfl ?_
      refine v_iinc (pc := 31) h dX0_likelyOf_31 3 rfl (w := (i3_2 + (1 : Int32))) rfl (by decide) (lv' := [(3, .int (i3_2 + (1 : Int32))), (2, .int t7), (0, .ref o), (1, .int a1)]) rfl ?_
      refine v_goto (pc := 34) (t := 4) h dX0_likelyOf_34 rfl ?_
      refine v_sub [2, 3, 1, 0] rfl ?_
      exact hX3 t7 (i3_2 + (1 : Int32))
set_option maxHeartbeats 4000000 in
theorem tX0_likely {g : Gl}  (o : Nat) (a1 : Int32) (a2 : Int32) (I : MI) (r : Rh) (h_o : KpS o r) : CtP g yX0_likely cX0_likely 6 (some .int) 3 [.ref o, .int a1, .int a2] I r (pX0_likely o a1 a2 I r) := by
  refine CtP.mk (lv := [(0, .ref o), (1, .int a1), (2, .int a2)]) (by decide) (Nat.le_of_ble_eq_true rfl) rfl (fun x Q h hr => ?_)
  unfold pX0_likely
  refine v_iload_n (pc := 0) h dX0_likely_0 1 rfl rfl ?_
  refine v_callsp (pc := 1) h dX0_likely_1 sX0_192 (tX0_isKind a1 I r ) (by decide) rfl rfl (Nat.le_of_ble_eq_true rfl) ⟨Nat.zero_le _, Nat.zero_le _⟩ (fun r1 => ?_)
  refine v_if_eq (pc := 4) (t := 16) h dX0_likely_4 rfl (fun _ => ?_) (fun _ => ?_)
  · refine v_iconst (pc := 16) h dX0_likely_16 (v := (-1)) rfl ?_
    exact v_iretP (pc := 17) h hr dX0_likely_17
  · refine v_iload_n (pc := 7) h dX0_likely_7 2 rfl rfl ?_
    refine v_iconst (pc := 8) h dX0_likely_8 (v := 0) rfl ?_
    refine v_iconst (pc := 9) h dX0_likely_9 (v := 1) rfl ?_
    refine v_callsp (pc := 10) h dX0_likely_10 sX0_78 (tX0_isIn a2 (0 : Int32) (1 : Int32) I r ) (by decide) rfl rfl (Nat.le_of_ble_eq_true rfl) ⟨Nat.zero_le _, Nat.zero_le _⟩ (fun r2 => ?_)
    refine v_if_ne (pc := 13) (t := 18) h dX0_likely_13 rfl (fun _ => ?_) (fun _ => ?_)
    · refine v_iload_n (pc := 18) h dX0_likely_18 2 rfl rfl ?_
      refine v_if_ne (pc := 19) (t := 28) h dX0_likely_19 rfl (fun _ => ?_) (fun _ => ?_)
      · refine v_aload_n (pc := 28) h dX0_likely_28 0 rfl rfl ?_
        refine v_iload_n (pc := 29) h dX0_likely_29 1 rfl rfl ?_
        refine v_callP (pc := 30) h dX0_likely_30 kX0_341 rfl (KpS.c h_o) (tX0_likelyOf o a1 I r h_o) (by decide) rfl rfl (Nat.le_of_ble_eq_true rfl) ⟨Nat.zero_le _, Nat.zero_le _⟩ (fun r3 => ?_)
        refine v_iconst (pc := 33) h dX0_likely_33 (v := (-1)) rfl ?_
        refine v_icmp_ne (pc := 34) (t := 39) h dX0_likely_34 rfl (fun _ => ?_) (fun _ => ?_)
        · refine v_iconst (pc := 39) h dX0_likely_39 (v := 0) rfl ?_
          refine v_istore_n (pc := 40) h dX0_likely_40 rfl (by decide) (lv' := [(3, .int (0 : Int32)), (0, .ref o), (1, .int a1), (2, .int a2)]) rfl ?_
          refine v_iconst (pc := 41) h dX0_likely_41 (v := 0) rfl ?_
          refine v_istore (pc := 42) h dX0_likely_42 (by decide) (lv' := [(4, .int (0 : Int32)), (3, .int (0 : Int32)), (0, .ref o), (1, .int a1), (2, .int a2)]) rfl ?_
          refine v_iload_n (pc := 44) h dX0_likely_44 3 rfl rfl ?_
          refine v_istore (pc := 45) h dX0_likely_45 (by decide) (lv' := [(5, .int a1), (4, .int (0 : Int32)), (3, .int (0 : Int32)), (0, .ref o), (1, .int a1), (2, .int a2)]) rfl ?_
          refine v_sub [3, 2, 1, 0] rfl ?_
          refine L3.run (lv := fun i3_4 i4_5 i5_6 => [(0, .ref o), (3, .int i3_4), (4, .int i4_5), (5, .int i5_6)]) (st := fun i3_4 i4_5 i5_6 => []) (Im := fun i3_4 i4_5 i5_6 => I) (r := fun i3_4 i4_5 i5_6 => r) (fun X7 hX7 i3_4 i4_5 i5_6 => ?_) (0 : Int32) (0 : Int32) a1
          refine v_iload (pc := 47) h dX0_likely_47 3 rfl ?_
          refine v_iconst (pc := 49) h dX0_likely_49 (v := (-1)) rfl ?_
          refine v_jn0 (V g x 6 (0, 0) 83 [(4, .int i4_5), (5, .int i5_6)] [] I r) (fun k8 hk8 => ?_) ?_
          · refine v_icmp_eq (pc := 50) (t := 83) h dX0_likely_50 rfl (fun _ => ?_) (fun _ => ?_)
            · refine v_sub [2, 3] rfl ?_
              exact hk8
            · refine v_iload_n (pc := 53) h dX0_likely_53 1 rfl rfl ?_
              refine v_iload (pc := 54) h dX0_likely_54 3 rfl ?_
              refine v_ishr (pc := 56) h dX0_likely_56 ?_
              refine v_iconst (pc := 57) h dX0_likely_57 (v := 1) rfl ?_
              refine v_iand (pc := 58) h dX0_likely_58 ?_
              refine v_if_ne (pc := 59) (t := 83) h dX0_likely_59 rfl (fun _ => ?_) (fun _ => ?_)
              · refine v_sub [2, 3] rfl ?_
                exact hk8
              · refine v_iload_n (pc := 62) h dX0_likely_62 1 rfl rfl ?_
                refine v_iconst (pc := 63) h dX0_likely_63 (v := 1) rfl ?_
                refine v_iload (pc := 64) h dX0_likely_64 3 rfl ?_
                refine v_ishl (pc := 66) h dX0_likely_66 ?_
                refine v_ior (pc := 67) h dX0_likely_67 ?_
                refine v_nmi (fun v9 => ?_)
                refine v_istore_n (pc := 68) h dX0_likely_68 rfl (by decide) (lv' := [(3, .int v9), (0, .ref o), (4, .int i4_5), (5, .int i5_6)]) rfl ?_
                refine v_aload_n (pc := 69) h dX0_likely_69 1 rfl rfl ?_
                refine v_iload (pc := 70) h dX0_likely_70 3 rfl ?_
                refine v_callP (pc := 72) h dX0_likely_72 kX0_341 rfl (KpS.c h_o) (tX0_likelyOf o i5_6 I r h_o) (by decide) rfl rfl (Nat.le_of_ble_eq_true rfl) ⟨Nat.zero_le _, Nat.zero_le _⟩ (fun r10 => ?_)
                refine v_istore (pc := 75) h dX0_likely_75 (by decide) (lv' := [(5, .int r10), (3, .int v9), (0, .ref o), (4, .int i4_5)]) rfl ?_
                refine v_iinc (pc := 77) h dX0_likely_77 3 rfl (w := (i4_5 + (1 : Int32))) rfl (by decide) (lv' := [(4, .int (i4_5 + (1 : Int32))), (5, .int r10), (3, .int v9), (0, .ref o)]) rfl ?_
                refine v_goto (pc := 80) (t := 47) h dX0_likely_80 rfl ?_
                refine v_sub [3, 2, 0, 1] rfl ?_
                exact hX7 v9 (i4_5 + (1 : Int32)) r10
          · refine v_iload (pc := 83) h dX0_likely_83 1 rfl ?_
            refine v_iconst (pc := 85) h dX0_likely_85 (v := (-1)) rfl ?_
            refine v_icmp_ne (pc := 86) (t := 93) h dX0_likely_86 rfl (fun _ => ?_) (fun _ => ?_)
            · refine v_iload (pc := 93) h dX0_likely_93 0 rfl ?_
              exact v_iretP (pc := 95) h hr dX0_likely_95
            · refine v_iconst (pc := 89) h dX0_likely_89 (v := (-1)) rfl ?_
              refine v_goto (pc := 90) (t := 95) h dX0_likely_90 rfl ?_
              exact v_iretP (pc := 95) h hr dX0_likely_95
        · refine v_iconst (pc := 37) h dX0_likely_37 (v := 0) rfl ?_
          exact v_iretP (pc := 38) h hr dX0_likely_38
      · refine v_aload_n (pc := 22) h dX0_likely_22 0 rfl rfl ?_
        refine v_iload_n (pc := 23) h dX0_likely_23 1 rfl rfl ?_
        refine v_callP (pc := 24) h dX0_likely_24 kX0_341 rfl (KpS.c h_o) (tX0_likelyOf o a1 I r h_o) (by decide) rfl rfl (Nat.le_of_ble_eq_true rfl) ⟨Nat.zero_le _, Nat.zero_le _⟩ (fun r11 => ?_)
        exact v_iretP (pc := 27) h hr dX0_likely_27
    · refine v_iconst (pc := 16) h dX0_likely_16 (v := (-1)) rfl ?_
      exact v_iretP (pc := 17) h hr dX0_likely_17
set_option maxHeartbeats 4000000 in
theorem tX0_face {g : Gl}  (o : Nat) (a1 : Int32) (a2 : Int32) (I : MI) (r : Rh) (h_o : KpS o r) : CtI g yX0_face cX0_face 3 (some .int) 2 [.ref o, .int a1, .int a2] I r (pX0_face o a1 a2 I r) := by
  refine CtI.mk (lv := [(0, .ref o), (1, .int a1), (2, .int a2)]) (by decide) (Nat.le_of_ble_eq_true rfl) rfl (fun x Q h hr => ?_)
  unfold pX0_face
  refine v_iload_n (pc := 0) h dX0_face_0 1 rfl rfl ?_
  refine v_iconst (pc := 1) h dX0_face_1 (v := (-1)) rfl ?_
  refine v_icmp_ne (pc := 2) (t := 18) h dX0_face_2 rfl (fun _ => ?_) (fun _ => ?_)
  · refine v_iload_n (pc := 18) h dX0_face_18 1 rfl rfl ?_
    refine v_iconst (pc := 19) h dX0_face_19 (v := 0) rfl ?_
    refine v_bipush (pc := 20) h dX0_face_20 (v := 63) rfl ?_
    refine v_callsp (pc := 22) h dX0_face_22 sX0_78 (tX0_isIn a1 (0 : Int32) (63 : Int32) I r ) (by decide) rfl rfl (Nat.le_of_ble_eq_true rfl) ⟨Nat.zero_le _, Nat.zero_le _⟩ (fun r1 => ?_)
    refine v_jn0 (V g x 3 (0, 0) 54 [] [] I r) (fun k2 hk2 => ?_) ?_
    · refine v_if_eq (pc := 25) (t := 54) h dX0_face_25 rfl (fun _ => ?_) (fun _ => ?_)
      · refine v_sub [] rfl ?_
        exact hk2
      · refine v_iload_n (pc := 28) h dX0_face_28 2 rfl rfl ?_
        refine v_bipush (pc := 29) h dX0_face_29 (v := (-2)) rfl ?_
        refine v_iconst (pc := 31) h dX0_face_31 (v := 2) rfl ?_
        refine v_callsp (pc := 32) h dX0_face_32 sX0_78 (tX0_isIn a2 (-2 : Int32) (2 : Int32) I r ) (by decide) rfl rfl (Nat.le_of_ble_eq_true rfl) ⟨Nat.zero_le _, Nat.zero_le _⟩ (fun r3 => ?_)
        refine v_if_eq (pc := 35) (t := 54) h dX0_face_35 rfl (fun _ => ?_) (fun _ => ?_)
        · refine v_sub [] rfl ?_
          exact hk2
        · refine v_aload_n (pc := 38) h dX0_face_38 0 rfl rfl ?_
          refine v_getp (pc := 39) h dX0_face_39 fX0_20 rfl (KpS.c h_o) (KpS.walk h_o).1 ?_
          refine v_getp (pc := 42) h dX0_face_42 fX0_344 rfl (WkS.c (KpS.walk h_o).2) (WkS.faces (KpS.walk h_o).2).1 ?_
          refine v_iload_n (pc := 45) h dX0_face_45 1 rfl rfl ?_
          refine v_iload_n (pc := 46) h dX0_face_46 2 rfl rfl ?_
          refine v_iconst (pc := 47) h dX0_face_47 (v := 0) rfl ?_
          refine v_callI (pc := 48) h dX0_face_48 kX0_298 rfl (WkS.faces (KpS.walk h_o).2).2.1 (tX4_tells (o + 235) 8 a1 a2 (0 : Int32) I r (WkS.faces (KpS.walk h_o).2).2) (by decide) rfl rfl (Nat.le_of_ble_eq_true rfl) ⟨Nat.zero_le _, Nat.zero_le _⟩ (fun r4 I5 => ?_)
          refine v_goto (pc := 51) (t := 55) h dX0_face_51 rfl ?_
          exact v_iret (pc := 55) h hr dX0_face_55
    · refine v_iconst (pc := 54) h dX0_face_54 (v := (-1)) rfl ?_
      exact v_iret (pc := 55) h hr dX0_face_55
  · refine v_aload_n (pc := 5) h dX0_face_5 0 rfl rfl ?_
    refine v_getp (pc := 6) h dX0_face_6 fX0_20 rfl (KpS.c h_o) (KpS.walk h_o).1 ?_
    refine v_getp (pc := 9) h dX0_face_9 fX0_344 rfl (WkS.c (KpS.walk h_o).2) (WkS.faces (KpS.walk h_o).2).1 ?_
    refine v_callI (pc := 12) h dX0_face_12 kX0_293 rfl (WkS.faces (KpS.walk h_o).2).2.1 (tX4_ends (o + 235) 8 I r (WkS.faces (KpS.walk h_o).2).2) (by decide) rfl rfl (Nat.le_of_ble_eq_true rfl) ⟨Nat.zero_le _, Nat.zero_le _⟩ (fun r6 I7 => ?_)
    refine v_goto (pc := 15) (t := 55) h dX0_face_15 rfl ?_
    exact v_iret (pc := 55) h hr dX0_face_55
set_option maxHeartbeats 4000000 in
theorem tX0_change {g : Gl}  (a1 : Int32) (a2 : Int32) (I : MI) (r : Rh)  : CtP g yX0_change cX0_change 2 (some .int) 1 [.int a1, .int a2] I r (pX0_change a1 a2 I r) := by
  refine CtP.mk (lv := [(0, .int a1), (1, .int a2)]) (by decide) (Nat.le_of_ble_eq_true rfl) rfl (fun x Q h hr => ?_)
  unfold pX0_change
  refine v_iload_n (pc := 0) h dX0_change_0 0 rfl rfl ?_
  refine v_iconst (pc := 1) h dX0_change_1 (v := 2) rfl ?_
  refine v_iload_n (pc := 2) h dX0_change_2 1 rfl rfl ?_
  refine v_imul (pc := 3) h dX0_change_3 ?_
  refine v_ishr (pc := 4) h dX0_change_4 ?_
  refine v_iconst (pc := 5) h dX0_change_5 (v := 3) rfl ?_
  refine v_iand (pc := 6) h dX0_change_6 ?_
  refine v_iconst (pc := 7) h dX0_change_7 (v := 1) rfl ?_
  refine v_isub (pc := 8) h dX0_change_8 ?_
  exact v_iretP (pc := 9) h hr dX0_change_9
set_option maxHeartbeats 4000000 in
theorem tX0_allows {g : Gl}  (o : Nat) (a1 : Int32) (I : MI) (r : Rh) (h_o : KpS o r) : CtP g yX0_allows cX0_allows 5 (some .boolean) 2 [.ref o, .int a1] I r (pX0_allows o a1 I r) := by
  refine CtP.mk (lv := [(0, .ref o), (1, .int a1)]) (by decide) (Nat.le_of_ble_eq_true rfl) rfl (fun x Q h hr => ?_)
  unfold pX0_allows
  refine v_iconst (pc := 0) h dX0_allows_0 (v := 0) rfl ?_
  refine v_istore_n (pc := 1) h dX0_allows_1 rfl (by decide) (lv' := [(2, .int (0 : Int32)), (0, .ref o), (1, .int a1)]) rfl ?_
  refine v_sub [1, 2, 0] rfl ?_
  refine L1.run (lv := fun i2_1 => [(0, .ref o), (1, .int a1), (2, .int i2_1)]) (st := fun i2_1 => []) (Im := fun i2_1 => I) (r := fun i2_1 => r) (fun X2 hX2 i2_1 => ?_) (0 : Int32)
  refine v_iload_n (pc := 2) h dX0_allows_2 2 rfl rfl ?_
  refine v_aload_n (pc := 3) h dX0_allows_3 0 rfl rfl ?_
  refine v_getp (pc := 4) h dX0_allows_4 fX0_20 rfl (KpS.c h_o) (KpS.walk h_o).1 ?_
  refine v_getp (pc := 7) h dX0_allows_7 fX0_344 rfl (WkS.c (KpS.walk h_o).2) (WkS.faces (KpS.walk h_o).2).1 ?_
  refine v_geti (pc := 10) h dX0_allows_10 fX0_302 rfl (WkS.faces (KpS.walk h_o).2).2.1 ?_
  refine v_icmp_ge (pc := 13) (t := 96) h dX0_allows_13 rfl (fun _ => ?_) (fun _ => ?_)
  · refine v_iconst (pc := 96) h dX0_allows_96 (v := 1) rfl ?_
    exact v_zretP (pc := 97) h hr (Or.inr rfl) dX0_allows_97
  · refine v_iconst (pc := 16) h dX0_allows_16 (v := 0) rfl ?_
    refine v_istore_n (pc := 17) h dX0_allows_17 rfl (by decide) (lv' := [(3, .int (0 : Int32)), (0, .ref o), (1, .int a1), (2, .int i2_1)]) rfl ?_
    refine v_iconst (pc := 18) h dX0_allows_18 (v := 0) rfl ?_
    refine v_istore (pc := 19) h dX0_allows_19 (by decide) (lv' := [(4, .int (0 : Int32)), (3, .int (0 : Int32)), (0, .ref o), (1, .int a1), (2, .int i2_1)]) rfl ?_
    refine v_sub [2, 3, 4, 1, 0] rfl ?_
    refine L2.run (lv := fun i3_3 i4_4 => [(0, .ref o), (1, .int a1), (2, .int i2_1), (3, .int i3_3), (4, .int i4_4)]) (st := fun i3_3 i4_4 => []) (Im := fun i3_3 i4_4 => I) (r := fun i3_3 i4_4 => r) (fun X5 hX5 i3_3 i4_4 => ?_) (0 : Int32) (0 : Int32)
    refine v_iload (pc := 21) h dX0_allows_21 4 rfl ?_
    refine v_bipush (pc := 23) h dX0_allows_23 (v := 6) rfl ?_
    refine v_icmp_ge (pc := 25) (t := 70) h dX0_allows_25 rfl (fun _ => ?_) (fun _ => ?_)
    · refine v_iload_n (pc := 70) h dX0_allows_70 3 rfl rfl ?_
      refine v_aload_n (pc := 71) h dX0_allows_71 0 rfl rfl ?_
      refine v_getp (pc := 72) h dX0_allows_72 fX0_20 rfl (KpS.c h_o) (KpS.walk h_o).1 ?_
      refine v_getp (pc := 75) h dX0_allows_75 fX0_344 rfl (WkS.c (KpS.walk h_o).2) (WkS.faces (KpS.walk h_o).2).1 ?_
      refine v_getp (pc := 78) h dX0_allows_78 fX0_308 rfl (WkS.faces (KpS.walk h_o).2).2.1 (WkS.faces (KpS.walk h_o).2).2.2.1 ?_
      refine v_iload_n (pc := 81) h dX0_allows_81 2 rfl rfl ?_
      refine v_aaldk (pc := 82) h dX0_allows_82 (t := 5) (WkS.faces (KpS.walk h_o).2).2.2.2.1 rfl rfl (WkS.faces (KpS.walk h_o).2).2.2.2.2.1 (fun hin => ((WkS.faces (KpS.walk h_o).2).2.2.2.2.2 _ (vp_lt hin)).1) (fun h6 => ?_)
      refine v_iconst (pc := 83) h dX0_allows_83 (v := 1) rfl ?_
      refine v_ialdL (pc := 84) h dX0_allows_84 ((WkS.faces (KpS.walk h_o).2).2.2.2.2.2 _ (vp_lt h6)).2.1 ((WkS.faces (KpS.walk h_o).2).2.2.2.2.2 _ (vp_lt h6)).2.2 (vpd rfl) (k := 1) rfl ?_
      refine v_icmp_eq (pc := 85) (t := 90) h dX0_allows_85 rfl (fun _ => ?_) (fun _ => ?_)
      · refine v_iinc (pc := 90) h dX0_allows_90 2 rfl (w := (i2_1 + (1 : Int32))) rfl (by decide) (lv' := [(2, .int (i2_1 + (1 : Int32))), (0, .ref o), (1, .int a1), (3, .int i3_3), (4, .int i4_4)]) rfl ?_
        refine v_goto (pc := 93) (t := 2) h dX0_allows_93 rfl ?_
        refine v_sub [1, 2, 0] rfl ?_
        exact hX2 (i2_1 + (1 : Int32))
      · refine v_iconst (pc := 88) h dX0_allows_88 (v := 0) rfl ?_
        exact v_zretP (pc := 89) h hr (Or.inl rfl) dX0_allows_89
    · refine v_iload_n (pc := 28) h dX0_allows_28 3 rfl rfl ?_
      refine v_aload_n (pc := 29) h dX0_allows_29 0 rfl rfl ?_
      refine v_getp (pc := 30) h dX0_allows_30 fX0_20 rfl (KpS.c h_o) (KpS.walk h_o).1 ?_
      refine v_getp (pc := 33) h dX0_allows_33 fX0_344 rfl (WkS.c (KpS.walk h_o).2) (WkS.faces (KpS.walk h_o).2).1 ?_
      refine v_getp (pc := 36) h dX0_allows_36 fX0_308 rfl (WkS.faces (KpS.walk h_o).2).2.1 (WkS.faces (KpS.walk h_o).2).2.2.1 ?_
      refine v_iload_n (pc := 39) h dX0_allows_39 2 rfl rfl ?_
      refine v_aaldk (pc := 40) h dX0_allows_40 (t := 5) (WkS.faces (KpS.walk h_o).2).2.2.2.1 rfl rfl (WkS.faces (KpS.walk h_o).2).2.2.2.2.1 (fun hin => ((WkS.faces (KpS.walk h_o).2).2.2.2.2.2 _ (vp_lt hin)).1) (fun h7 => ?_)
      refine v_iconst (pc := 41) h dX0_allows_41 (v := 0) rfl ?_
      refine v_ialdL (pc := 42) h dX0_allows_42 ((WkS.faces (KpS.walk h_o).2).2.2.2.2.2 _ (vp_lt h7)).2.1 ((WkS.faces (KpS.walk h_o).2).2.2.2.2.2 _ (vp_lt h7)).2.2 (vpd rfl) (k := 0) rfl ?_
      refine v_iload (pc := 43) h dX0_allows_43 4 rfl ?_
      refine v_ishr (pc := 45) h dX0_allows_45 ?_
      refine v_iconst (pc := 46) h dX0_allows_46 (v := 1) rfl ?_
      refine v_iand (pc := 47) h dX0_allows_47 ?_
      refine v_iconst (pc := 48) h dX0_allows_48 (v := 1) rfl ?_
      refine v_jn1 (fun t8 => V g x 5 (0, 0) 62 [(0, .ref o), (1, .int a1), (2, .int i2_1), (4, .int i4_4)] [.int t8, .int i3_3] I r) (fun k9 hk9 => ?_) (fun t8 => ?_)
      · refine v_icmp_ne (pc := 49) (t := 61) h dX0_allows_49 rfl (fun _ => ?_) (fun _ => ?_)
        · refine v_iconst (pc := 61) h dX0_allows_61 (v := 0) rfl ?_
          refine v_sub [0, 1, 2, 4] rfl ?_
          exact hk9 (0 : Int32)
        · refine v_iload_n (pc := 52) h dX0_allows_52 1 rfl rfl ?_
          refine v_iload (pc := 53) h dX0_allows_53 4 rfl ?_
          refine v_callsp (pc := 55) h dX0_allows_55 sX0_347 (tX0_change a1 i4_4 I r ) (by decide) rfl rfl (Nat.le_of_ble_eq_true rfl) ⟨Nat.zero_le _, Nat.zero_le _⟩ (fun r10 => ?_)
          refine v_goto (pc := 58) (t := 62) h dX0_allows_58 rfl ?_
          refine v_sub [0, 1, 2, 4] rfl ?_
          exact hk9 r10
      · refine v_iadd (pc := 62) h dX0_allows_62 ?_
        refine v_nmi (fun v11 => ?_)
        refine v_istore_n (pc := 63) h dX0_allows_63 rfl (by decide) (lv' := [(3, .int v11), (0, .ref o), (1, .int a1), (2, .int i2_1), (4, .int i4_4)]) rfl ?_
        refine v_iinc (pc := 64) h dX0_allows_64 4 rfl (w := (i4_4 + (1 : Int32))) rfl (by decide) (lv' := [(4, .int (i4_4 + (1 : Int32))), (3, .int v11), (0, .ref o), (1, .int a1), (2, .int i2_1)]) rfl ?_
        refine v_goto (pc := 67) (t := 21) h dX0_allows_67 rfl ?_
        refine v_sub [2, 3, 4, 1, 0] rfl ?_
        exact hX5 v11 (i4_4 + (1 : Int32))
set_option maxHeartbeats 4000000 in
theorem tX0_kinds {g : Gl}  (a1 : Int32) (I : MI) (r : Rh)  : CtP g yX0_kinds cX0_kinds 1 (some .int) 1 [.int a1] I r (pX0_kinds a1 I r) := by
  refine CtP.mk (lv := [(0, .int a1)]) (by decide) (Nat.le_of_ble_eq_true rfl) rfl (fun x Q h hr => ?_)
  unfold pX0_kinds
  refine v_iload_n (pc := 0) h dX0_kinds_0 0 rfl rfl ?_
  refine v_if_ge (pc := 1) (t := 8) h dX0_kinds_1 rfl (fun _ => ?_) (fun _ => ?_)
  · refine v_iload_n (pc := 8) h dX0_kinds_8 0 rfl rfl ?_
    refine v_if_ne (pc := 9) (t := 16) h dX0_kinds_9 rfl (fun _ => ?_) (fun _ => ?_)
    · refine v_iconst (pc := 16) h dX0_kinds_16 (v := 1) rfl ?_
      exact v_iretP (pc := 17) h hr dX0_kinds_17
    · refine v_iconst (pc := 12) h dX0_kinds_12 (v := 2) rfl ?_
      refine v_goto (pc := 13) (t := 17) h dX0_kinds_13 rfl ?_
      exact v_iretP (pc := 17) h hr dX0_kinds_17
  · refine v_iconst (pc := 4) h dX0_kinds_4 (v := 3) rfl ?_
    refine v_goto (pc := 5) (t := 17) h dX0_kinds_5 rfl ?_
    exact v_iretP (pc := 17) h hr dX0_kinds_17
set_option maxHeartbeats 4000000 in
theorem tX0_faces {g : Gl}  (o : Nat) (a1 : Int32) (I : MI) (r : Rh) (h_o : KpS o r) : CtI g yX0_faces cX0_faces 6 (some .int) 3 [.ref o, .int a1] I r (pX0_faces o a1 I r) := by
  refine CtI.mk (lv := [(0, .ref o), (1, .int a1)]) (by decide) (Nat.le_of_ble_eq_true rfl) rfl (fun x Q h hr => ?_)
  unfold pX0_faces
  refine v_iload_n (pc := 0) h dX0_faces_0 1 rfl rfl ?_
  refine v_iconst (pc := 1) h dX0_faces_1 (v := 0) rfl ?_
  refine v_iconst (pc := 2) h dX0_faces_2 (v := 1) rfl ?_
  refine v_callsp (pc := 3) h dX0_faces_3 sX0_78 (tX0_isIn a1 (0 : Int32) (1 : Int32) I r ) (by decide) rfl rfl (Nat.le_of_ble_eq_true rfl) ⟨Nat.zero_le _, Nat.zero_le _⟩ (fun r1 => ?_)
  refine v_if_ne (pc := 6) (t := 11) h dX0_faces_6 rfl (fun _ => ?_) (fun _ => ?_)
  · refine v_iconst (pc := 11) h dX0_faces_11 (v := 0) rfl ?_
    refine v_istore_n (pc := 12) h dX0_faces_12 rfl (by decide) (lv' := [(2, .int (0 : Int32)), (0, .ref o), (1, .int a1)]) rfl ?_
    refine v_iconst (pc := 13) h dX0_faces_13 (v := 0) rfl ?_
    refine v_istore_n (pc := 14) h dX0_faces_14 rfl (by decide) (lv' := [(3, .int (0 : Int32)), (2, .int (0 : Int32)), (0, .ref o), (1, .int a1)]) rfl ?_
    refine v_sub [2, 3, 1, 0] rfl ?_
    refine L2.run (lv := fun i3_2 I3 => [(0, .ref o), (1, .int a1), (2, .int (0 : Int32)), (3, .int i3_2)]) (st := fun i3_2 I3 => []) (Im := fun i3_2 I3 => I3) (r := fun i3_2 I3 => r) (fun X4 hX4 i3_2 I3 => ?_) (0 : Int32) I
    refine v_iload_n (pc := 15) h dX0_faces_15 3 rfl rfl ?_
    refine v_bipush (pc := 16) h dX0_faces_16 (v := 6) rfl ?_
    refine v_icmp_ge (pc := 18) (t := 34) h dX0_faces_18 rfl (fun _ => ?_) (fun _ => ?_)
    · refine v_iconst (pc := 34) h dX0_faces_34 (v := 0) rfl ?_
      refine v_istore_n (pc := 35) h dX0_faces_35 rfl (by decide) (lv' := [(3, .int (0 : Int32)), (0, .ref o), (1, .int a1), (2, .int (0 : Int32))]) rfl ?_
      refine v_sub [1, 2, 3, 0] rfl ?_
      refine L3.run (lv := fun i2_5 i3_6 I7 => [(0, .ref o), (1, .int a1), (2, .int i2_5), (3, .int i3_6)]) (st := fun i2_5 i3_6 I7 => []) (Im := fun i2_5 i3_6 I7 => I7) (r := fun i2_5 i3_6 I7 => r) (fun X8 hX8 i2_5 i3_6 I7 => ?_) (0 : Int32) (0 : Int32) I3
      refine v_iload_n (pc := 36) h dX0_faces_36 3 rfl rfl ?_
      refine v_sipush (pc := 37) h dX0_faces_37 (v := 4096) rfl ?_
      refine v_icmp_ge (pc := 40) (t := 118) h dX0_faces_40 rfl (fun _ => ?_) (fun _ => ?_)
      · refine v_iconst (pc := 118) h dX0_faces_118 (v := 0) rfl ?_
        refine v_istore_n (pc := 119) h dX0_faces_119 rfl (by decide) (lv' := [(3, .int (0 : Int32)), (0, .ref o), (1, .int a1), (2, .int i2_5)]) rfl ?_
        refine v_iconst (pc := 120) h dX0_faces_120 (v := 0) rfl ?_
        refine v_istore (pc := 121) h dX0_faces_121 (by decide) (lv' := [(4, .int (0 : Int32)), (3, .int (0 : Int32)), (0, .ref o), (1, .int a1), (2, .int i2_5)]) rfl ?_
        refine v_sub [2, 3, 4, 1, 0] rfl ?_
        refine L2.run (lv := fun i3_9 i4_10 => [(0, .ref o), (1, .int a1), (2, .int i2_5), (3, .int i3_9), (4, .int i4_10)]) (st := fun i3_9 i4_10 => []) (Im := fun i3_9 i4_10 => I7) (r := fun i3_9 i4_10 => r) (fun X11 hX11 i3_9 i4_10 => ?_) (0 : Int32) (0 : Int32)
        refine v_iload (pc := 123) h dX0_faces_123 4 rfl ?_
        refine v_bipush (pc := 125) h dX0_faces_125 (v := 6) rfl ?_
        refine v_icmp_ge (pc := 127) (t := 161) h dX0_faces_127 rfl (fun _ => ?_) (fun _ => ?_)
        · refine v_iload_n (pc := 161) h dX0_faces_161 1 rfl rfl ?_
          refine v_if_ne (pc := 162) (t := 173) h dX0_faces_162 rfl (fun _ => ?_) (fun _ => ?_)
          · refine v_iload_n (pc := 173) h dX0_faces_173 3 rfl rfl ?_
            exact v_iret (pc := 174) h hr dX0_faces_174
          · refine v_iload_n (pc := 165) h dX0_faces_165 2 rfl rfl ?_
            refine v_ldcw (pc := 166) h dX0_faces_166 (v := (1000000007)) q1255 ?_
            refine v_iremK (pc := 169) h dX0_faces_169 (by decide) ?_
            refine v_goto (pc := 170) (t := 174) h dX0_faces_170 rfl ?_
            exact v_iret (pc := 174) h hr dX0_faces_174
        · refine v_iload_n (pc := 130) h dX0_faces_130 3 rfl rfl ?_
          refine v_aload_n (pc := 131) h dX0_faces_131 0 rfl rfl ?_
          refine v_getp (pc := 132) h dX0_faces_132 fX0_59 rfl (KpS.c h_o) (KpS.changes h_o).1 ?_
          refine v_iload (pc := 135) h dX0_faces_135 4 rfl ?_
          refine v_iald (pc := 137) h dX0_faces_137 (KpS.changes h_o).2.1 (KpS.changes h_o).2.2 ?_
          refine v_callsp (pc := 138) h dX0_faces_138 sX0_303 (tJ6_bitCount (I7 (o + 2633) i4_10.toNatClampNeg) I7 r ) (by decide) rfl rfl (Nat.le_of_ble_eq_true rfl) ⟨Nat.zero_le _, Nat.zero_le _⟩ (fun r12 => ?_)
          refine v_iconst (pc := 141) h dX0_faces_141 (v := 1) rfl ?_
          refine v_jn1 (fun t13 => V g x 6 (0, 0) 153 [(0, .ref o), (1, .int a1), (2, .int i2_5), (4, .int i4_10)] [.int t13, .int i3_9] I7 r) (fun k14 hk14 => ?_) (fun t13 => ?_)
          · refine v_icmp_ne (pc := 142) (t := 152) h dX0_faces_142 rfl (fun _ => ?_) (fun _ => ?_)
            · refine v_iconst (pc := 152) h dX0_faces_152 (v := 0) rfl ?_
              refine v_sub [0, 1, 2, 4] rfl ?_
              exact hk14 (0 : Int32)
            · refine v_iconst (pc := 145) h dX0_faces_145 (v := 1) rfl ?_
              refine v_iload (pc := 146) h dX0_faces_146 4 rfl ?_
              refine v_ishl (pc := 148) h dX0_faces_148 ?_
              refine v_goto (pc := 149) (t := 153) h dX0_faces_149 rfl ?_
              refine v_sub [0, 1, 2, 4] rfl ?_
              exact hk14 (sl (1 : Int32) i4_10)
          · refine v_ior (pc := 153) h dX0_faces_153 ?_
            refine v_nmi (fun v15 => ?_)
            refine v_istore_n (pc := 154) h dX0_faces_154 rfl (by decide) (lv' := [(3, .int v15), (0, .ref o), (1, .int a1), (2, .int i2_5), (4, .int i4_10)]) rfl ?_
            refine v_iinc (pc := 155) h dX0_faces_155 4 rfl (w := (i4_10 + (1 : Int32))) rfl (by decide) (lv' := [(4, .int (i4_10 + (1 : Int32))), (3, .int v15), (0, .ref o), (1, .int a1), (2, .int i2_5)]) rfl ?_
            refine v_goto (pc := 158) (t := 123) h dX0_faces_158 rfl ?_
            refine v_sub [2, 3, 4, 1, 0] rfl ?_
            exact hX11 v15 (i4_10 + (1 : Int32))
      · refine v_aload_n (pc := 43) h dX0_faces_43 0 rfl rfl ?_
        refine v_iload_n (pc := 44) h dX0_faces_44 3 rfl rfl ?_
        refine v_callP (pc := 45) h dX0_faces_45 kX0_350 rfl (KpS.c h_o) (tX0_allows o i3_6 I7 r h_o) (by decide) rfl rfl (Nat.le_of_ble_eq_true rfl) ⟨Nat.zero_le _, Nat.zero_le _⟩ (fun r16 => ?_)
        refine v_jn2 (fun v2_17 I18 => V g x 6 (0, 0) 112 [(0, .ref o), (1, .int a1), (2, .int v2_17), (3, .int i3_6)] [] I18 r) (fun k19 hk19 => ?_) (fun v2_17 I18 => ?_)
        · refine v_if_ne (pc := 48) (t := 54) h dX0_faces_48 rfl (fun _ => ?_) (fun _ => ?_)
          · refine v_iconst (pc := 54) h dX0_faces_54 (v := 1) rfl ?_
            refine v_istore (pc := 55) h dX0_faces_55 (by decide) (lv' := [(4, .int (1 : Int32)), (0, .ref o), (1, .int a1), (2, .int i2_5), (3, .int i3_6)]) rfl ?_
            refine v_iconst (pc := 57) h dX0_faces_57 (v := 0) rfl ?_
            refine v_istore (pc := 58) h dX0_faces_58 (by decide) (lv' := [(5, .int (0 : Int32)), (4, .int (1 : Int32)), (0, .ref o), (1, .int a1), (2, .int i2_5), (3, .int i3_6)]) rfl ?_
            refine v_sub [2, 3, 4, 5, 1, 0] rfl ?_
            refine L3.run (lv := fun i4_20 i5_21 I22 => [(0, .ref o), (1, .int a1), (2, .int i2_5), (3, .int i3_6), (4, .int i4_20), (5, .int i5_21)]) (st := fun i4_20 i5_21 I22 => []) (Im := fun i4_20 i5_21 I22 => I22) (r := fun i4_20 i5_21 I22 => r) (fun X23 hX23 i4_20 i5_21 I22 => ?_) (1 : Int32) (0 : Int32) I7
            refine v_iload (pc := 60) h dX0_faces_60 5 rfl ?_
            refine v_bipush (pc := 62) h dX0_faces_62 (v := 6) rfl ?_
            refine v_icmp_ge (pc := 64) (t := 107) h dX0_faces_64 rfl (fun _ => ?_) (fun _ => ?_)
            · refine v_iload_n (pc := 107) h dX0_faces_107 2 rfl rfl ?_
              refine v_iload (pc := 108) h dX0_faces_108 4 rfl ?_
              refine v_iadd (pc := 110) h dX0_faces_110 ?_
              refine v_nmi (fun v24 => ?_)
              refine v_istore_n (pc := 111) h dX0_faces_111 rfl (by decide) (lv' := [(2, .int v24), (0, .ref o), (1, .int a1), (3, .int i3_6), (4, .int i4_20), (5, .int i5_21)]) rfl ?_
              refine v_sub [1, 2, 0, 3] rfl ?_
              exact hk19 v24 I22
            · refine v_iload (pc := 67) h dX0_faces_67 4 rfl ?_
              refine v_iload_n (pc := 69) h dX0_faces_69 3 rfl rfl ?_
              refine v_iload (pc := 70) h dX0_faces_70 5 rfl ?_
              refine v_callsp (pc := 72) h dX0_faces_72 sX0_347 (tX0_change i3_6 i5_21 I22 r ) (by decide) rfl rfl (Nat.le_of_ble_eq_true rfl) ⟨Nat.zero_le _, Nat.zero_le _⟩ (fun r25 => ?_)
              refine v_callsp (pc := 75) h dX0_faces_75 sX0_353 (tX0_kinds r25 I22 r ) (by decide) rfl rfl (Nat.le_of_ble_eq_true rfl) ⟨Nat.zero_le _, Nat.zero_le _⟩ (fun r26 => ?_)
              refine v_imul (pc := 78) h dX0_faces_78 ?_
              refine v_nmi (fun v27 => ?_)
              refine v_istore (pc := 79) h dX0_faces_79 (by decide) (lv' := [(4, .int v27), (0, .ref o), (1, .int a1), (2, .int i2_5), (3, .int i3_6), (5, .int i5_21)]) rfl ?_
              refine v_aload_n (pc := 81) h dX0_faces_81 1 rfl rfl ?_
              refine v_getp (pc := 82) h dX0_faces_82 fX0_59 rfl (KpS.c h_o) (KpS.changes h_o).1 ?_
              refine v_iload (pc := 85) h dX0_faces_85 5 rfl ?_
              refine v_dup2 (pc := 87) h dX0_faces_87 rfl rfl ?_
              refine v_iald (pc := 88) h dX0_faces_88 (KpS.changes h_o).2.1 (KpS.changes h_o).2.2 ?_
              refine v_iconst (pc := 89) h dX0_faces_89 (v := 1) rfl ?_
              refine v_iload_n (pc := 90) h dX0_faces_90 4 rfl rfl ?_
              refine v_iload (pc := 91) h dX0_faces_91 5 rfl ?_
              refine v_callsp (pc := 93) h dX0_faces_93 sX0_347 (tX0_change i3_6 i5_21 I22 r ) (by decide) rfl rfl (Nat.le_of_ble_eq_true rfl) ⟨Nat.zero_le _, Nat.zero_le _⟩ (fun r28 => ?_)
              refine v_iconst (pc := 96) h dX0_faces_96 (v := 1) rfl ?_
              refine v_iadd (pc := 97) h dX0_faces_97 ?_
              refine v_ishl (pc := 98) h dX0_faces_98 ?_
              refine v_ior (pc := 99) h dX0_faces_99 ?_
              refine v_iast (pc := 100) h dX0_faces_100 (KpS.changes h_o).2.1 (KpS.changes h_o).2.2 ?_
              refine v_nmI (fun I29 => ?_)
              refine v_iinc (pc := 101) h dX0_faces_101 5 rfl (w := (i5_21 + (1 : Int32))) rfl (by decide) (lv' := [(5, .int (i5_21 + (1 : Int32))), (4, .int v27), (0, .ref o), (1, .int a1), (2, .int i2_5), (3, .int i3_6)]) rfl ?_
              refine v_goto (pc := 104) (t := 60) h dX0_faces_104 rfl ?_
              refine v_sub [2, 3, 4, 5, 1, 0] rfl ?_
              exact hX23 v27 (i5_21 + (1 : Int32)) I29
          · refine v_goto (pc := 51) (t := 112) h dX0_faces_51 rfl ?_
            exact hk19 i2_5 I7
        · refine v_iinc (pc := 112) h dX0_faces_112 3 rfl (w := (i3_6 + (1 : Int32))) rfl (by decide) (lv' := [(3, .int (i3_6 + (1 : Int32))), (0, .ref o), (1, .int a1), (2, .int v2_17)]) rfl ?_
          refine v_goto (pc := 115) (t := 36) h dX0_faces_115 rfl ?_
          refine v_sub [1, 2, 3, 0] rfl ?_
          exact hX8 v2_17 (i3_6 + (1 : Int32)) I18
    · refine v_aload_n (pc := 21) h dX0_faces_21 0 rfl rfl ?_
      refine v_getp (pc := 22) h dX0_faces_22 fX0_59 rfl (KpS.c h_o) (KpS.changes h_o).1 ?_
      refine v_iload_n (pc := 25) h dX0_faces_25 3 rfl rfl ?_
      refine v_iconst (pc := 26) h dX0_faces_26 (v := 0) rfl ?_
      refine v_iast (pc := 27) h dX0_faces_27 (KpS.changes h_o).2.1 (KpS.changes h_o).2.2 ?_
      refine v_nmI (fun I30 => ?_)
      refine v_iinc (pc := 28) h dX0_faces_28 3 rfl (w := (i3_2 + (1 : Int32))) rfl (by decide) (lv' := [(3, .int (i3_2 + (1 : Int32))), (0, .ref o), (1, .int a1), (2, .int (0 : Int32))]) rfl ?_
      refine v_goto (pc := 31) (t := 15) h dX0_faces_31 rfl ?_
      refine v_sub [1, 2, 3, 0] rfl ?_
      exact hX4 (i3_2 + (1 : Int32)) I30
  · refine v_iconst (pc := 9) h dX0_faces_9 (v := (-1)) rfl ?_
    exact v_iret (pc := 10) h hr dX0_faces_10
set_option maxHeartbeats 4000000 in
theorem tX0_joy {g : Gl}  (o : Nat) (a1 : Int32) (I : MI) (r : Rh) (h_o : KpS o r) : CtP g yX0_joy cX0_joy 7 (some .int) 2 [.ref o, .int a1] I r (pX0_joy o a1 I r) := by
  refine CtP.mk (lv := [(0, .ref o), (1, .int a1)]) (by decide) (Nat.le_of_ble_eq_true rfl) rfl (fun x Q h hr => ?_)
  unfold pX0_joy
  refine v_iload_n (pc := 0) h dX0_joy_0 1 rfl rfl ?_
  refine v_iconst (pc := 1) h dX0_joy_1 (v := 0) rfl ?_
  refine v_iconst (pc := 2) h dX0_joy_2 (v := 1) rfl ?_
  refine v_callsp (pc := 3) h dX0_joy_3 sX0_78 (tX0_isIn a1 (0 : Int32) (1 : Int32) I r ) (by decide) rfl rfl (Nat.le_of_ble_eq_true rfl) ⟨Nat.zero_le _, Nat.zero_le _⟩ (fun r1 => ?_)
  refine v_jn0 (V g x 7 (0, 0) 19 [] [] I r) (fun k2 hk2 => ?_) ?_
  · refine v_if_eq (pc := 6) (t := 19) h dX0_joy_6 rfl (fun _ => ?_) (fun _ => ?_)
    · refine v_sub [] rfl ?_
      exact hk2
    · refine v_aload_n (pc := 9) h dX0_joy_9 0 rfl rfl ?_
      refine v_getp (pc := 10) h dX0_joy_10 fX0_20 rfl (KpS.c h_o) (KpS.walk h_o).1 ?_
      refine v_geti (pc := 13) h dX0_joy_13 fX0_151 rfl (WkS.c (KpS.walk h_o).2) ?_
      refine v_if_ne (pc := 16) (t := 22) h dX0_joy_16 rfl (fun _ => ?_) (fun _ => ?_)
      · refine v_ldcw (pc := 22) h dX0_joy_22 (v := (-100000000)) q1334 ?_
        refine v_istore_n (pc := 25) h dX0_joy_25 rfl (by decide) (lv' := [(2, .int (-100000000 : Int32)), (0, .ref o), (1, .int a1)]) rfl ?_
        refine v_iconst (pc := 26) h dX0_joy_26 (v := 0) rfl ?_
        refine v_istore_n (pc := 27) h dX0_joy_27 rfl (by decide) (lv' := [(3, .int (0 : Int32)), (2, .int (-100000000 : Int32)), (0, .ref o), (1, .int a1)]) rfl ?_
        refine v_iconst (pc := 28) h dX0_joy_28 (v := 0) rfl ?_
        refine v_istore (pc := 29) h dX0_joy_29 (by decide) (lv' := [(4, .int (0 : Int32)), (3, .int (0 : Int32)), (2, .int (-100000000 : Int32)), (0, .ref o), (1, .int a1)]) rfl ?_
        refine v_sub [3, 4, 2, 1, 0] rfl ?_
        refine L3.run (lv := fun i2_3 i3_4 i4_5 => [(0, .ref o), (1, .int a1), (2, .int i2_3), (3, .int i3_4), (4, .int i4_5)]) (st := fun i2_3 i3_4 i4_5 => []) (Im := fun i2_3 i3_4 i4_5 => I) (r := fun i2_3 i3_4 i4_5 => r) (fun X6 hX6 i2_3 i3_4 i4_5 => ?_) (-100000000 : Int32) (0 : Int32) (0 : Int32)
        refine v_iload (pc := 31) h dX0_joy_31 4 rfl ?_
        refine v_aload_n (pc := 33) h dX0_joy_33 0 rfl rfl ?_
        refine v_getp (pc := 34) h dX0_joy_34 fX0_20 rfl (KpS.c h_o) (KpS.walk h_o).1 ?_
        refine v_geti (pc := 37) h dX0_joy_37 fX0_151 rfl (WkS.c (KpS.walk h_o).2) ?_
        refine v_icmp_ge (pc := 40) (t := 108) h dX0_joy_40 rfl (fun _ => ?_) (fun _ => ?_)
        · refine v_iload_n (pc := 108) h dX0_joy_108 1 rfl rfl ?_
          refine v_if_ne (pc := 109) (t := 116) h dX0_joy_109 rfl (fun _ => ?_) (fun _ => ?_)
          · refine v_iload_n (pc := 116) h dX0_joy_116 3 rfl rfl ?_
            exact v_iretP (pc := 117) h hr dX0_joy_117
          · refine v_iload_n (pc := 112) h dX0_joy_112 2 rfl rfl ?_
            refine v_goto (pc := 113) (t := 117) h dX0_joy_113 rfl ?_
            exact v_iretP (pc := 117) h hr dX0_joy_117
        · refine v_iconst (pc := 43) h dX0_joy_43 (v := 0) rfl ?_
          refine v_istore (pc := 44) h dX0_joy_44 (by decide) (lv' := [(5, .int (0 : Int32)), (0, .ref o), (1, .int a1), (2, .int i2_3), (3, .int i3_4), (4, .int i4_5)]) rfl ?_
          refine v_iload (pc := 46) h dX0_joy_46 5 rfl ?_
          refine v_istore (pc := 48) h dX0_joy_48 (by decide) (lv' := [(6, .int i4_5), (5, .int (0 : Int32)), (0, .ref o), (1, .int a1), (2, .int i2_3), (3, .int i3_4), (4, .int i4_5)]) rfl ?_
          refine v_sub [2, 3, 4, 5, 6, 1, 0] rfl ?_
          refine L4.run (lv := fun i2_7 i3_8 i5_9 i6_10 => [(0, .ref o), (1, .int a1), (2, .int i2_7), (3, .int i3_8), (4, .int i4_5), (5, .int i5_9), (6, .int i6_10)]) (st := fun i2_7 i3_8 i5_9 i6_10 => []) (Im := fun i2_7 i3_8 i5_9 i6_10 => I) (r := fun i2_7 i3_8 i5_9 i6_10 => r) (fun X11 hX11 i2_7 i3_8 i5_9 i6_10 => ?_) i2_3 i3_4 (0 : Int32) i4_5
          refine v_iload (pc := 50) h dX0_joy_50 6 rfl ?_
          refine v_aload_n (pc := 52) h dX0_joy_52 0 rfl rfl ?_
          refine v_getp (pc := 53) h dX0_joy_53 fX0_20 rfl (KpS.c h_o) (KpS.walk h_o).1 ?_
          refine v_geti (pc := 56) h dX0_joy_56 fX0_151 rfl (WkS.c (KpS.walk h_o).2) ?_
          refine v_icmp_ge (pc := 59) (t := 102) h dX0_joy_59 rfl (fun _ => ?_) (fun _ => ?_)
          · refine v_iinc (pc := 102) h dX0_joy_102 4 rfl (w := (i4_5 + (1 : Int32))) rfl (by decide) (lv' := [(4, .int (i4_5 + (1 : Int32))), (0, .ref o), (1, .int a1), (2, .int i2_7), (3, .int i3_8), (5, .int i5_9), (6, .int i6_10)]) rfl ?_
            refine v_goto (pc := 105) (t := 31) h dX0_joy_105 rfl ?_
            refine v_sub [1, 2, 3, 4, 0] rfl ?_
            exact hX6 i2_7 i3_8 (i4_5 + (1 : Int32))
          · refine v_iload (pc := 62) h dX0_joy_62 5 rfl ?_
            refine v_aload_n (pc := 64) h dX0_joy_64 0 rfl rfl ?_
            refine v_iload (pc := 65) h dX0_joy_65 6 rfl ?_
            refine v_callA (pc := 67) h dX0_joy_67 kX0_161 rfl (KpS.c h_o) (tX0_door_2 o i6_10 I r h_o) (by decide) rfl rfl (Nat.le_of_ble_eq_true rfl) ⟨Nat.zero_le _, Nat.zero_le _⟩ (fun b12 => ?_)
            refine v_and (fun h13 => ?_)
            refine v_geti (pc := 70) h dX0_joy_70 fX0_177 rfl h13 ?_
            refine v_iadd (pc := 73) h dX0_joy_73 ?_
            refine v_nmi (fun v14 => ?_)
            refine v_istore (pc := 74) h dX0_joy_74 (by decide) (lv' := [(5, .int v14), (0, .ref o), (1, .int a1), (2, .int i2_7), (3, .int i3_8), (4, .int i4_5), (6, .int i6_10)]) rfl ?_
            refine v_iload (pc := 76) h dX0_joy_76 0 rfl ?_
            refine v_iload_n (pc := 78) h dX0_joy_78 3 rfl rfl ?_
            refine v_jn1 (fun t15 => V g x 7 (0, 0) 88 [(0, .ref o), (1, .int a1), (2, .int i2_7), (4, .int i4_5), (5, .int v14), (6, .int i6_10)] [.int t15] I r) (fun k16 hk16 => ?_) (fun t15 => ?_)
            · refine v_icmp_le (pc := 79) (t := 87) h dX0_joy_79 rfl (fun _ => ?_) (fun _ => ?_)
              · refine v_iload_n (pc := 87) h dX0_joy_87 4 rfl rfl ?_
                refine v_sub [1, 2, 3, 5, 0, 6] rfl ?_
                exact hk16 i3_8
              · refine v_iload (pc := 82) h dX0_joy_82 5 rfl ?_
                refine v_goto (pc := 84) (t := 88) h dX0_joy_84 rfl ?_
                refine v_sub [1, 2, 3, 5, 0, 6] rfl ?_
                exact hk16 i4_5
            · refine v_istore_n (pc := 88) h dX0_joy_88 rfl (by decide) (lv' := [(3, .int t15), (0, .ref o), (1, .int a1), (2, .int i2_7), (4, .int i4_5), (5, .int v14), (6, .int i6_10)]) rfl ?_
              refine v_iload_n (pc := 89) h dX0_joy_89 3 rfl rfl ?_
              refine v_iload (pc := 90) h dX0_joy_90 5 rfl ?_
              refine v_mmax (pc := 92) h dX0_joy_92 q1104 (by decide) (Nat.le_of_ble_eq_true rfl) ⟨Nat.zero_le _, Nat.zero_le _⟩ ?_
              refine v_nmi (fun v17 => ?_)
              refine v_istore_n (pc := 95) h dX0_joy_95 rfl (by decide) (lv' := [(2, .int v17), (3, .int t15), (0, .ref o), (1, .int a1), (4, .int i4_5), (5, .int v14), (6, .int i6_10)]) rfl ?_
              refine v_iinc (pc := 96) h dX0_joy_96 6 rfl (w := (i6_10 + (1 : Int32))) rfl (by decide) (lv' := [(6, .int (i6_10 + (1 : Int32))), (2, .int v17), (3, .int t15), (0, .ref o), (1, .int a1), (4, .int i4_5), (5, .int v14)]) rfl ?_
              refine v_goto (pc := 99) (t := 50) h dX0_joy_99 rfl ?_
              refine v_sub [3, 4, 1, 2, 5, 6, 0] rfl ?_
              exact hX11 v17 t15 v14 (i6_10 + (1 : Int32))
      · refine v_sub [] rfl ?_
        exact hk2
  · refine v_bipush (pc := 19) h dX0_joy_19 (v := (-100)) rfl ?_
    exact v_iretP (pc := 21) h hr dX0_joy_21
set_option maxHeartbeats 4000000 in
theorem tX0_game {g : Gl}  (o : Nat) (a1 : Int32) (I : MI) (r : Rh) (h_o : KpS o r) : CtP g yX0_game cX0_game 6 (some .int) 2 [.ref o, .int a1] I r (pX0_game o a1 I r) := by
  refine CtP.mk (lv := [(0, .ref o), (1, .int a1)]) (by decide) (Nat.le_of_ble_eq_true rfl) rfl (fun x Q h hr => ?_)
  unfold pX0_game
  refine v_iload_n (pc := 0) h dX0_game_0 1 rfl rfl ?_
  refine v_iconst (pc := 1) h dX0_game_1 (v := 0) rfl ?_
  refine v_iconst (pc := 2) h dX0_game_2 (v := 1) rfl ?_
  refine v_callsp (pc := 3) h dX0_game_3 sX0_78 (tX0_isIn a1 (0 : Int32) (1 : Int32) I r ) (by decide) rfl rfl (Nat.le_of_ble_eq_true rfl) ⟨Nat.zero_le _, Nat.zero_le _⟩ (fun r1 => ?_)
  refine v_if_ne (pc := 6) (t := 11) h dX0_game_6 rfl (fun _ => ?_) (fun _ => ?_)
  · refine v_iconst (pc := 11) h dX0_game_11 (v := 0) rfl ?_
    refine v_istore_n (pc := 12) h dX0_game_12 rfl (by decide) (lv' := [(2, .int (0 : Int32)), (0, .ref o), (1, .int a1)]) rfl ?_
    refine v_iconst (pc := 13) h dX0_game_13 (v := 0) rfl ?_
    refine v_istore_n (pc := 14) h dX0_game_14 rfl (by decide) (lv' := [(3, .int (0 : Int32)), (2, .int (0 : Int32)), (0, .ref o), (1, .int a1)]) rfl ?_
    refine v_sub [2, 3, 1, 0] rfl ?_
    refine L2.run (lv := fun i2_2 i3_3 => [(0, .ref o), (1, .int a1), (2, .int i2_2), (3, .int i3_3)]) (st := fun i2_2 i3_3 => []) (Im := fun i2_2 i3_3 => I) (r := fun i2_2 i3_3 => r) (fun X4 hX4 i2_2 i3_3 => ?_) (0 : Int32) (0 : Int32)
    refine v_iload_n (pc := 15) h dX0_game_15 3 rfl rfl ?_
    refine v_aload_n (pc := 16) h dX0_game_16 0 rfl rfl ?_
    refine v_getp (pc := 17) h dX0_game_17 fX0_20 rfl (KpS.c h_o) (KpS.walk h_o).1 ?_
    refine v_geti (pc := 20) h dX0_game_20 fX0_151 rfl (WkS.c (KpS.walk h_o).2) ?_
    refine v_icmp_ge (pc := 23) (t := 48) h dX0_game_23 rfl (fun _ => ?_) (fun _ => ?_)
    · refine v_iconst (pc := 48) h dX0_game_48 (v := 0) rfl ?_
      refine v_istore_n (pc := 49) h dX0_game_49 rfl (by decide) (lv' := [(3, .int (0 : Int32)), (0, .ref o), (1, .int a1), (2, .int i2_2)]) rfl ?_
      refine v_sub [1, 2, 3, 0] rfl ?_
      refine L1.run (lv := fun i3_5 => [(0, .ref o), (1, .int a1), (2, .int i2_2), (3, .int i3_5)]) (st := fun i3_5 => []) (Im := fun i3_5 => I) (r := fun i3_5 => r) (fun X6 hX6 i3_5 => ?_) (0 : Int32)
      refine v_iload_n (pc := 50) h dX0_game_50 3 rfl rfl ?_
      refine v_aload_n (pc := 51) h dX0_game_51 0 rfl rfl ?_
      refine v_getp (pc := 52) h dX0_game_52 fX0_20 rfl (KpS.c h_o) (KpS.walk h_o).1 ?_
      refine v_geti (pc := 55) h dX0_game_55 fX0_151 rfl (WkS.c (KpS.walk h_o).2) ?_
      refine v_icmp_ge (pc := 58) (t := 129) h dX0_game_58 rfl (fun _ => ?_) (fun _ => ?_)
      · refine v_iconst (pc := 129) h dX0_game_129 (v := (-1)) rfl ?_
        exact v_iretP (pc := 130) h hr dX0_game_130
      · refine v_aload_n (pc := 61) h dX0_game_61 0 rfl rfl ?_
        refine v_getp (pc := 62) h dX0_game_62 fX0_20 rfl (KpS.c h_o) (KpS.walk h_o).1 ?_
        refine v_getp (pc := 65) h dX0_game_65 fX0_195 rfl (WkS.c (KpS.walk h_o).2) (WkS.bag (KpS.walk h_o).2).1 ?_
        refine v_iload_n (pc := 68) h dX0_game_68 3 rfl rfl ?_
        refine v_callP (pc := 69) h dX0_game_69 kX0_230 rfl (WkS.bag (KpS.walk h_o).2).2.1 (tX2_forDoor (o + 4) i3_5 I r (WkS.bag (KpS.walk h_o).2).2) (by decide) rfl rfl (Nat.le_of_ble_eq_true rfl) ⟨Nat.zero_le _, Nat.zero_le _⟩ (fun r7 => ?_)
        refine v_istore (pc := 72) h dX0_game_72 (by decide) (lv' := [(4, .int r7), (0, .ref o), (1, .int a1), (2, .int i2_2), (3, .int i3_5)]) rfl ?_
        refine v_iconst (pc := 74) h dX0_game_74 (v := 1) rfl ?_
        refine v_istore (pc := 75) h dX0_game_75 (by decide) (lv' := [(5, .int (1 : Int32)), (4, .int r7), (0, .ref o), (1, .int a1), (2, .int i2_2), (3, .int i3_5)]) rfl ?_
        refine v_sub [2, 3, 4, 5, 1, 0] rfl ?_
        refine L1.run (lv := fun i5_8 => [(0, .ref o), (1, .int a1), (2, .int i2_2), (3, .int i3_5), (4, .int r7), (5, .int i5_8)]) (st := fun i5_8 => []) (Im := fun i5_8 => I) (r := fun i5_8 => r) (fun X9 hX9 i5_8 => ?_) (1 : Int32)
        refine v_iload (pc := 77) h dX0_game_77 5 rfl ?_
        refine v_iconst (pc := 79) h dX0_game_79 (v := 2) rfl ?_
        refine v_jn0 (V g x 6 (0, 0) 123 [(0, .ref o), (1, .int a1), (2, .int i2_2), (3, .int i3_5)] [] I r) (fun k10 hk10 => ?_) ?_
        · refine v_icmp_gt (pc := 80) (t := 123) h dX0_game_80 rfl (fun _ => ?_) (fun _ => ?_)
          · refine v_sub [0, 1, 2, 3] rfl ?_
            exact hk10
          · refine v_iload (pc := 83) h dX0_game_83 5 rfl ?_
            refine v_iload (pc := 85) h dX0_game_85 4 rfl ?_
            refine v_icmp_gt (pc := 87) (t := 123) h dX0_game_87 rfl (fun _ => ?_) (fun _ => ?_)
            · refine v_sub [0, 1, 2, 3] rfl ?_
              exact hk10
            · refine v_iload_n (pc := 90) h dX0_game_90 2 rfl rfl ?_
              refine v_iload (pc := 91) h dX0_game_91 4 rfl ?_
              refine v_iconst (pc := 93) h dX0_game_93 (v := 3) rfl ?_
              refine v_iremK (pc := 94) h dX0_game_94 (by decide) ?_
              refine v_ixor (pc := 95) h dX0_game_95 ?_
              refine v_iload (pc := 96) h dX0_game_96 4 rfl ?_
              refine v_iload (pc := 98) h dX0_game_98 5 rfl ?_
              refine v_isub (pc := 100) h dX0_game_100 ?_
              refine v_iconst (pc := 101) h dX0_game_101 (v := 3) rfl ?_
              refine v_iremK (pc := 102) h dX0_game_102 (by decide) ?_
              refine v_icmp_ne (pc := 103) (t := 117) h dX0_game_103 rfl (fun _ => ?_) (fun _ => ?_)
              · refine v_iinc (pc := 117) h dX0_game_117 5 rfl (w := (i5_8 + (1 : Int32))) rfl (by decide) (lv' := [(5, .int (i5_8 + (1 : Int32))), (0, .ref o), (1, .int a1), (2, .int i2_2), (3, .int i3_5), (4, .int r7)]) rfl ?_
                refine v_goto (pc := 120) (t := 77) h dX0_game_120 rfl ?_
                refine v_sub [1, 2, 3, 4, 5, 0] rfl ?_
                exact hX9 (i5_8 + (1 : Int32))
              · refine v_iload_n (pc := 106) h dX0_game_106 1 rfl rfl ?_
                refine v_if_ne (pc := 107) (t := 114) h dX0_game_107 rfl (fun _ => ?_) (fun _ => ?_)
                · refine v_iload (pc := 114) h dX0_game_114 5 rfl ?_
                  exact v_iretP (pc := 116) h hr dX0_game_116
                · refine v_iload_n (pc := 110) h dX0_game_110 3 rfl rfl ?_
                  refine v_goto (pc := 111) (t := 116) h dX0_game_111 rfl ?_
                  exact v_iretP (pc := 116) h hr dX0_game_116
        · refine v_iinc (pc := 123) h dX0_game_123 3 rfl (w := (i3_5 + (1 : Int32))) rfl (by decide) (lv' := [(3, .int (i3_5 + (1 : Int32))), (0, .ref o), (1, .int a1), (2, .int i2_2)]) rfl ?_
          refine v_goto (pc := 126) (t := 50) h dX0_game_126 rfl ?_
          refine v_sub [1, 2, 3, 0] rfl ?_
          exact hX6 (i3_5 + (1 : Int32))
    · refine v_iload_n (pc := 26) h dX0_game_26 2 rfl rfl ?_
      refine v_aload_n (pc := 27) h dX0_game_27 0 rfl rfl ?_
      refine v_getp (pc := 28) h dX0_game_28 fX0_20 rfl (KpS.c h_o) (KpS.walk h_o).1 ?_
      refine v_getp (pc := 31) h dX0_game_31 fX0_195 rfl (WkS.c (KpS.walk h_o).2) (WkS.bag (KpS.walk h_o).2).1 ?_
      refine v_iload_n (pc := 34) h dX0_game_34 3 rfl rfl ?_
      refine v_callP (pc := 35) h dX0_game_35 kX0_230 rfl (WkS.bag (KpS.walk h_o).2).2.1 (tX2_forDoor (o + 4) i3_3 I r (WkS.bag (KpS.walk h_o).2).2) (by decide) rfl rfl (Nat.le_of_ble_eq_true rfl) ⟨Nat.zero_le _, Nat.zero_le _⟩ (fun r11 => ?_)
      refine v_iconst (pc := 38) h dX0_game_38 (v := 3) rfl ?_
      refine v_iremK (pc := 39) h dX0_game_39 (by decide) ?_
      refine v_ixor (pc := 40) h dX0_game_40 ?_
      refine v_nmi (fun v12 => ?_)
      refine v_istore_n (pc := 41) h dX0_game_41 rfl (by decide) (lv' := [(2, .int v12), (0, .ref o), (1, .int a1), (3, .int i3_3)]) rfl ?_
      refine v_iinc (pc := 42) h dX0_game_42 3 rfl (w := (i3_3 + (1 : Int32))) rfl (by decide) (lv' := [(3, .int (i3_3 + (1 : Int32))), (2, .int v12), (0, .ref o), (1, .int a1)]) rfl ?_
      refine v_goto (pc := 45) (t := 15) h dX0_game_45 rfl ?_
      refine v_sub [2, 3, 1, 0] rfl ?_
      exact hX4 v12 (i3_3 + (1 : Int32))
  · refine v_iconst (pc := 9) h dX0_game_9 (v := (-1)) rfl ?_
    exact v_iretP (pc := 10) h hr dX0_game_10
set_option maxHeartbeats 4000000 in
theorem tX4_takes {g : Gl}  (o : Nat) (n_o : Nat) (a1 : Nat) (n_a1 : Nat) (I : MI) (r : Rh) (h_o : RwS o n_o r) (h_a1 : RwS a1 n_a1 r) : CtV g yX4_takes cX4_takes 4 1 [.ref o, .ref a1] I r (pX4_takes o n_o a1 n_a1 I r) := by
  refine CtV.mk (lv := [(0, .ref o), (1, .ref a1)]) (by decide) (Nat.le_of_ble_eq_true rfl) rfl (fun x Q h hr => ?_)
  unfold pX4_takes
  refine v_aload_n (pc := 0) h dX4_takes_0 0 rfl rfl ?_
  refine v_aload_n (pc := 1) h dX4_takes_1 1 rfl rfl ?_
  refine v_geti (pc := 2) h dX4_takes_2 fX4_16 rfl h_a1.1 ?_
  refine v_puti (pc := 5) h dX4_takes_5 fX4_16 rfl h_o.1 ?_
  refine v_nmI (fun I1 => ?_)
  refine v_iconst (pc := 8) h dX4_takes_8 (v := 0) rfl ?_
  refine v_istore_n (pc := 9) h dX4_takes_9 rfl (by decide) (lv' := [(2, .int (0 : Int32)), (0, .ref o), (1, .ref a1)]) rfl ?_
  refine v_sub [1, 2, 0] rfl ?_
  refine L2.run (lv := fun i2_2 I3 => [(0, .ref o), (1, .ref a1), (2, .int i2_2)]) (st := fun i2_2 I3 => []) (Im := fun i2_2 I3 => I3) (r := fun i2_2 I3 => r) (fun X4 hX4 i2_2 I3 => ?_) (0 : Int32) I1
  refine v_iload_n (pc := 10) h dX4_takes_10 2 rfl rfl ?_
  refine v_aload_n (pc := 11) h dX4_takes_11 0 rfl rfl ?_
  refine v_geti (pc := 12) h dX4_takes_12 fX4_16 rfl h_o.1 ?_
  refine v_icmp_ge (pc := 15) (t := 53) h dX4_takes_15 rfl (fun _ => ?_) (fun _ => ?_)
  · exact v_vret (pc := 53) h hr dX4_takes_53
  · refine v_iconst (pc := 18) h dX4_takes_18 (v := 0) rfl ?_
    refine v_istore_n (pc := 19) h dX4_takes_19 rfl (by decide) (lv' := [(3, .int (0 : Int32)), (0, .ref o), (1, .ref a1), (2, .int i2_2)]) rfl ?_
    refine v_sub [1, 2, 3, 0] rfl ?_
    refine L2.run (lv := fun i3_5 I6 => [(0, .ref o), (1, .ref a1), (2, .int i2_2), (3, .int i3_5)]) (st := fun i3_5 I6 => []) (Im := fun i3_5 I6 => I6) (r := fun i3_5 I6 => r) (fun X7 hX7 i3_5 I6 => ?_) (0 : Int32) I3
    refine v_iload_n (pc := 20) h dX4_takes_20 3 rfl rfl ?_
    refine v_iconst (pc := 21) h dX4_takes_21 (v := 3) rfl ?_
    refine v_icmp_ge (pc := 22) (t := 47) h dX4_takes_22 rfl (fun _ => ?_) (fun _ => ?_)
    · refine v_iinc (pc := 47) h dX4_takes_47 2 rfl (w := (i2_2 + (1 : Int32))) rfl (by decide) (lv' := [(2, .int (i2_2 + (1 : Int32))), (0, .ref o), (1, .ref a1), (3, .int i3_5)]) rfl ?_
      refine v_goto (pc := 50) (t := 10) h dX4_takes_50 rfl ?_
      refine v_sub [1, 2, 0] rfl ?_
      exact hX4 (i2_2 + (1 : Int32)) I6
    · refine v_aload_n (pc := 25) h dX4_takes_25 0 rfl rfl ?_
      refine v_getp (pc := 26) h dX4_takes_26 fX4_11 rfl h_o.1 h_o.2.1 ?_
      refine v_iload_n (pc := 29) h dX4_takes_29 2 rfl rfl ?_
      refine v_aaldk (pc := 30) h dX4_takes_30 (t := 5) h_o.2.2.1 rfl rfl h_o.2.2.2.1 (fun hin => (h_o.2.2.2.2 _ (vp_lt hin)).1) (fun h8 => ?_)
      refine v_iload_n (pc := 31) h dX4_takes_31 3 rfl rfl ?_
      refine v_aload_n (pc := 32) h dX4_takes_32 1 rfl rfl ?_
      refine v_getp (pc := 33) h dX4_takes_33 fX4_11 rfl h_a1.1 h_a1.2.1 ?_
      refine v_iload_n (pc := 36) h dX4_takes_36 2 rfl rfl ?_
      refine v_aaldk (pc := 37) h dX4_takes_37 (t := 5) h_a1.2.2.1 rfl rfl h_a1.2.2.2.1 (fun hin => (h_a1.2.2.2.2 _ (vp_lt hin)).1) (fun h9 => ?_)
      refine v_iload_n (pc := 38) h dX4_takes_38 3 rfl rfl ?_
      refine v_iald (pc := 39) h dX4_takes_39 (h_a1.2.2.2.2 _ (vp_lt h9)).2.1 (h_a1.2.2.2.2 _ (vp_lt h9)).2.2 ?_
      refine v_iast (pc := 40) h dX4_takes_40 (h_o.2.2.2.2 _ (vp_lt h8)).2.1 (h_o.2.2.2.2 _ (vp_lt h8)).2.2 ?_
      refine v_nmI (fun I10 => ?_)
      refine v_iinc (pc := 41) h dX4_takes_41 3 rfl (w := (i3_5 + (1 : Int32))) rfl (by decide) (lv' := [(3, .int (i3_5 + (1 : Int32))), (0, .ref o), (1, .ref a1), (2, .int i2_2)]) rfl ?_
      refine v_goto (pc := 44) (t := 20) h dX4_takes_44 rfl ?_
      refine v_sub [1, 2, 3, 0] rfl ?_
      exact hX7 (i3_5 + (1 : Int32)) I10
set_option maxHeartbeats 4000000 in
theorem tX1_takes {g : Gl}  (o : Nat) (a1 : Nat) (I : MI) (r : Rh) (h_o : WkS o r) (h_a1 : WkS a1 r) : CtW g yX1_takes cX1_takes 4 6 0 0 [.ref o, .ref a1] I r (pX1_takes o a1 I r) := by
  refine CtW.mk (lv := [(0, .ref o), (1, .ref a1)]) (by decide) (Nat.le_of_ble_eq_true rfl) rfl (fun x Q h hr hnm => ?_)
  unfold pX1_takes
  refine v_aload_n (pc := 0) h dX1_takes_0 0 rfl rfl ?_
  refine v_aload_n (pc := 1) h dX1_takes_1 1 rfl rfl ?_
  refine v_callW (pc := 2) h dX1_takes_2 kX1_125 rfl (WkS.c h_o) (tX1_thinks o a1 I r h_o h_a1) (by decide) rfl rfl (Nat.le_of_ble_eq_true rfl) ⟨Nat.zero_le _, Nat.zero_le _⟩ (fun I1 s2 => ?_)
  refine v_and (fun h3 => ?_)
  refine v_and (fun h4 => ?_)
  refine v_iconst (pc := 5) h dX1_takes_5 (v := 0) rfl ?_
  refine v_istore_n (pc := 6) h dX1_takes_6 rfl (by decide) (lv' := [(2, .int (0 : Int32)), (0, .ref o), (1, .ref a1)]) rfl ?_
  refine v_sub [1, 2, 0] rfl ?_
  refine L2.run (lv := fun i2_5 I6 => [(0, .ref o), (1, .ref a1), (2, .int i2_5)]) (st := fun i2_5 I6 => []) (Im := fun i2_5 I6 => I6) (r := fun i2_5 I6 => s2) (fun X7 hX7 i2_5 I6 => ?_) (0 : Int32) I1
  refine v_iload_n (pc := 7) h dX1_takes_7 2 rfl rfl ?_
  refine v_aload_n (pc := 8) h dX1_takes_8 0 rfl rfl ?_
  refine v_geti (pc := 9) h dX1_takes_9 fX1_109 rfl (WkS.c h3) ?_
  refine v_icmp_ge (pc := 12) (t := 50) h dX1_takes_12 rfl (fun _ => ?_) (fun _ => ?_)
  · refine v_iconst (pc := 50) h dX1_takes_50 (v := 0) rfl ?_
    refine v_istore_n (pc := 51) h dX1_takes_51 rfl (by decide) (lv' := [(2, .int (0 : Int32)), (0, .ref o), (1, .ref a1)]) rfl ?_
    refine v_sub [1, 2, 0] rfl ?_
    refine L2.run (lv := fun i2_8 I9 => [(0, .ref o), (1, .ref a1), (2, .int i2_8)]) (st := fun i2_8 I9 => []) (Im := fun i2_8 I9 => I9) (r := fun i2_8 I9 => s2) (fun X10 hX10 i2_8 I9 => ?_) (0 : Int32) I6
    refine v_iload_n (pc := 52) h dX1_takes_52 2 rfl rfl ?_
    refine v_aload_n (pc := 53) h dX1_takes_53 0 rfl rfl ?_
    refine v_getp (pc := 54) h dX1_takes_54 fX1_28 rfl (WkS.c h3) (WkS.has h3).1 ?_
    refine v_alen (pc := 57) h dX1_takes_57 (t := 0) (WkS.has h3).2.1 rfl (WkS.has h3).2.2 ?_
    refine v_icmp_ge (pc := 58) (t := 79) h dX1_takes_58 rfl (fun _ => ?_) (fun _ => ?_)
    · refine v_aload_n (pc := 79) h dX1_takes_79 0 rfl rfl ?_
      refine v_getp (pc := 80) h dX1_takes_80 fX1_41 rfl (WkS.c h3) (WkS.blows h3).1 ?_
      refine v_aload_n (pc := 83) h dX1_takes_83 1 rfl rfl ?_
      refine v_getp (pc := 84) h dX1_takes_84 fX1_41 rfl (WkS.c h4) (WkS.blows h4).1 ?_
      refine v_callV (pc := 87) h dX1_takes_87 kX1_128 rfl (WkS.blows h3).2.1 (tX4_takes (o + 181) 8 (a1 + 181) 8 I9 s2 (WkS.blows h3).2 (WkS.blows h4).2) (by decide) rfl rfl (Nat.le_of_ble_eq_true rfl) ⟨Nat.zero_le _, Nat.zero_le _⟩ (fun I11 => ?_)
      refine v_aload_n (pc := 90) h dX1_takes_90 0 rfl rfl ?_
      refine v_getp (pc := 91) h dX1_takes_91 fX1_45 rfl (WkS.c h3) (WkS.owed h3).1 ?_
      refine v_aload_n (pc := 94) h dX1_takes_94 1 rfl rfl ?_
      refine v_getp (pc := 95) h dX1_takes_95 fX1_45 rfl (WkS.c h4) (WkS.owed h4).1 ?_
      refine v_callV (pc := 98) h dX1_takes_98 kX1_128 rfl (WkS.owed h3).2.1 (tX4_takes (o + 191) 16 (a1 + 191) 16 I11 s2 (WkS.owed h3).2 (WkS.owed h4).2) (by decide) rfl rfl (Nat.le_of_ble_eq_true rfl) ⟨Nat.zero_le _, Nat.zero_le _⟩ (fun I12 => ?_)
      refine v_aload_n (pc := 101) h dX1_takes_101 0 rfl rfl ?_
      refine v_getp (pc := 102) h dX1_takes_102 fX1_48 rfl (WkS.c h3) (WkS.word h3).1 ?_
      refine v_aload_n (pc := 105) h dX1_takes_105 1 rfl rfl ?_
      refine v_getp (pc := 106) h dX1_takes_106 fX1_48 rfl (WkS.c h4) (WkS.word h4).1 ?_
      refine v_callV (pc := 109) h dX1_takes_109 kX1_128 rfl (WkS.word h3).2.1 (tX4_takes (o + 209) 8 (a1 + 209) 8 I12 s2 (WkS.word h3).2 (WkS.word h4).2) (by decide) rfl rfl (Nat.le_of_ble_eq_true rfl) ⟨Nat.zero_le _, Nat.zero_le _⟩ (fun I13 => ?_)
      refine v_aload_n (pc := 112) h dX1_takes_112 0 rfl rfl ?_
      refine v_getp (pc := 113) h dX1_takes_113 fX1_51 rfl (WkS.c h3) (WkS.answers h3).1 ?_
      refine v_aload_n (pc := 116) h dX1_takes_116 1 rfl rfl ?_
      refine v_getp (pc := 117) h dX1_takes_117 fX1_51 rfl (WkS.c h4) (WkS.answers h4).1 ?_
      refine v_callV (pc := 120) h dX1_takes_120 kX1_128 rfl (WkS.answers h3).2.1 (tX4_takes (o + 219) 12 (a1 + 219) 12 I13 s2 (WkS.answers h3).2 (WkS.answers h4).2) (by decide) rfl rfl (Nat.le_of_ble_eq_true rfl) ⟨Nat.zero_le _, Nat.zero_le _⟩ (fun I14 => ?_)
      refine v_aload_n (pc := 123) h dX1_takes_123 0 rfl rfl ?_
      refine v_getp (pc := 124) h dX1_takes_124 fX1_54 rfl (WkS.c h3) (WkS.faces h3).1 ?_
      refine v_aload_n (pc := 127) h dX1_takes_127 1 rfl rfl ?_
      refine v_getp (pc := 128) h dX1_takes_128 fX1_54 rfl (WkS.c h4) (WkS.faces h4).1 ?_
      refine v_callV (pc := 131) h dX1_takes_131 kX1_128 rfl (WkS.faces h3).2.1 (tX4_takes (o + 233) 8 (a1 + 233) 8 I14 s2 (WkS.faces h3).2 (WkS.faces h4).2) (by decide) rfl rfl (Nat.le_of_ble_eq_true rfl) ⟨Nat.zero_le _, Nat.zero_le _⟩ (fun I15 => ?_)
      exact v_vretW (pc := 134) h hr ⟨Nat.zero_le _, Nat.zero_le _⟩ dX1_takes_134
    · refine v_aload_n (pc := 61) h dX1_takes_61 0 rfl rfl ?_
      refine v_getp (pc := 62) h dX1_takes_62 fX1_28 rfl (WkS.c h3) (WkS.has h3).1 ?_
      refine v_iload_n (pc := 65) h dX1_takes_65 2 rfl rfl ?_
      refine v_aload_n (pc := 66) h dX1_takes_66 1 rfl rfl ?_
      refine v_getp (pc := 67) h dX1_takes_67 fX1_28 rfl (WkS.c h4) (WkS.has h4).1 ?_
      refine v_iload_n (pc := 70) h dX1_takes_70 2 rfl rfl ?_
      refine v_iald (pc := 71) h dX1_takes_71 (WkS.has h4).2.1 (WkS.has h4).2.2 ?_
      refine v_iast (pc := 72) h dX1_takes_72 (WkS.has h3).2.1 (WkS.has h3).2.2 ?_
      refine v_nmI (fun I16 => ?_)
      refine v_iinc (pc := 73) h dX1_takes_73 2 rfl (w := (i2_8 + (1 : Int32))) rfl (by decide) (lv' := [(2, .int (i2_8 + (1 : Int32))), (0, .ref o), (1, .ref a1)]) rfl ?_
      refine v_goto (pc := 76) (t := 52) h dX1_takes_76 rfl ?_
      refine v_sub [1, 2, 0] rfl ?_
      exact hX10 (i2_8 + (1 : Int32)) I16
  · refine v_iconst (pc := 15) h dX1_takes_15 (v := 0) rfl ?_
    refine v_istore_n (pc := 16) h dX1_takes_16 rfl (by decide) (lv' := [(3, .int (0 : Int32)), (0, .ref o), (1, .ref a1), (2, .int i2_5)]) rfl ?_
    refine v_sub [1, 2, 3, 0] rfl ?_
    refine L2.run (lv := fun i3_17 I18 => [(0, .ref o), (1, .ref a1), (2, .int i2_5), (3, .int i3_17)]) (st := fun i3_17 I18 => []) (Im := fun i3_17 I18 => I18) (r := fun i3_17 I18 => s2) (fun X19 hX19 i3_17 I18 => ?_) (0 : Int32) I6
    refine v_iload_n (pc := 17) h dX1_takes_17 3 rfl rfl ?_
    refine v_iconst (pc := 18) h dX1_takes_18 (v := 4) rfl ?_
    refine v_icmp_ge (pc := 19) (t := 44) h dX1_takes_19 rfl (fun _ => ?_) (fun _ => ?_)
    · refine v_iinc (pc := 44) h dX1_takes_44 2 rfl (w := (i2_5 + (1 : Int32))) rfl (by decide) (lv' := [(2, .int (i2_5 + (1 : Int32))), (0, .ref o), (1, .ref a1), (3, .int i3_17)]) rfl ?_
      refine v_goto (pc := 47) (t := 7) h dX1_takes_47 rfl ?_
      refine v_sub [1, 2, 0] rfl ?_
      exact hX7 (i2_5 + (1 : Int32)) I18
    · refine v_aload_n (pc := 22) h dX1_takes_22 0 rfl rfl ?_
      refine v_getp (pc := 23) h dX1_takes_23 fX1_33 rfl (WkS.c h3) (WkS.book h3).1 ?_
      refine v_iload_n (pc := 26) h dX1_takes_26 2 rfl rfl ?_
      refine v_aaldk (pc := 27) h dX1_takes_27 (t := 5) (WkS.book h3).2.1 rfl rfl (WkS.book h3).2.2.1 (fun hin => ((WkS.book h3).2.2.2 _ (vp_lt hin)).1) (fun h20 => ?_)
      refine v_iload_n (pc := 28) h dX1_takes_28 3 rfl rfl ?_
      refine v_aload_n (pc := 29) h dX1_takes_29 1 rfl rfl ?_
      refine v_getp (pc := 30) h dX1_takes_30 fX1_33 rfl (WkS.c h4) (WkS.book h4).1 ?_
      refine v_iload_n (pc := 33) h dX1_takes_33 2 rfl rfl ?_
      refine v_aaldk (pc := 34) h dX1_takes_34 (t := 5) (WkS.book h4).2.1 rfl rfl (WkS.book h4).2.2.1 (fun hin => ((WkS.book h4).2.2.2 _ (vp_lt hin)).1) (fun h21 => ?_)
      refine v_iload_n (pc := 35) h dX1_takes_35 3 rfl rfl ?_
      refine v_iald (pc := 36) h dX1_takes_36 ((WkS.book h4).2.2.2 _ (vp_lt h21)).2.1 ((WkS.book h4).2.2.2 _ (vp_lt h21)).2.2 ?_
      refine v_iast (pc := 37) h dX1_takes_37 ((WkS.book h3).2.2.2 _ (vp_lt h20)).2.1 ((WkS.book h3).2.2.2 _ (vp_lt h20)).2.2 ?_
      refine v_nmI (fun I22 => ?_)
      refine v_iinc (pc := 38) h dX1_takes_38 3 rfl (w := (i3_17 + (1 : Int32))) rfl (by decide) (lv' := [(3, .int (i3_17 + (1 : Int32))), (0, .ref o), (1, .ref a1), (2, .int i2_5)]) rfl ?_
      refine v_goto (pc := 41) (t := 17) h dX1_takes_41 rfl ?_
      refine v_sub [1, 2, 3, 0] rfl ?_
      exact hX19 (i3_17 + (1 : Int32)) I22
set_option maxHeartbeats 4000000 in
theorem tX0_image {g : Gl}  (o : Nat) (a1 : Int32) (I : MI) (r : Rh) (h_o : KpS o r) : CtR g yX0_image cX0_image 2 (some .boolean) 7 0 0 [.ref o, .int a1] I r (pX0_image o a1 I r) := by
  refine CtR.mk (lv := [(0, .ref o), (1, .int a1)]) (by decide) (Nat.le_of_ble_eq_true rfl) rfl (fun x Q h hr => ?_)
  unfold pX0_image
  refine v_iload_n (pc := 0) h dX0_image_0 1 rfl rfl ?_
  refine v_jn0 (V g x 2 (0, 0) 13 [(0, .ref o), (1, .int a1)] [] I r) (fun k1 hk1 => ?_) ?_
  · refine v_if_ne (pc := 1) (t := 13) h dX0_image_1 rfl (fun _ => ?_) (fun _ => ?_)
    · exact hk1
    · refine v_aload_n (pc := 4) h dX0_image_4 0 rfl rfl ?_
      refine v_geti (pc := 5) h dX0_image_5 fX0_357 rfl (KpS.c h_o) ?_
      refine v_if_ne (pc := 8) (t := 13) h dX0_image_8 rfl (fun _ => ?_) (fun _ => ?_)
      · exact hk1
      · refine v_iconst (pc := 11) h dX0_image_11 (v := 0) rfl ?_
        exact v_zretR (pc := 12) h hr (Or.inl rfl) ⟨Nat.zero_le _, Nat.zero_le _⟩ dX0_image_12
  · refine v_iload_n (pc := 13) h dX0_image_13 1 rfl rfl ?_
    refine v_jn2 (fun I2 r3 => V g x 2 (0, 0) 42 [(0, .ref o), (1, .int a1)] [] I2 r3) (fun k4 hk4 => ?_) (fun I2 r3 => ?_)
    · refine v_if_eq (pc := 14) (t := 31) h dX0_image_14 rfl (fun _ => ?_) (fun _ => ?_)
      · refine v_aload_n (pc := 31) h dX0_image_31 0 rfl rfl ?_
        refine v_getp (pc := 32) h dX0_image_32 fX0_20 rfl (KpS.c h_o) (KpS.walk h_o).1 ?_
        refine v_aload_n (pc := 35) h dX0_image_35 0 rfl rfl ?_
        refine v_getp (pc := 36) h dX0_image_36 fX0_24 rfl (KpS.c h_o) (KpS.kept h_o).1 ?_
        refine v_callW (pc := 39) h dX0_image_39 kX0_360 rfl (WkS.c (KpS.walk h_o).2) (tX1_takes (o + 2) (o + 261) I r (KpS.walk h_o).2 (KpS.kept h_o).2) (by decide) rfl rfl (Nat.le_of_ble_eq_true rfl) ⟨Nat.zero_le _, Nat.zero_le _⟩ (fun I6 s7 => ?_)
        refine v_and (fun h8 => ?_)
        exact hk4 I6 s7
      · refine v_aload_n (pc := 17) h dX0_image_17 0 rfl rfl ?_
        refine v_getp (pc := 18) h dX0_image_18 fX0_24 rfl (KpS.c h_o) (KpS.kept h_o).1 ?_
        refine v_aload_n (pc := 21) h dX0_image_21 0 rfl rfl ?_
        refine v_getp (pc := 22) h dX0_image_22 fX0_20 rfl (KpS.c h_o) (KpS.walk h_o).1 ?_
        refine v_callW (pc := 25) h dX0_image_25 kX0_360 rfl (WkS.c (KpS.kept h_o).2) (tX1_takes (o + 261) (o + 2) I r (KpS.kept h_o).2 (KpS.walk h_o).2) (by decide) rfl rfl (Nat.le_of_ble_eq_true rfl) ⟨Nat.zero_le _, Nat.zero_le _⟩ (fun I9 s10 => ?_)
        refine v_and (fun h11 => ?_)
        refine v_goto (pc := 28) (t := 42) h dX0_image_28 rfl ?_
        exact hk4 I9 s10
    · refine v_and (fun h5 => ?_)
      refine v_iload_n (pc := 42) h dX0_image_42 1 rfl rfl ?_
      refine v_jn1 (fun I12 => V g x 2 (0, 0) 51 [(0, .ref o)] [] I12 r3) (fun k13 hk13 => ?_) (fun I12 => ?_)
      · refine v_if_ne (pc := 43) (t := 51) h dX0_image_43 rfl (fun _ => ?_) (fun _ => ?_)
        · refine v_sub [0] rfl ?_
          exact hk13 I2
        · refine v_aload_n (pc := 46) h dX0_image_46 0 rfl rfl ?_
          refine v_callI (pc := 47) h dX0_image_47 kX0_105 rfl (KpS.c h5) (tX0_forgets o I2 r3 h5) (by decide) rfl rfl (Nat.le_of_ble_eq_true rfl) ⟨Nat.zero_le _, Nat.zero_le _⟩ (fun r14 I15 => ?_)
          refine v_pop (pc := 50) h dX0_image_50 rfl ?_
          refine v_sub [0] rfl ?_
          exact hk13 I15
      · refine v_aload_n (pc := 51) h dX0_image_51 0 rfl rfl ?_
        refine v_iconst (pc := 52) h dX0_image_52 (v := 1) rfl ?_
        refine v_putz (pc := 53) h dX0_image_53 fX0_357 rfl (Or.inr rfl) (KpS.c h5) ?_
        refine v_nmI (fun I16 => ?_)
        refine v_iconst (pc := 56) h dX0_image_56 (v := 1) rfl ?_
        exact v_zretR (pc := 57) h hr (Or.inr rfl) ⟨Nat.zero_le _, Nat.zero_le _⟩ dX0_image_57
set_option maxHeartbeats 4000000 in
theorem tX0_look {g : Gl}  (o : Nat) (a1 : Int32) (I : MI) (r : Rh) (h_o : KpS o r) : CtP g yX0_look cX0_look 2 (some .int) 2 [.ref o, .int a1] I r (pX0_look o a1 I r) := by
  refine CtP.mk (lv := [(0, .ref o), (1, .int a1)]) (by decide) (Nat.le_of_ble_eq_true rfl) rfl (fun x Q h hr => ?_)
  unfold pX0_look
  refine v_iload_n (pc := 0) h dX0_look_0 1 rfl rfl ?_
  refine v_ite (fun hc1 => ?_) (fun hc1 => ?_)
  · refine v_tswi (pc := 1) (t := 80) h dX0_look_1 (k := 0) hc1 (by decide) (by decide) rfl rfl ?_
    refine v_aload_n (pc := 80) h dX0_look_80 0 rfl rfl ?_
    refine v_getp (pc := 81) h dX0_look_81 fX0_20 rfl (KpS.c h_o) (KpS.walk h_o).1 ?_
    refine v_geti (pc := 84) h dX0_look_84 fX0_151 rfl (WkS.c (KpS.walk h_o).2) ?_
    exact v_iretP (pc := 87) h hr dX0_look_87
  · refine v_ite (fun hc2 => ?_) (fun hc2 => ?_)
    · refine v_tswi (pc := 1) (t := 88) h dX0_look_1 (k := 1) hc2 (by decide) (by decide) rfl rfl ?_
      refine v_aload_n (pc := 88) h dX0_look_88 0 rfl rfl ?_
      refine v_getp (pc := 89) h dX0_look_89 fX0_20 rfl (KpS.c h_o) (KpS.walk h_o).1 ?_
      refine v_getp (pc := 92) h dX0_look_92 fX0_195 rfl (WkS.c (KpS.walk h_o).2) (WkS.bag (KpS.walk h_o).2).1 ?_
      refine v_geti (pc := 95) h dX0_look_95 fX0_199 rfl (WkS.bag (KpS.walk h_o).2).2.1 ?_
      exact v_iretP (pc := 98) h hr dX0_look_98
    · refine v_ite (fun hc3 => ?_) (fun hc3 => ?_)
      · refine v_tswi (pc := 1) (t := 99) h dX0_look_1 (k := 2) hc3 (by decide) (by decide) rfl rfl ?_
        refine v_aload_n (pc := 99) h dX0_look_99 0 rfl rfl ?_
        refine v_getp (pc := 100) h dX0_look_100 fX0_20 rfl (KpS.c h_o) (KpS.walk h_o).1 ?_
        refine v_geti (pc := 103) h dX0_look_103 fX0_186 rfl (WkS.c (KpS.walk h_o).2) ?_
        exact v_iretP (pc := 106) h hr dX0_look_106
      · refine v_ite (fun hc4 => ?_) (fun hc4 => ?_)
        · refine v_tswi (pc := 1) (t := 107) h dX0_look_1 (k := 3) hc4 (by decide) (by decide) rfl rfl ?_
          refine v_aload_n (pc := 107) h dX0_look_107 0 rfl rfl ?_
          refine v_getp (pc := 108) h dX0_look_108 fX0_20 rfl (KpS.c h_o) (KpS.walk h_o).1 ?_
          refine v_geti (pc := 111) h dX0_look_111 fX0_189 rfl (WkS.c (KpS.walk h_o).2) ?_
          exact v_iretP (pc := 114) h hr dX0_look_114
        · refine v_ite (fun hc5 => ?_) (fun hc5 => ?_)
          · refine v_tswi (pc := 1) (t := 115) h dX0_look_1 (k := 4) hc5 (by decide) (by decide) rfl rfl ?_
            refine v_aload_n (pc := 115) h dX0_look_115 0 rfl rfl ?_
            refine v_getp (pc := 116) h dX0_look_116 fX0_20 rfl (KpS.c h_o) (KpS.walk h_o).1 ?_
            refine v_geti (pc := 119) h dX0_look_119 fX0_363 rfl (WkS.c (KpS.walk h_o).2) ?_
            exact v_iretP (pc := 122) h hr dX0_look_122
          · refine v_ite (fun hc6 => ?_) (fun hc6 => ?_)
            · refine v_tswi (pc := 1) (t := 123) h dX0_look_1 (k := 5) hc6 (by decide) (by decide) rfl rfl ?_
              refine v_aload_n (pc := 123) h dX0_look_123 0 rfl rfl ?_
              refine v_getp (pc := 124) h dX0_look_124 fX0_20 rfl (KpS.c h_o) (KpS.walk h_o).1 ?_
              refine v_geti (pc := 127) h dX0_look_127 fX0_275 rfl (WkS.c (KpS.walk h_o).2) ?_
              exact v_iretP (pc := 130) h hr dX0_look_130
            · refine v_ite (fun hc7 => ?_) (fun hc7 => ?_)
              · refine v_tswi (pc := 1) (t := 131) h dX0_look_1 (k := 6) hc7 (by decide) (by decide) rfl rfl ?_
                refine v_aload_n (pc := 131) h dX0_look_131 0 rfl rfl ?_
                refine v_getp (pc := 132) h dX0_look_132 fX0_20 rfl (KpS.c h_o) (KpS.walk h_o).1 ?_
                refine v_geti (pc := 135) h dX0_look_135 fX0_366 rfl (WkS.c (KpS.walk h_o).2) ?_
                exact v_iretP (pc := 138) h hr dX0_look_138
              · refine v_ite (fun hc8 => ?_) (fun hc8 => ?_)
                · refine v_tswi (pc := 1) (t := 139) h dX0_look_1 (k := 7) hc8 (by decide) (by decide) rfl rfl ?_
                  refine v_aload_n (pc := 139) h dX0_look_139 0 rfl rfl ?_
                  refine v_getp (pc := 140) h dX0_look_140 fX0_20 rfl (KpS.c h_o) (KpS.walk h_o).1 ?_
                  refine v_geti (pc := 143) h dX0_look_143 fX0_218 rfl (WkS.c (KpS.walk h_o).2) ?_
                  exact v_iretP (pc := 146) h hr dX0_look_146
                · refine v_ite (fun hc9 => ?_) (fun hc9 => ?_)
                  · refine v_tswi (pc := 1) (t := 147) h dX0_look_1 (k := 8) hc9 (by decide) (by decide) rfl rfl ?_
                    refine v_aload_n (pc := 147) h dX0_look_147 0 rfl rfl ?_
                    refine v_getp (pc := 148) h dX0_look_148 fX0_20 rfl (KpS.c h_o) (KpS.walk h_o).1 ?_
                    refine v_geti (pc := 151) h dX0_look_151 fX0_221 rfl (WkS.c (KpS.walk h_o).2) ?_
                    exact v_iretP (pc := 154) h hr dX0_look_154
                  · refine v_ite (fun hc10 => ?_) (fun hc10 => ?_)
                    · refine v_tswi (pc := 1) (t := 155) h dX0_look_1 (k := 9) hc10 (by decide) (by decide) rfl rfl ?_
                      refine v_aload_n (pc := 155) h dX0_look_155 0 rfl rfl ?_
                      refine v_getp (pc := 156) h dX0_look_156 fX0_20 rfl (KpS.c h_o) (KpS.walk h_o).1 ?_
                      refine v_geti (pc := 159) h dX0_look_159 fX0_266 rfl (WkS.c (KpS.walk h_o).2) ?_
                      exact v_iretP (pc := 162) h hr dX0_look_162
                    · refine v_ite (fun hc11 => ?_) (fun hc11 => ?_)
                      · refine v_tswi (pc := 1) (t := 163) h dX0_look_1 (k := 10) hc11 (by decide) (by decide) rfl rfl ?_
                        refine v_aload_n (pc := 163) h dX0_look_163 0 rfl rfl ?_
                        refine v_getp (pc := 164) h dX0_look_164 fX0_20 rfl (KpS.c h_o) (KpS.walk h_o).1 ?_
                        refine v_geti (pc := 167) h dX0_look_167 fX0_158 rfl (WkS.c (KpS.walk h_o).2) ?_
                        exact v_iretP (pc := 170) h hr dX0_look_170
                      · refine v_ite (fun hc12 => ?_) (fun hc12 => ?_)
                        · refine v_tswi (pc := 1) (t := 171) h dX0_look_1 (k := 11) hc12 (by decide) (by decide) rfl rfl ?_
                          refine v_aload_n (pc := 171) h dX0_look_171 0 rfl rfl ?_
                          refine v_getp (pc := 172) h dX0_look_172 fX0_20 rfl (KpS.c h_o) (KpS.walk h_o).1 ?_
                          refine v_getx (pc := 175) h dX0_look_175 fX0_91 rfl (WkS.c (KpS.walk h_o).2) (fun b13 h14 => ?_)
                          refine v_and (fun h15 => ?_)
                          refine v_callP (pc := 178) h dX0_look_178 kX0_94 rfl h15 (tJ2_size b13 I r h15) (by decide) rfl rfl (Nat.le_of_ble_eq_true rfl) ⟨Nat.zero_le _, Nat.zero_le _⟩ (fun r16 => ?_)
                          exact v_iretP (pc := 181) h hr dX0_look_181
                        · refine v_ite (fun hc17 => ?_) (fun hc17 => ?_)
                          · refine v_tswi (pc := 1) (t := 182) h dX0_look_1 (k := 12) hc17 (by decide) (by decide) rfl rfl ?_
                            refine v_aload_n (pc := 182) h dX0_look_182 0 rfl rfl ?_
                            refine v_getp (pc := 183) h dX0_look_183 fX0_20 rfl (KpS.c h_o) (KpS.walk h_o).1 ?_
                            refine v_getx (pc := 186) h dX0_look_186 fX0_103 rfl (WkS.c (KpS.walk h_o).2) (fun b18 h19 => ?_)
                            refine v_and (fun h20 => ?_)
                            refine v_callP (pc := 189) h dX0_look_189 kX0_94 rfl h20 (tJ2_size b18 I r h20) (by decide) rfl rfl (Nat.le_of_ble_eq_true rfl) ⟨Nat.zero_le _, Nat.zero_le _⟩ (fun r21 => ?_)
                            exact v_iretP (pc := 192) h hr dX0_look_192
                          · refine v_ite (fun hc22 => ?_) (fun hc22 => ?_)
                            · refine v_tswi (pc := 1) (t := 193) h dX0_look_1 (k := 13) hc22 (by decide) (by decide) rfl rfl ?_
                              refine v_aload_n (pc := 193) h dX0_look_193 0 rfl rfl ?_
                              refine v_getp (pc := 194) h dX0_look_194 fX0_20 rfl (KpS.c h_o) (KpS.walk h_o).1 ?_
                              refine v_geti (pc := 197) h dX0_look_197 fX0_118 rfl (WkS.c (KpS.walk h_o).2) ?_
                              exact v_iretP (pc := 200) h hr dX0_look_200
                            · refine v_ite (fun hc23 => ?_) (fun hc23 => ?_)
                              · refine v_tswi (pc := 1) (t := 201) h dX0_look_1 (k := 14) hc23 (by decide) (by decide) rfl rfl ?_
                                refine v_aload_n (pc := 201) h dX0_look_201 0 rfl rfl ?_
                                refine v_getp (pc := 202) h dX0_look_202 fX0_20 rfl (KpS.c h_o) (KpS.walk h_o).1 ?_
                                refine v_geti (pc := 205) h dX0_look_205 fX0_127 rfl (WkS.c (KpS.walk h_o).2) ?_
                                exact v_iretP (pc := 208) h hr dX0_look_208
                              · refine v_ite (fun hc24 => ?_) (fun hc24 => ?_)
                                · refine v_tswi (pc := 1) (t := 209) h dX0_look_1 (k := 15) hc24 (by decide) (by decide) rfl rfl ?_
                                  refine v_aload_n (pc := 209) h dX0_look_209 0 rfl rfl ?_
                                  refine v_geti (pc := 210) h dX0_look_210 fX0_144 rfl (KpS.c h_o) ?_
                                  exact v_iretP (pc := 213) h hr dX0_look_213
                                · refine v_tswd (pc := 1) (t := 214) h dX0_look_1 (by have e0 := lv_neT hc1 (show (0 : Int32).toInt = 0 from rfl); have e1 := lv_neT hc2 (show (1 : Int32).toInt = 1 from rfl); have e2 := lv_neT hc3 (show (2 : Int32).toInt = 2 from rfl); have e3 := lv_neT hc4 (show (3 : Int32).toInt = 3 from rfl); have e4 := lv_neT hc5 (show (4 : Int32).toInt = 4 from rfl); have e5 := lv_neT hc6 (show (5 : Int32).toInt = 5 from rfl); have e6 := lv_neT hc7 (show (6 : Int32).toInt = 6 from rfl); have e7 := lv_neT hc8 (show (7 : Int32).toInt = 7 from rfl); have e8 := lv_neT hc9 (show (8 : Int32).toInt = 8 from rfl); have e9 := lv_neT hc10 (show (9 : Int32).toInt = 9 from rfl); have e10 := lv_neT hc11 (show (10 : Int32).toInt = 10 from rfl); have e11 := lv_neT hc12 (show (11 : Int32).toInt = 11 from rfl); have e12 := lv_neT hc17 (show (12 : Int32).toInt = 12 from rfl); have e13 := lv_neT hc22 (show (13 : Int32).toInt = 13 from rfl); have e14 := lv_neT hc23 (show (14 : Int32).toInt = 14 from rfl); have e15 := lv_neT hc24 (show (15 : Int32).toInt = 15 from rfl); omega) rfl ?_
                                  refine v_iconst (pc := 214) h dX0_look_214 (v := (-1)) rfl ?_
                                  exact v_iretP (pc := 215) h hr dX0_look_215
set_option maxHeartbeats 4000000 in
theorem tX1_fact {g : Gl}  (o : Nat) (a1 : Int32) (I : MI) (r : Rh) (h_o : WkS o r) : CtP g yX1_fact cX1_fact 3 (some .int) 1 [.ref o, .int a1] I r (pX1_fact o a1 I r) := by
  refine CtP.mk (lv := [(0, .ref o), (1, .int a1)]) (by decide) (Nat.le_of_ble_eq_true rfl) rfl (fun x Q h hr => ?_)
  unfold pX1_fact
  refine v_aload_n (pc := 0) h dX1_fact_0 0 rfl rfl ?_
  refine v_getp (pc := 1) h dX1_fact_1 fX1_11 rfl (WkS.c h_o) (WkS.dr h_o).1 ?_
  refine v_aload_n (pc := 4) h dX1_fact_4 0 rfl rfl ?_
  refine v_getx (pc := 5) h dX1_fact_5 fX1_137 rfl (WkS.c h_o) (fun b1 h2 => ?_)
  refine v_and (fun h3 => ?_)
  refine v_geti (pc := 8) h dX1_fact_8 fX1_141 rfl h3 ?_
  refine v_aaldk (pc := 11) h dX1_fact_11 (t := 2) (WkS.dr h_o).2.1 rfl rfl (WkS.dr h_o).2.2 (fun hin => ((WkS.doors h_o) _ (vp_lt hin)).1) (fun h4 => ?_)
  refine v_astore_n (pc := 12) h dX1_fact_12 rfl (by decide) (lv' := [(2, .ref (o + 247 + (I b1 1).toNatClampNeg)), (0, .ref o), (1, .int a1)]) rfl ?_
  refine v_iload_n (pc := 13) h dX1_fact_13 2 rfl rfl ?_
  refine v_ite (fun hc5 => ?_) (fun hc5 => ?_)
  · refine v_tswi (pc := 14) (t := 68) h dX1_fact_14 (k := 0) hc5 (by decide) (by decide) rfl rfl ?_
    refine v_aload_n (pc := 68) h dX1_fact_68 1 rfl rfl ?_
    refine v_getx (pc := 69) h dX1_fact_69 fX1_137 rfl (WkS.c h_o) (fun b6 h7 => ?_)
    refine v_and (fun h8 => ?_)
    refine v_geti (pc := 72) h dX1_fact_72 fX1_145 rfl h8 ?_
    exact v_iretP (pc := 75) h hr dX1_fact_75
  · refine v_ite (fun hc9 => ?_) (fun hc9 => ?_)
    · refine v_tswi (pc := 14) (t := 76) h dX1_fact_14 (k := 1) hc9 (by decide) (by decide) rfl rfl ?_
      refine v_aload_n (pc := 76) h dX1_fact_76 1 rfl rfl ?_
      refine v_getx (pc := 77) h dX1_fact_77 fX1_137 rfl (WkS.c h_o) (fun b10 h11 => ?_)
      refine v_and (fun h12 => ?_)
      refine v_geti (pc := 80) h dX1_fact_80 fX1_148 rfl h12 ?_
      exact v_iretP (pc := 83) h hr dX1_fact_83
    · refine v_ite (fun hc13 => ?_) (fun hc13 => ?_)
      · refine v_tswi (pc := 14) (t := 84) h dX1_fact_14 (k := 2) hc13 (by decide) (by decide) rfl rfl ?_
        refine v_aload_n (pc := 84) h dX1_fact_84 1 rfl rfl ?_
        refine v_getx (pc := 85) h dX1_fact_85 fX1_137 rfl (WkS.c h_o) (fun b14 h15 => ?_)
        refine v_and (fun h16 => ?_)
        refine v_geti (pc := 88) h dX1_fact_88 fX1_151 rfl h16 ?_
        exact v_iretP (pc := 91) h hr dX1_fact_91
      · refine v_ite (fun hc17 => ?_) (fun hc17 => ?_)
        · refine v_tswi (pc := 14) (t := 92) h dX1_fact_14 (k := 3) hc17 (by decide) (by decide) rfl rfl ?_
          refine v_aload_n (pc := 92) h dX1_fact_92 0 rfl rfl ?_
          refine v_geti (pc := 93) h dX1_fact_93 fX1_154 rfl ((WkS.doors h_o) _ (vp_lt h4)).2 ?_
          exact v_iretP (pc := 96) h hr dX1_fact_96
        · refine v_ite (fun hc18 => ?_) (fun hc18 => ?_)
          · refine v_tswi (pc := 14) (t := 97) h dX1_fact_14 (k := 4) hc18 (by decide) (by decide) rfl rfl ?_
            refine v_aload_n (pc := 97) h dX1_fact_97 0 rfl rfl ?_
            refine v_geti (pc := 98) h dX1_fact_98 fX1_157 rfl ((WkS.doors h_o) _ (vp_lt h4)).2 ?_
            exact v_iretP (pc := 101) h hr dX1_fact_101
          · refine v_ite (fun hc19 => ?_) (fun hc19 => ?_)
            · refine v_tswi (pc := 14) (t := 102) h dX1_fact_14 (k := 5) hc19 (by decide) (by decide) rfl rfl ?_
              refine v_aload_n (pc := 102) h dX1_fact_102 0 rfl rfl ?_
              refine v_geti (pc := 103) h dX1_fact_103 fX1_160 rfl ((WkS.doors h_o) _ (vp_lt h4)).2 ?_
              exact v_iretP (pc := 106) h hr dX1_fact_106
            · refine v_ite (fun hc20 => ?_) (fun hc20 => ?_)
              · refine v_tswi (pc := 14) (t := 107) h dX1_fact_14 (k := 6) hc20 (by decide) (by decide) rfl rfl ?_
                refine v_aload_n (pc := 107) h dX1_fact_107 1 rfl rfl ?_
                refine v_geti (pc := 108) h dX1_fact_108 fX1_73 rfl (WkS.c h_o) ?_
                exact v_iretP (pc := 111) h hr dX1_fact_111
              · refine v_ite (fun hc21 => ?_) (fun hc21 => ?_)
                · refine v_tswi (pc := 14) (t := 112) h dX1_fact_14 (k := 7) hc21 (by decide) (by decide) rfl rfl ?_
                  refine v_aload_n (pc := 112) h dX1_fact_112 1 rfl rfl ?_
                  refine v_geti (pc := 113) h dX1_fact_113 fX1_85 rfl (WkS.c h_o) ?_
                  exact v_iretP (pc := 116) h hr dX1_fact_116
                · refine v_ite (fun hc22 => ?_) (fun hc22 => ?_)
                  · refine v_tswi (pc := 14) (t := 117) h dX1_fact_14 (k := 8) hc22 (by decide) (by decide) rfl rfl ?_
                    refine v_aload_n (pc := 117) h dX1_fact_117 1 rfl rfl ?_
                    refine v_geti (pc := 118) h dX1_fact_118 fX1_94 rfl (WkS.c h_o) ?_
                    exact v_iretP (pc := 121) h hr dX1_fact_121
                  · refine v_ite (fun hc23 => ?_) (fun hc23 => ?_)
                    · refine v_tswi (pc := 14) (t := 122) h dX1_fact_14 (k := 9) hc23 (by decide) (by decide) rfl rfl ?_
                      refine v_aload_n (pc := 122) h dX1_fact_122 1 rfl rfl ?_
                      refine v_geti (pc := 123) h dX1_fact_123 fX1_97 rfl (WkS.c h_o) ?_
                      exact v_iretP (pc := 126) h hr dX1_fact_126
                    · refine v_tswd (pc := 14) (t := 127) h dX1_fact_14 (by have e0 := lv_neT hc5 (show (0 : Int32).toInt = 0 from rfl); have e1 := lv_neT hc9 (show (1 : Int32).toInt = 1 from rfl); have e2 := lv_neT hc13 (show (2 : Int32).toInt = 2 from rfl); have e3 := lv_neT hc17 (show (3 : Int32).toInt = 3 from rfl); have e4 := lv_neT hc18 (show (4 : Int32).toInt = 4 from rfl); have e5 := lv_neT hc19 (show (5 : Int32).toInt = 5 from rfl); have e6 := lv_neT hc20 (show (6 : Int32).toInt = 6 from rfl); have e7 := lv_neT hc21 (show (7 : Int32).toInt = 7 from rfl); have e8 := lv_neT hc22 (show (8 : Int32).toInt = 8 from rfl); have e9 := lv_neT hc23 (show (9 : Int32).toInt = 9 from rfl); omega) rfl ?_
                      refine v_aload_n (pc := 127) h dX1_fact_127 1 rfl rfl ?_
                      refine v_geti (pc := 128) h dX1_fact_128 fX1_100 rfl (WkS.c h_o) ?_
                      exact v_iretP (pc := 131) h hr dX1_fact_131
