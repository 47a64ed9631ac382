theorem d_M_draw_0 : decode Y_M_draw.2.1 0 = .ok (.aload_n 0, 1) := by decide +kernel
theorem d_M_draw_1 : decode Y_M_draw.2.1 1 = .ok (.aload_n 0, 1) := by decide +kernel
theorem d_M_draw_2 : decode Y_M_draw.2.1 2 = .ok (.getfield 239, 3) := by decide +kernel
theorem d_M_draw_5 : decode Y_M_draw.2.1 5 = .ok (.ldc2_w 243, 3) := by decide +kernel
theorem d_M_draw_8 : decode Y_M_draw.2.1 8 = .ok (.lmul, 1) := by decide +kernel
theorem d_M_draw_9 : decode Y_M_draw.2.1 9 = .ok (.ldc2_w 245, 3) := by decide +kernel
theorem d_M_draw_12 : decode Y_M_draw.2.1 12 = .ok (.ladd, 1) := by decide +kernel
theorem d_M_draw_13 : decode Y_M_draw.2.1 13 = .ok (.putfield 239, 3) := by decide +kernel
theorem d_M_draw_16 : decode Y_M_draw.2.1 16 = .ok (.aload_n 0, 1) := by decide +kernel
theorem d_M_draw_17 : decode Y_M_draw.2.1 17 = .ok (.getfield 239, 3) := by decide +kernel
theorem d_M_draw_20 : decode Y_M_draw.2.1 20 = .ok (.bipush 33, 2) := by decide +kernel
theorem d_M_draw_22 : decode Y_M_draw.2.1 22 = .ok (.lushr, 1) := by decide +kernel
theorem d_M_draw_23 : decode Y_M_draw.2.1 23 = .ok (.iload_n 1, 1) := by decide +kernel
theorem d_M_draw_24 : decode Y_M_draw.2.1 24 = .ok (.i2l, 1) := by decide +kernel
theorem d_M_draw_25 : decode Y_M_draw.2.1 25 = .ok (.lrem, 1) := by decide +kernel
theorem d_M_draw_26 : decode Y_M_draw.2.1 26 = .ok (.l2i, 1) := by decide +kernel
theorem d_M_draw_27 : decode Y_M_draw.2.1 27 = .ok (.ireturn, 1) := by decide +kernel
theorem m_M_draw_0 {l : Launch} {D : DD} {d kc ks : Nat} {h : Hp} {Φ : Option AV → Hp → Prop} {x1 : Int} (hM : MS h) (v : (∀ h1 : Hp, h1 = sL h 100 38 (((xL h 100 38) * (6364136223846793005 : Int64)) + (1442695040888963407 : Int64)) → (¬ ((Int32.ofInt x1).toInt64) = 0 ∧ (Φ (some (vi (((((xL h1 100 38).toUInt64 >>> ((Int32.ofInt (33 : Int)).toInt64.toUInt64 &&& Int64.toUInt64 63)).toInt64) - (((xL h1 100 38).toUInt64 >>> ((Int32.ofInt (33 : Int)).toInt64.toUInt64 &&& Int64.toUInt64 63)).toInt64) / ((Int32.ofInt x1).toInt64) * ((Int32.ofInt x1).toInt64)).toInt32.toInt))) h1)))) : Ev l D Y_M_draw d kc ks 0 [some (vr 100), some (vi x1)] [] h Φ := by
  refine a_aload_n d_M_draw_0 rfl ?_
  refine a_aload_n d_M_draw_1 rfl ?_
  refine a_getJ fl_M_239 d_M_draw_2 (beq_iff_eq.mpr (KNM_100 hM)) ?_
  refine a_ldc2 d_M_draw_5 lc_M_243 ?_
  refine a_lmul d_M_draw_8 ?_
  refine a_ldc2 d_M_draw_9 lc_M_245 ?_
  refine a_ladd d_M_draw_12 ?_
  have v := v _ rfl
  refine a_putJ fl_M_239 d_M_draw_13 (beq_iff_eq.mpr (KNM_100 hM)) (by decide) ?_
  refine a_aload_n d_M_draw_16 rfl ?_
  refine a_getJ fl_M_239 d_M_draw_17 (beq_iff_eq.mpr (KNM_100 hM)) ?_
  refine a_bipush d_M_draw_20 ⟨by decide, by decide⟩ (by decide) ?_
  refine a_lushr d_M_draw_22 ?_
  refine a_iload_n d_M_draw_23 rfl ?_
  refine a_i2l d_M_draw_24 ?_
  obtain ⟨c3, v⟩ := v
  refine a_lrem d_M_draw_25 c3 ?_
  refine a_l2i d_M_draw_26 ?_
  exact a_iret d_M_draw_27 rfl v
theorem d_M_push_0 : decode Y_M_push.2.1 0 = .ok (.aload_n 0, 1) := by decide +kernel
theorem d_M_push_1 : decode Y_M_push.2.1 1 = .ok (.getfield 92, 3) := by decide +kernel
theorem d_M_push_4 : decode Y_M_push.2.1 4 = .ok (.aload_n 0, 1) := by decide +kernel
theorem d_M_push_5 : decode Y_M_push.2.1 5 = .ok (.getfield 247, 3) := by decide +kernel
theorem d_M_push_8 : decode Y_M_push.2.1 8 = .ok (.iload_n 1, 1) := by decide +kernel
theorem d_M_push_9 : decode Y_M_push.2.1 9 = .ok (.iastore, 1) := by decide +kernel
theorem d_M_push_10 : decode Y_M_push.2.1 10 = .ok (.aload_n 0, 1) := by decide +kernel
theorem d_M_push_11 : decode Y_M_push.2.1 11 = .ok (.getfield 95, 3) := by decide +kernel
theorem d_M_push_14 : decode Y_M_push.2.1 14 = .ok (.aload_n 0, 1) := by decide +kernel
theorem d_M_push_15 : decode Y_M_push.2.1 15 = .ok (.getfield 247, 3) := by decide +kernel
theorem d_M_push_18 : decode Y_M_push.2.1 18 = .ok (.iload_n 2, 1) := by decide +kernel
theorem d_M_push_19 : decode Y_M_push.2.1 19 = .ok (.iastore, 1) := by decide +kernel
theorem d_M_push_20 : decode Y_M_push.2.1 20 = .ok (.aload_n 0, 1) := by decide +kernel
theorem d_M_push_21 : decode Y_M_push.2.1 21 = .ok (.getfield 98, 3) := by decide +kernel
theorem d_M_push_24 : decode Y_M_push.2.1 24 = .ok (.aload_n 0, 1) := by decide +kernel
theorem d_M_push_25 : decode Y_M_push.2.1 25 = .ok (.getfield 247, 3) := by decide +kernel
theorem d_M_push_28 : decode Y_M_push.2.1 28 = .ok (.iconst 0, 1) := by decide +kernel
theorem d_M_push_29 : decode Y_M_push.2.1 29 = .ok (.iastore, 1) := by decide +kernel
theorem d_M_push_30 : decode Y_M_push.2.1 30 = .ok (.aload_n 0, 1) := by decide +kernel
theorem d_M_push_31 : decode Y_M_push.2.1 31 = .ok (.getfield 101, 3) := by decide +kernel
theorem d_M_push_34 : decode Y_M_push.2.1 34 = .ok (.aload_n 0, 1) := by decide +kernel
theorem d_M_push_35 : decode Y_M_push.2.1 35 = .ok (.getfield 247, 3) := by decide +kernel
theorem d_M_push_38 : decode Y_M_push.2.1 38 = .ok (.iload_n 3, 1) := by decide +kernel
theorem d_M_push_39 : decode Y_M_push.2.1 39 = .ok (.iastore, 1) := by decide +kernel
theorem d_M_push_40 : decode Y_M_push.2.1 40 = .ok (.aload_n 0, 1) := by decide +kernel
theorem d_M_push_41 : decode Y_M_push.2.1 41 = .ok (.dup, 1) := by decide +kernel
theorem d_M_push_42 : decode Y_M_push.2.1 42 = .ok (.getfield 247, 3) := by decide +kernel
theorem d_M_push_45 : decode Y_M_push.2.1 45 = .ok (.iconst 1, 1) := by decide +kernel
theorem d_M_push_46 : decode Y_M_push.2.1 46 = .ok (.iadd, 1) := by decide +kernel
theorem d_M_push_47 : decode Y_M_push.2.1 47 = .ok (.putfield 247, 3) := by decide +kernel
theorem d_M_push_50 : decode Y_M_push.2.1 50 = .ok (.return_, 1) := by decide +kernel
theorem m_M_push_0 {l : Launch} {D : DD} {d kc ks : Nat} {h : Hp} {Φ : Option AV → Hp → Prop} {x1 : Int} {x2 : Int} {x3 : Int} (hM : MS h) (v : 0 ≤ xI h 100 37 ∧ xI h 100 37 < 1000 ∧ (∀ h1 : Hp, h1 = sI h 134 (xI h 100 37).toNat x1 → (0 ≤ xI h1 100 37 ∧ xI h1 100 37 < 1000 ∧ (∀ h2 : Hp, h2 = sI h1 135 (xI h1 100 37).toNat x2 → (0 ≤ xI h2 100 37 ∧ xI h2 100 37 < 1000 ∧ (∀ h3 : Hp, h3 = sI h2 136 (xI h2 100 37).toNat (0 : Int) → (0 ≤ xI h3 100 37 ∧ xI h3 100 37 < 1000 ∧ (∀ h4 : Hp, h4 = sI h3 137 (xI h3 100 37).toNat x3 → (∀ h5 : Hp, h5 = sI h4 100 37 (wr ((xI h4 100 37) + (1 : Int))) → (Φ none h5)))))))))) : Ev l D Y_M_push d kc ks 0 [some (vr 100), some (vi x1), some (vi x2), some (vi x3)] [] h Φ := by
  refine a_aload_n d_M_push_0 rfl ?_
  refine a_getAe fl_M_92 d_M_push_1 (beq_iff_eq.mpr (KNM_100 hM)) (KRM_100_33 hM) ?_
  refine a_aload_n d_M_push_4 rfl ?_
  refine a_getI fl_M_247 d_M_push_5 (beq_iff_eq.mpr (KNM_100 hM)) ?_
  refine a_iload_n d_M_push_8 rfl ?_
  obtain ⟨c3, c4, v⟩ := v
  have v := v _ rfl
  refine a_iast d_M_push_9 (KNM_134 hM) (by decide) c3 (lt_len (NNM_134 hM) c4) ?_
  refine a_aload_n d_M_push_10 rfl ?_
  refine a_getAe fl_M_95 d_M_push_11 (beq_iff_eq.mpr (KNM_100 hM)) (KRM_100_34 hM) ?_
  refine a_aload_n d_M_push_14 rfl ?_
  refine a_getI fl_M_247 d_M_push_15 (beq_iff_eq.mpr (KNM_100 hM)) ?_
  refine a_iload_n d_M_push_18 rfl ?_
  obtain ⟨c7, c8, v⟩ := v
  have v := v _ rfl
  refine a_iast d_M_push_19 (KNM_135 hM) (by decide) c7 (lt_len (NNM_135 hM) c8) ?_
  refine a_aload_n d_M_push_20 rfl ?_
  refine a_getAe fl_M_98 d_M_push_21 (beq_iff_eq.mpr (KNM_100 hM)) (KRM_100_35 hM) ?_
  refine a_aload_n d_M_push_24 rfl ?_
  refine a_getI fl_M_247 d_M_push_25 (beq_iff_eq.mpr (KNM_100 hM)) ?_
  refine a_iconst d_M_push_28 ⟨by decide, by decide⟩ ?_
  obtain ⟨c11, c12, v⟩ := v
  have v := v _ rfl
  refine a_iast d_M_push_29 (KNM_136 hM) (by decide) c11 (lt_len (NNM_136 hM) c12) ?_
  refine a_aload_n d_M_push_30 rfl ?_
  refine a_getAe fl_M_101 d_M_push_31 (beq_iff_eq.mpr (KNM_100 hM)) (KRM_100_36 hM) ?_
  refine a_aload_n d_M_push_34 rfl ?_
  refine a_getI fl_M_247 d_M_push_35 (beq_iff_eq.mpr (KNM_100 hM)) ?_
  refine a_iload_n d_M_push_38 rfl ?_
  obtain ⟨c15, c16, v⟩ := v
  have v := v _ rfl
  refine a_iast d_M_push_39 (KNM_137 hM) (by decide) c15 (lt_len (NNM_137 hM) c16) ?_
  refine a_aload_n d_M_push_40 rfl ?_
  refine a_dup d_M_push_41 rfl ?_
  refine a_getI fl_M_247 d_M_push_42 (beq_iff_eq.mpr (KNM_100 hM)) ?_
  refine a_iconst d_M_push_45 ⟨by decide, by decide⟩ ?_
  refine a_iadd d_M_push_46 ?_
  have v := v _ rfl
  refine a_putI fl_M_247 d_M_push_47 (beq_iff_eq.mpr (KNM_100 hM)) (by decide) ?_
  exact a_vret d_M_push_50 rfl v
theorem d_M_runNow_0 : decode Y_M_runNow.2.1 0 = .ok (.aload_n 0, 1) := by decide +kernel
theorem d_M_runNow_1 : decode Y_M_runNow.2.1 1 = .ok (.aload_n 0, 1) := by decide +kernel
theorem d_M_runNow_2 : decode Y_M_runNow.2.1 2 = .ok (.getfield 250, 3) := by decide +kernel
theorem d_M_runNow_5 : decode Y_M_runNow.2.1 5 = .ok (.ifCond .eq 35, 3) := by decide +kernel
theorem d_M_runNow_8 : decode Y_M_runNow.2.1 8 = .ok (.aload_n 0, 1) := by decide +kernel
theorem d_M_runNow_9 : decode Y_M_runNow.2.1 9 = .ok (.getfield 50, 3) := by decide +kernel
theorem d_M_runNow_12 : decode Y_M_runNow.2.1 12 = .ok (.iload_n 1, 1) := by decide +kernel
theorem d_M_runNow_13 : decode Y_M_runNow.2.1 13 = .ok (.baload, 1) := by decide +kernel
theorem d_M_runNow_14 : decode Y_M_runNow.2.1 14 = .ok (.ifCond .eq 26, 3) := by decide +kernel
theorem d_M_runNow_17 : decode Y_M_runNow.2.1 17 = .ok (.iload_n 2, 1) := by decide +kernel
theorem d_M_runNow_18 : decode Y_M_runNow.2.1 18 = .ok (.iconst (-1), 1) := by decide +kernel
theorem d_M_runNow_19 : decode Y_M_runNow.2.1 19 = .ok (.if_icmp .eq 17, 3) := by decide +kernel
theorem d_M_runNow_22 : decode Y_M_runNow.2.1 22 = .ok (.aload_n 0, 1) := by decide +kernel
theorem d_M_runNow_23 : decode Y_M_runNow.2.1 23 = .ok (.getfield 62, 3) := by decide +kernel
theorem d_M_runNow_26 : decode Y_M_runNow.2.1 26 = .ok (.bipush 48, 2) := by decide +kernel
theorem d_M_runNow_28 : decode Y_M_runNow.2.1 28 = .ok (.iload_n 2, 1) := by decide +kernel
theorem d_M_runNow_29 : decode Y_M_runNow.2.1 29 = .ok (.imul, 1) := by decide +kernel
theorem d_M_runNow_30 : decode Y_M_runNow.2.1 30 = .ok (.iload_n 1, 1) := by decide +kernel
theorem d_M_runNow_31 : decode Y_M_runNow.2.1 31 = .ok (.iadd, 1) := by decide +kernel
theorem d_M_runNow_32 : decode Y_M_runNow.2.1 32 = .ok (.baload, 1) := by decide +kernel
theorem d_M_runNow_33 : decode Y_M_runNow.2.1 33 = .ok (.ifCond .eq 7, 3) := by decide +kernel
theorem d_M_runNow_36 : decode Y_M_runNow.2.1 36 = .ok (.iconst 1, 1) := by decide +kernel
theorem d_M_runNow_37 : decode Y_M_runNow.2.1 37 = .ok (.goto 4, 3) := by decide +kernel
theorem d_M_runNow_40 : decode Y_M_runNow.2.1 40 = .ok (.iconst 0, 1) := by decide +kernel
theorem d_M_runNow_41 : decode Y_M_runNow.2.1 41 = .ok (.putfield 250, 3) := by decide +kernel
theorem d_M_runNow_44 : decode Y_M_runNow.2.1 44 = .ok (.aload_n 0, 1) := by decide +kernel
theorem d_M_runNow_45 : decode Y_M_runNow.2.1 45 = .ok (.getfield 253, 3) := by decide +kernel
theorem d_M_runNow_48 : decode Y_M_runNow.2.1 48 = .ok (.bipush 12, 2) := by decide +kernel
theorem d_M_runNow_50 : decode Y_M_runNow.2.1 50 = .ok (.if_icmp .eq 13, 3) := by decide +kernel
theorem d_M_runNow_53 : decode Y_M_runNow.2.1 53 = .ok (.aload_n 0, 1) := by decide +kernel
theorem d_M_runNow_54 : decode Y_M_runNow.2.1 54 = .ok (.getfield 256, 3) := by decide +kernel
theorem d_M_runNow_57 : decode Y_M_runNow.2.1 57 = .ok (.sipush 300, 3) := by decide +kernel
theorem d_M_runNow_60 : decode Y_M_runNow.2.1 60 = .ok (.if_icmp .ne 14, 3) := by decide +kernel
theorem d_M_runNow_63 : decode Y_M_runNow.2.1 63 = .ok (.aload_n 0, 1) := by decide +kernel
theorem d_M_runNow_64 : decode Y_M_runNow.2.1 64 = .ok (.dup, 1) := by decide +kernel
theorem d_M_runNow_65 : decode Y_M_runNow.2.1 65 = .ok (.getfield 259, 3) := by decide +kernel
theorem d_M_runNow_68 : decode Y_M_runNow.2.1 68 = .ok (.iconst 1, 1) := by decide +kernel
theorem d_M_runNow_69 : decode Y_M_runNow.2.1 69 = .ok (.iadd, 1) := by decide +kernel
theorem d_M_runNow_70 : decode Y_M_runNow.2.1 70 = .ok (.putfield 259, 3) := by decide +kernel
theorem d_M_runNow_73 : decode Y_M_runNow.2.1 73 = .ok (.return_, 1) := by decide +kernel
theorem d_M_runNow_74 : decode Y_M_runNow.2.1 74 = .ok (.aload_n 0, 1) := by decide +kernel
theorem d_M_runNow_75 : decode Y_M_runNow.2.1 75 = .ok (.dup, 1) := by decide +kernel
theorem d_M_runNow_76 : decode Y_M_runNow.2.1 76 = .ok (.getfield 256, 3) := by decide +kernel
theorem d_M_runNow_79 : decode Y_M_runNow.2.1 79 = .ok (.iconst 1, 1) := by decide +kernel
theorem d_M_runNow_80 : decode Y_M_runNow.2.1 80 = .ok (.iadd, 1) := by decide +kernel
theorem d_M_runNow_81 : decode Y_M_runNow.2.1 81 = .ok (.putfield 256, 3) := by decide +kernel
theorem d_M_runNow_84 : decode Y_M_runNow.2.1 84 = .ok (.aload_n 0, 1) := by decide +kernel
theorem d_M_runNow_85 : decode Y_M_runNow.2.1 85 = .ok (.dup, 1) := by decide +kernel
theorem d_M_runNow_86 : decode Y_M_runNow.2.1 86 = .ok (.getfield 253, 3) := by decide +kernel
theorem d_M_runNow_89 : decode Y_M_runNow.2.1 89 = .ok (.iconst 1, 1) := by decide +kernel
theorem d_M_runNow_90 : decode Y_M_runNow.2.1 90 = .ok (.iadd, 1) := by decide +kernel
theorem d_M_runNow_91 : decode Y_M_runNow.2.1 91 = .ok (.putfield 253, 3) := by decide +kernel
theorem d_M_runNow_94 : decode Y_M_runNow.2.1 94 = .ok (.aload_n 0, 1) := by decide +kernel
theorem d_M_runNow_95 : decode Y_M_runNow.2.1 95 = .ok (.getfield 104, 3) := by decide +kernel
theorem d_M_runNow_98 : decode Y_M_runNow.2.1 98 = .ok (.iload_n 1, 1) := by decide +kernel
theorem d_M_runNow_99 : decode Y_M_runNow.2.1 99 = .ok (.iconst 1, 1) := by decide +kernel
theorem d_M_runNow_100 : decode Y_M_runNow.2.1 100 = .ok (.bastore, 1) := by decide +kernel
theorem d_M_runNow_101 : decode Y_M_runNow.2.1 101 = .ok (.aload_n 0, 1) := by decide +kernel
theorem d_M_runNow_102 : decode Y_M_runNow.2.1 102 = .ok (.iload_n 1, 1) := by decide +kernel
theorem d_M_runNow_103 : decode Y_M_runNow.2.1 103 = .ok (.putfield 262, 3) := by decide +kernel
theorem d_M_runNow_106 : decode Y_M_runNow.2.1 106 = .ok (.aload_n 0, 1) := by decide +kernel
theorem d_M_runNow_107 : decode Y_M_runNow.2.1 107 = .ok (.iconst 0, 1) := by decide +kernel
theorem d_M_runNow_108 : decode Y_M_runNow.2.1 108 = .ok (.iload_n 1, 1) := by decide +kernel
theorem d_M_runNow_109 : decode Y_M_runNow.2.1 109 = .ok (.iconst (-1), 1) := by decide +kernel
theorem d_M_runNow_110 : decode Y_M_runNow.2.1 110 = .ok (.invokevirtual 265, 3) := by decide +kernel
theorem d_M_runNow_113 : decode Y_M_runNow.2.1 113 = .ok (.return_, 1) := by decide +kernel
theorem m_M_runNow_0 {l : Launch} {D : DD} {d kc ks : Nat} {h : Hp} {Φ : Option AV → Hp → Prop} {x1 : Int} {x2 : Int} (hM : MS h) (v : (xI h 100 43 = 0 → (Ev l D Y_M_runNow (d + 1) kc ks 41 [some (vr 100), some (vi x1), some (vi x2)] [vi (0 : Int), vr 100] h Φ)) ∧ (¬ xI h 100 43 = 0 → (0 ≤ x1 ∧ x1 < 48 ∧ ((xI h 119 (x1).toNat = 0 → (Ev l D Y_M_runNow (d + 1) kc ks 41 [some (vr 100), some (vi x1), some (vi x2)] [vi (0 : Int), vr 100] h Φ)) ∧ (¬ xI h 119 (x1).toNat = 0 → ((x2 = (-1 : Int) → (Ev l D Y_M_runNow (d + 1) kc ks 41 [some (vr 100), some (vi x1), some (vi x2)] [vi (1 : Int), vr 100] h Φ)) ∧ (¬ x2 = (-1 : Int) → (0 ≤ wr ((wr ((48 : Int) * x2)) + x1) ∧ wr ((wr ((48 : Int) * x2)) + x1) < 7680 ∧ ((xI h 123 (wr ((wr ((48 : Int) * x2)) + x1)).toNat = 0 → (Ev l D Y_M_runNow (d + 1) kc ks 41 [some (vr 100), some (vi x1), some (vi x2)] [vi (0 : Int), vr 100] h Φ)) ∧ (¬ xI h 123 (wr ((wr ((48 : Int) * x2)) + x1)).toNat = 0 → (Ev l D Y_M_runNow (d + 1) kc ks 41 [some (vr 100), some (vi x1), some (vi x2)] [vi (1 : Int), vr 100] h Φ))))))))))) : Ev l D Y_M_runNow (d + 1) kc ks 0 [some (vr 100), some (vi x1), some (vi x2)] [] h Φ := by
  refine a_aload_n d_M_runNow_0 rfl ?_
  refine a_aload_n d_M_runNow_1 rfl ?_
  refine a_getZ fl_M_250 d_M_runNow_2 (beq_iff_eq.mpr (KNM_100 hM)) ?_
  obtain ⟨vt, vf⟩ := v
  refine a_if_eq (tgt := 40) d_M_runNow_5 (by decide) (fun c => ?_) (fun c => ?_)
  · have v := vt (c); clear vt vf
    refine a_iconst d_M_runNow_40 ⟨by decide, by decide⟩ ?_
    exact v
  · have v := vf (c); clear vt vf
    refine a_aload_n d_M_runNow_8 rfl ?_
    refine a_getAe fl_M_50 d_M_runNow_9 (beq_iff_eq.mpr (KNM_100 hM)) (KRM_100_18 hM) ?_
    refine a_iload_n d_M_runNow_12 rfl ?_
    obtain ⟨c2, c3, v⟩ := v
    refine a_zald d_M_runNow_13 (KNM_119 hM) c2 (lt_len (NNM_119 hM) c3) ?_
    obtain ⟨vt, vf⟩ := v
    refine a_if_eq (tgt := 40) d_M_runNow_14 (by decide) (fun c => ?_) (fun c => ?_)
    · have v := vt (c); clear vt vf
      refine a_iconst d_M_runNow_40 ⟨by decide, by decide⟩ ?_
      exact v
    · have v := vf (c); clear vt vf
      refine a_iload_n d_M_runNow_17 rfl ?_
      refine a_iconst d_M_runNow_18 ⟨by decide, by decide⟩ ?_
      obtain ⟨vt, vf⟩ := v
      refine a_icmp_eq (tgt := 36) d_M_runNow_19 (by decide) (fun c => ?_) (fun c => ?_)
      · have v := vt (c); clear vt vf
        refine a_iconst d_M_runNow_36 ⟨by decide, by decide⟩ ?_
        refine a_goto (tgt := 41) d_M_runNow_37 (by decide) ?_
        exact v
      · have v := vf (c); clear vt vf
        refine a_aload_n d_M_runNow_22 rfl ?_
        refine a_getAe fl_M_62 d_M_runNow_23 (beq_iff_eq.mpr (KNM_100 hM)) (KRM_100_22 hM) ?_
        refine a_bipush d_M_runNow_26 ⟨by decide, by decide⟩ (by decide) ?_
        refine a_iload_n d_M_runNow_28 rfl ?_
        refine a_imul d_M_runNow_29 ?_
        refine a_iload_n d_M_runNow_30 rfl ?_
        refine a_iadd d_M_runNow_31 ?_
        obtain ⟨c5, c6, v⟩ := v
        refine a_zald d_M_runNow_32 (KNM_123 hM) c5 (lt_len (NNM_123 hM) c6) ?_
        obtain ⟨vt, vf⟩ := v
        refine a_if_eq (tgt := 40) d_M_runNow_33 (by decide) (fun c => ?_) (fun c => ?_)
        · have v := vt (c); clear vt vf
          refine a_iconst d_M_runNow_40 ⟨by decide, by decide⟩ ?_
          exact v
        · have v := vf (c); clear vt vf
          refine a_iconst d_M_runNow_36 ⟨by decide, by decide⟩ ?_
          refine a_goto (tgt := 41) d_M_runNow_37 (by decide) ?_
          exact v
theorem m_M_runNow_41 {l : Launch} {D : DD} {d kc ks : Nat} {h : Hp} {Φ : Option AV → Hp → Prop} {x1 : Int} {x2 : Int} {y0 : Int} (hM : MS h) (v : (y0 = 0 ∨ y0 = 1) ∧ (∀ h1 : Hp, h1 = sI h 100 43 y0 → ((xI h1 100 40 = (12 : Int) → (Ev l D Y_M_runNow (d + 1) kc ks 63 [some (vr 100), some (vi x1), some (vi x2)] [] h1 Φ)) ∧ (¬ xI h1 100 40 = (12 : Int) → ((¬ xI h1 100 39 = (300 : Int) → (∀ h2 : Hp, h2 = sI h1 100 39 (wr ((xI h1 100 39) + (1 : Int))) → (∀ h3 : Hp, h3 = sI h2 100 40 (wr ((xI h2 100 40) + (1 : Int))) → (0 ≤ x1 ∧ x1 < 48 ∧ (∀ h4 : Hp, h4 = sI h3 145 (x1).toNat (1 : Int) → (∀ h5 : Hp, h5 = sI h4 100 42 x1 → (Ev l D Y_M_push d 0 0 0 [some (vr 100), some (vi (0 : Int)), some (vi x1), some (vi (-1 : Int))] [] h5 (kv (fun h6 => MS h6 ∧ (Φ none h6)))))))))) ∧ (xI h1 100 39 = (300 : Int) → (Ev l D Y_M_runNow (d + 1) kc ks 63 [some (vr 100), some (vi x1), some (vi x2)] [] h1 Φ))))))) : Ev l D Y_M_runNow (d + 1) kc ks 41 [some (vr 100), some (vi x1), some (vi x2)] [vi y0, vr 100] h Φ := by
  obtain ⟨c3, v⟩ := v
  have v := v _ rfl
  refine a_putZ fl_M_250 d_M_runNow_41 (beq_iff_eq.mpr (KNM_100 hM)) (by decide) c3 ?_
  refine a_aload_n d_M_runNow_44 rfl ?_
  refine a_getI fl_M_253 d_M_runNow_45 (beq_iff_eq.mpr (KNM_100 hM)) ?_
  refine a_bipush d_M_runNow_48 ⟨by decide, by decide⟩ (by decide) ?_
  obtain ⟨vt, vf⟩ := v
  refine a_icmp_eq (tgt := 63) d_M_runNow_50 (by decide) (fun c => ?_) (fun c => ?_)
  · have v := vt (c); clear vt vf
    exact v
  · have v := vf (c); clear vt vf
    refine a_aload_n d_M_runNow_53 rfl ?_
    refine a_getI fl_M_256 d_M_runNow_54 (beq_iff_eq.mpr (KNM_100 hM)) ?_
    refine a_sipush d_M_runNow_57 ⟨by decide, by decide⟩ (by decide) ?_
    obtain ⟨vt, vf⟩ := v
    refine a_icmp_ne (tgt := 74) d_M_runNow_60 (by decide) (fun c => ?_) (fun c => ?_)
    · have v := vt (c); clear vt vf
      refine a_aload_n d_M_runNow_74 rfl ?_
      refine a_dup d_M_runNow_75 rfl ?_
      refine a_getI fl_M_256 d_M_runNow_76 (beq_iff_eq.mpr (KNM_100 hM)) ?_
      refine a_iconst d_M_runNow_79 ⟨by decide, by decide⟩ ?_
      refine a_iadd d_M_runNow_80 ?_
      have v := v _ rfl
      refine a_putI fl_M_256 d_M_runNow_81 (beq_iff_eq.mpr (KNM_100 hM)) (by decide) ?_
      refine a_aload_n d_M_runNow_84 rfl ?_
      refine a_dup d_M_runNow_85 rfl ?_
      refine a_getI fl_M_253 d_M_runNow_86 (beq_iff_eq.mpr (KNM_100 hM)) ?_
      refine a_iconst d_M_runNow_89 ⟨by decide, by decide⟩ ?_
      refine a_iadd d_M_runNow_90 ?_
      have v := v _ rfl
      refine a_putI fl_M_253 d_M_runNow_91 (beq_iff_eq.mpr (KNM_100 hM)) (by decide) ?_
      refine a_aload_n d_M_runNow_94 rfl ?_
      refine a_getAe fl_M_104 d_M_runNow_95 (beq_iff_eq.mpr (KNM_100 hM)) (KRM_100_44 hM) ?_
      refine a_iload_n d_M_runNow_98 rfl ?_
      refine a_iconst d_M_runNow_99 ⟨by decide, by decide⟩ ?_
      obtain ⟨c10, c11, v⟩ := v
      have v := v _ rfl
      refine a_zast d_M_runNow_100 (KNM_145 hM) (by decide) c10 (lt_len (NNM_145 hM) c11) (Or.inr rfl) ?_
      refine a_aload_n d_M_runNow_101 rfl ?_
      refine a_iload_n d_M_runNow_102 rfl ?_
      have v := v _ rfl
      refine a_putI fl_M_262 d_M_runNow_103 (beq_iff_eq.mpr (KNM_100 hM)) (by decide) ?_
      refine a_aload_n d_M_runNow_106 rfl ?_
      refine a_iconst d_M_runNow_107 ⟨by decide, by decide⟩ ?_
      refine a_iload_n d_M_runNow_108 rfl ?_
      refine a_iconst d_M_runNow_109 ⟨by decide, by decide⟩ ?_
      refine b_callV (as := [vi (0 : Int), vi x1, vi (-1 : Int)]) (b := 100) (st := []) (kd := 12) (kc1 := 0) (ks1 := 0) (kc2 := kc) (ks2 := ks) (d' := d) ml_M_265 rfl d_M_runNow_110 rfl rfl (Nat.le_of_ble_eq_true rfl) (by decide) rfl (Nat.le_refl _) (by omega) (by omega) (KNM_100 hM) ?_
      refine Ev.mono v ?_
      intro u h6 v
      obtain ⟨rfl, v⟩ := kv_el v
      obtain ⟨hm1, v⟩ := v
      change Ev l D Y_M_runNow _ _ _ 113 [some (vr 100), some (vi x1), some (vi x2)] [] _ _
      exact a_vret d_M_runNow_113 rfl v
    · have v := vf (Classical.not_not.mp c); clear vt vf
      exact v
theorem m_M_runNow_63 {l : Launch} {D : DD} {d kc ks : Nat} {h : Hp} {Φ : Option AV → Hp → Prop} {x1 : Int} {x2 : Int} (hM : MS h) (v : (∀ h1 : Hp, h1 = sI h 100 41 (wr ((xI h 100 41) + (1 : Int))) → (Φ none h1))) : Ev l D Y_M_runNow (d + 1) kc ks 63 [some (vr 100), some (vi x1), some (vi x2)] [] h Φ := by
  refine a_aload_n d_M_runNow_63 rfl ?_
  refine a_dup d_M_runNow_64 rfl ?_
  refine a_getI fl_M_259 d_M_runNow_65 (beq_iff_eq.mpr (KNM_100 hM)) ?_
  refine a_iconst d_M_runNow_68 ⟨by decide, by decide⟩ ?_
  refine a_iadd d_M_runNow_69 ?_
  have v := v _ rfl
  refine a_putI fl_M_259 d_M_runNow_70 (beq_iff_eq.mpr (KNM_100 hM)) (by decide) ?_
  exact a_vret d_M_runNow_73 rfl v
theorem d_M_beginNow_0 : decode Y_M_beginNow.2.1 0 = .ok (.aload_n 0, 1) := by decide +kernel
theorem d_M_beginNow_1 : decode Y_M_beginNow.2.1 1 = .ok (.getfield 107, 3) := by decide +kernel
theorem d_M_beginNow_4 : decode Y_M_beginNow.2.1 4 = .ok (.iload_n 1, 1) := by decide +kernel
theorem d_M_beginNow_5 : decode Y_M_beginNow.2.1 5 = .ok (.baload, 1) := by decide +kernel
theorem d_M_beginNow_6 : decode Y_M_beginNow.2.1 6 = .ok (.ifCond .eq 4, 3) := by decide +kernel
theorem d_M_beginNow_9 : decode Y_M_beginNow.2.1 9 = .ok (.return_, 1) := by decide +kernel
theorem d_M_beginNow_10 : decode Y_M_beginNow.2.1 10 = .ok (.aload_n 0, 1) := by decide +kernel
theorem d_M_beginNow_11 : decode Y_M_beginNow.2.1 11 = .ok (.getfield 107, 3) := by decide +kernel
theorem d_M_beginNow_14 : decode Y_M_beginNow.2.1 14 = .ok (.iload_n 1, 1) := by decide +kernel
theorem d_M_beginNow_15 : decode Y_M_beginNow.2.1 15 = .ok (.iconst 1, 1) := by decide +kernel
theorem d_M_beginNow_16 : decode Y_M_beginNow.2.1 16 = .ok (.bastore, 1) := by decide +kernel
theorem d_M_beginNow_17 : decode Y_M_beginNow.2.1 17 = .ok (.aload_n 0, 1) := by decide +kernel
theorem d_M_beginNow_18 : decode Y_M_beginNow.2.1 18 = .ok (.aload_n 0, 1) := by decide +kernel
theorem d_M_beginNow_19 : decode Y_M_beginNow.2.1 19 = .ok (.getfield 250, 3) := by decide +kernel
theorem d_M_beginNow_22 : decode Y_M_beginNow.2.1 22 = .ok (.ifCond .eq 16, 3) := by decide +kernel
theorem d_M_beginNow_25 : decode Y_M_beginNow.2.1 25 = .ok (.aload_n 0, 1) := by decide +kernel
theorem d_M_beginNow_26 : decode Y_M_beginNow.2.1 26 = .ok (.getfield 56, 3) := by decide +kernel
theorem d_M_beginNow_29 : decode Y_M_beginNow.2.1 29 = .ok (.iload_n 1, 1) := by decide +kernel
theorem d_M_beginNow_30 : decode Y_M_beginNow.2.1 30 = .ok (.baload, 1) := by decide +kernel
theorem d_M_beginNow_31 : decode Y_M_beginNow.2.1 31 = .ok (.ifCond .eq 7, 3) := by decide +kernel
theorem d_M_beginNow_34 : decode Y_M_beginNow.2.1 34 = .ok (.iconst 1, 1) := by decide +kernel
theorem d_M_beginNow_35 : decode Y_M_beginNow.2.1 35 = .ok (.goto 4, 3) := by decide +kernel
theorem d_M_beginNow_38 : decode Y_M_beginNow.2.1 38 = .ok (.iconst 0, 1) := by decide +kernel
theorem d_M_beginNow_39 : decode Y_M_beginNow.2.1 39 = .ok (.putfield 250, 3) := by decide +kernel
theorem d_M_beginNow_42 : decode Y_M_beginNow.2.1 42 = .ok (.aload_n 0, 1) := by decide +kernel
theorem d_M_beginNow_43 : decode Y_M_beginNow.2.1 43 = .ok (.iload_n 1, 1) := by decide +kernel
theorem d_M_beginNow_44 : decode Y_M_beginNow.2.1 44 = .ok (.iconst (-1), 1) := by decide +kernel
theorem d_M_beginNow_45 : decode Y_M_beginNow.2.1 45 = .ok (.invokevirtual 145, 3) := by decide +kernel
theorem d_M_beginNow_48 : decode Y_M_beginNow.2.1 48 = .ok (.istore_n 3, 1) := by decide +kernel
theorem d_M_beginNow_49 : decode Y_M_beginNow.2.1 49 = .ok (.iload_n 3, 1) := by decide +kernel
theorem d_M_beginNow_50 : decode Y_M_beginNow.2.1 50 = .ok (.iconst (-1), 1) := by decide +kernel
theorem d_M_beginNow_51 : decode Y_M_beginNow.2.1 51 = .ok (.if_icmp .eq 10, 3) := by decide +kernel
theorem d_M_beginNow_54 : decode Y_M_beginNow.2.1 54 = .ok (.aload_n 0, 1) := by decide +kernel
theorem d_M_beginNow_55 : decode Y_M_beginNow.2.1 55 = .ok (.iconst 1, 1) := by decide +kernel
theorem d_M_beginNow_56 : decode Y_M_beginNow.2.1 56 = .ok (.iload_n 3, 1) := by decide +kernel
theorem d_M_beginNow_57 : decode Y_M_beginNow.2.1 57 = .ok (.iload_n 2, 1) := by decide +kernel
theorem d_M_beginNow_58 : decode Y_M_beginNow.2.1 58 = .ok (.invokevirtual 265, 3) := by decide +kernel
theorem d_M_beginNow_61 : decode Y_M_beginNow.2.1 61 = .ok (.aload_n 0, 1) := by decide +kernel
theorem d_M_beginNow_62 : decode Y_M_beginNow.2.1 62 = .ok (.getfield 7, 3) := by decide +kernel
theorem d_M_beginNow_65 : decode Y_M_beginNow.2.1 65 = .ok (.iload_n 1, 1) := by decide +kernel
theorem d_M_beginNow_66 : decode Y_M_beginNow.2.1 66 = .ok (.iaload, 1) := by decide +kernel
theorem d_M_beginNow_67 : decode Y_M_beginNow.2.1 67 = .ok (.iconst 2, 1) := by decide +kernel
theorem d_M_beginNow_68 : decode Y_M_beginNow.2.1 68 = .ok (.if_icmp .eq 82, 3) := by decide +kernel
theorem d_M_beginNow_71 : decode Y_M_beginNow.2.1 71 = .ok (.aload_n 0, 1) := by decide +kernel
theorem d_M_beginNow_72 : decode Y_M_beginNow.2.1 72 = .ok (.getfield 123, 3) := by decide +kernel
theorem d_M_beginNow_75 : decode Y_M_beginNow.2.1 75 = .ok (.iconst 1, 1) := by decide +kernel
theorem d_M_beginNow_76 : decode Y_M_beginNow.2.1 76 = .ok (.isub, 1) := by decide +kernel
theorem d_M_beginNow_77 : decode Y_M_beginNow.2.1 77 = .ok (.istore 4, 2) := by decide +kernel
theorem d_M_beginNow_79 : decode Y_M_beginNow.2.1 79 = .ok (.iload 4, 2) := by decide +kernel
theorem d_M_beginNow_81 : decode Y_M_beginNow.2.1 81 = .ok (.ifCond .lt 47, 3) := by decide +kernel
theorem d_M_beginNow_84 : decode Y_M_beginNow.2.1 84 = .ok (.aload_n 0, 1) := by decide +kernel
theorem d_M_beginNow_85 : decode Y_M_beginNow.2.1 85 = .ok (.iload_n 1, 1) := by decide +kernel
theorem d_M_beginNow_86 : decode Y_M_beginNow.2.1 86 = .ok (.iload 4, 2) := by decide +kernel
theorem d_M_beginNow_88 : decode Y_M_beginNow.2.1 88 = .ok (.invokevirtual 166, 3) := by decide +kernel
theorem d_M_beginNow_91 : decode Y_M_beginNow.2.1 91 = .ok (.ifCond .eq 31, 3) := by decide +kernel
theorem d_M_beginNow_94 : decode Y_M_beginNow.2.1 94 = .ok (.aload_n 0, 1) := by decide +kernel
theorem d_M_beginNow_95 : decode Y_M_beginNow.2.1 95 = .ok (.getfield 7, 3) := by decide +kernel
theorem d_M_beginNow_98 : decode Y_M_beginNow.2.1 98 = .ok (.iload 4, 2) := by decide +kernel
theorem d_M_beginNow_100 : decode Y_M_beginNow.2.1 100 = .ok (.iaload, 1) := by decide +kernel
theorem d_M_beginNow_101 : decode Y_M_beginNow.2.1 101 = .ok (.iconst 2, 1) := by decide +kernel
theorem d_M_beginNow_102 : decode Y_M_beginNow.2.1 102 = .ok (.if_icmp .ne 20, 3) := by decide +kernel
theorem d_M_beginNow_105 : decode Y_M_beginNow.2.1 105 = .ok (.aload_n 0, 1) := by decide +kernel
theorem d_M_beginNow_106 : decode Y_M_beginNow.2.1 106 = .ok (.iload 4, 2) := by decide +kernel
theorem d_M_beginNow_108 : decode Y_M_beginNow.2.1 108 = .ok (.invokevirtual 183, 3) := by decide +kernel
theorem d_M_beginNow_111 : decode Y_M_beginNow.2.1 111 = .ok (.ifCond .eq 11, 3) := by decide +kernel
theorem d_M_beginNow_114 : decode Y_M_beginNow.2.1 114 = .ok (.aload_n 0, 1) := by decide +kernel
theorem d_M_beginNow_115 : decode Y_M_beginNow.2.1 115 = .ok (.iconst 2, 1) := by decide +kernel
theorem d_M_beginNow_116 : decode Y_M_beginNow.2.1 116 = .ok (.iload 4, 2) := by decide +kernel
theorem d_M_beginNow_118 : decode Y_M_beginNow.2.1 118 = .ok (.iload_n 2, 1) := by decide +kernel
theorem d_M_beginNow_119 : decode Y_M_beginNow.2.1 119 = .ok (.invokevirtual 265, 3) := by decide +kernel
theorem d_M_beginNow_122 : decode Y_M_beginNow.2.1 122 = .ok (.iinc 4 (-1), 3) := by decide +kernel
theorem d_M_beginNow_125 : decode Y_M_beginNow.2.1 125 = .ok (.goto (-46), 3) := by decide +kernel
theorem d_M_beginNow_128 : decode Y_M_beginNow.2.1 128 = .ok (.aload_n 0, 1) := by decide +kernel
theorem d_M_beginNow_129 : decode Y_M_beginNow.2.1 129 = .ok (.getfield 13, 3) := by decide +kernel
theorem d_M_beginNow_132 : decode Y_M_beginNow.2.1 132 = .ok (.iload_n 1, 1) := by decide +kernel
theorem d_M_beginNow_133 : decode Y_M_beginNow.2.1 133 = .ok (.iaload, 1) := by decide +kernel
theorem d_M_beginNow_134 : decode Y_M_beginNow.2.1 134 = .ok (.iconst (-1), 1) := by decide +kernel
theorem d_M_beginNow_135 : decode Y_M_beginNow.2.1 135 = .ok (.if_icmp .eq 15, 3) := by decide +kernel
theorem d_M_beginNow_138 : decode Y_M_beginNow.2.1 138 = .ok (.aload_n 0, 1) := by decide +kernel
theorem d_M_beginNow_139 : decode Y_M_beginNow.2.1 139 = .ok (.iconst 2, 1) := by decide +kernel
theorem d_M_beginNow_140 : decode Y_M_beginNow.2.1 140 = .ok (.aload_n 0, 1) := by decide +kernel
theorem d_M_beginNow_141 : decode Y_M_beginNow.2.1 141 = .ok (.getfield 13, 3) := by decide +kernel
theorem d_M_beginNow_144 : decode Y_M_beginNow.2.1 144 = .ok (.iload_n 1, 1) := by decide +kernel
theorem d_M_beginNow_145 : decode Y_M_beginNow.2.1 145 = .ok (.iaload, 1) := by decide +kernel
theorem d_M_beginNow_146 : decode Y_M_beginNow.2.1 146 = .ok (.iload_n 2, 1) := by decide +kernel
theorem d_M_beginNow_147 : decode Y_M_beginNow.2.1 147 = .ok (.invokevirtual 265, 3) := by decide +kernel
theorem d_M_beginNow_150 : decode Y_M_beginNow.2.1 150 = .ok (.return_, 1) := by decide +kernel
theorem m_M_beginNow_0 {l : Launch} {D : DD} {d kc ks : Nat} {h : Hp} {Φ : Option AV → Hp → Prop} {x1 : Int} {x2 : Int} (hM : MS h) (v : 0 ≤ x1 ∧ x1 < 16 ∧ ((xI h 146 (x1).toNat = 0 → (0 ≤ x1 ∧ x1 < 16 ∧ (∀ h1 : Hp, h1 = sI h 146 (x1).toNat (1 : Int) → ((xI h1 100 43 = 0 → (Ev l D Y_M_beginNow (d + 1) kc ks 39 [some (vr 100), some (vi x1), some (vi x2), none, none] [vi (0 : Int), vr 100] h1 Φ)) ∧ (¬ xI h1 100 43 = 0 → (0 ≤ x1 ∧ x1 < 16 ∧ ((xI h1 121 (x1).toNat = 0 → (Ev l D Y_M_beginNow (d + 1) kc ks 39 [some (vr 100), some (vi x1), some (vi x2), none, none] [vi (0 : Int), vr 100] h1 Φ)) ∧ (¬ xI h1 121 (x1).toNat = 0 → (Ev l D Y_M_beginNow (d + 1) kc ks 39 [some (vr 100), some (vi x1), some (vi x2), none, none] [vi (1 : Int), vr 100] h1 Φ))))))))) ∧ (¬ xI h 146 (x1).toNat = 0 → (Φ none h)))) : Ev l D Y_M_beginNow (d + 1) kc ks 0 [some (vr 100), some (vi x1), some (vi x2), none, none] [] h Φ := by
  refine a_aload_n d_M_beginNow_0 rfl ?_
  refine a_getAe fl_M_107 d_M_beginNow_1 (beq_iff_eq.mpr (KNM_100 hM)) (KRM_100_45 hM) ?_
  refine a_iload_n d_M_beginNow_4 rfl ?_
  obtain ⟨c2, c3, v⟩ := v
  refine a_zald d_M_beginNow_5 (KNM_146 hM) c2 (lt_len (NNM_146 hM) c3) ?_
  obtain ⟨vt, vf⟩ := v
  refine a_if_eq (tgt := 10) d_M_beginNow_6 (by decide) (fun c => ?_) (fun c => ?_)
  · have v := vt (c); clear vt vf
    refine a_aload_n d_M_beginNow_10 rfl ?_
    refine a_getAe fl_M_107 d_M_beginNow_11 (beq_iff_eq.mpr (KNM_100 hM)) (KRM_100_45 hM) ?_
    refine a_iload_n d_M_beginNow_14 rfl ?_
    refine a_iconst d_M_beginNow_15 ⟨by decide, by decide⟩ ?_
    obtain ⟨c6, c7, v⟩ := v
    have v := v _ rfl
    refine a_zast d_M_beginNow_16 (KNM_146 hM) (by decide) c6 (lt_len (NNM_146 hM) c7) (Or.inr rfl) ?_
    refine a_aload_n d_M_beginNow_17 rfl ?_
    refine a_aload_n d_M_beginNow_18 rfl ?_
    refine a_getZ fl_M_250 d_M_beginNow_19 (beq_iff_eq.mpr (KNM_100 hM)) ?_
    obtain ⟨vt, vf⟩ := v
    refine a_if_eq (tgt := 38) d_M_beginNow_22 (by decide) (fun c => ?_) (fun c => ?_)
    · have v := vt (c); clear vt vf
      refine a_iconst d_M_beginNow_38 ⟨by decide, by decide⟩ ?_
      exact v
    · have v := vf (c); clear vt vf
      refine a_aload_n d_M_beginNow_25 rfl ?_
      refine a_getAe fl_M_56 d_M_beginNow_26 (beq_iff_eq.mpr (KNM_100 hM)) (KRM_100_20 hM) ?_
      refine a_iload_n d_M_beginNow_29 rfl ?_
      obtain ⟨c9, c10, v⟩ := v
      refine a_zald d_M_beginNow_30 (KNM_121 hM) c9 (lt_len (NNM_121 hM) c10) ?_
      obtain ⟨vt, vf⟩ := v
      refine a_if_eq (tgt := 38) d_M_beginNow_31 (by decide) (fun c => ?_) (fun c => ?_)
      · have v := vt (c); clear vt vf
        refine a_iconst d_M_beginNow_38 ⟨by decide, by decide⟩ ?_
        exact v
      · have v := vf (c); clear vt vf
        refine a_iconst d_M_beginNow_34 ⟨by decide, by decide⟩ ?_
        refine a_goto (tgt := 39) d_M_beginNow_35 (by decide) ?_
        exact v
  · have v := vf (c); clear vt vf
    exact a_vret d_M_beginNow_9 rfl v
theorem m_M_beginNow_39 {l : Launch} {D : DD} {d kc ks : Nat} {h : Hp} {Φ : Option AV → Hp → Prop} {x1 : Int} {x2 : Int} {y0 : Int} (hM : MS h) (v : (y0 = 0 ∨ y0 = 1) ∧ (∀ h1 : Hp, h1 = sI h 100 43 y0 → (Ev l D Y_M_ownOf d 0 0 0 [some (vr 100), some (vi x1), some (vi (-1 : Int)), none] [] h1 (ki (fun r1 h2 => MS h2 ∧ ((r1 = (-1 : Int) → (Ev l D Y_M_beginNow (d + 1) kc ks 61 [some (vr 100), some (vi x1), some (vi x2), some (vi r1), none] [] h2 Φ)) ∧ (¬ r1 = (-1 : Int) → (Ev l D Y_M_push d 0 0 0 [some (vr 100), some (vi (1 : Int)), some (vi r1), some (vi x2)] [] h2 (kv (fun h3 => MS h3 ∧ (Ev l D Y_M_beginNow (d + 1) kc ks 61 [some (vr 100), some (vi x1), some (vi x2), some (vi r1), none] [] h3 Φ))))))))))) : Ev l D Y_M_beginNow (d + 1) kc ks 39 [some (vr 100), some (vi x1), some (vi x2), none, none] [vi y0, vr 100] h Φ := by
  obtain ⟨c3, v⟩ := v
  have v := v _ rfl
  refine a_putZ fl_M_250 d_M_beginNow_39 (beq_iff_eq.mpr (KNM_100 hM)) (by decide) c3 ?_
  refine a_aload_n d_M_beginNow_42 rfl ?_
  refine a_iload_n d_M_beginNow_43 rfl ?_
  refine a_iconst d_M_beginNow_44 ⟨by decide, by decide⟩ ?_
  refine b_callV (as := [vi x1, vi (-1 : Int)]) (b := 100) (st := []) (kd := 12) (kc1 := 0) (ks1 := 0) (kc2 := kc) (ks2 := ks) (d' := d) ml_M_145 rfl d_M_beginNow_45 rfl rfl (Nat.le_of_ble_eq_true rfl) (by decide) rfl (Nat.le_refl _) (by omega) (by omega) (KNM_100 hM) ?_
  refine Ev.mono v ?_
  intro u h2 v
  obtain ⟨r1, rfl, v⟩ := ki_el v
  obtain ⟨hm1, v⟩ := v
  change Ev l D Y_M_beginNow _ _ _ 48 [some (vr 100), some (vi x1), some (vi x2), none, none] [vi r1] _ _
  refine a_istore_n (L' := [some (vr 100), some (vi x1), some (vi x2), some (vi r1), none]) d_M_beginNow_48 (Nat.le_of_ble_eq_true rfl) rfl rfl ?_
  refine a_iload_n d_M_beginNow_49 rfl ?_
  refine a_iconst d_M_beginNow_50 ⟨by decide, by decide⟩ ?_
  obtain ⟨vt, vf⟩ := v
  refine a_icmp_eq (tgt := 61) d_M_beginNow_51 (by decide) (fun c => ?_) (fun c => ?_)
  · have v := vt (c); clear vt vf
    exact v
  · have v := vf (c); clear vt vf
    refine a_aload_n d_M_beginNow_54 rfl ?_
    refine a_iconst d_M_beginNow_55 ⟨by decide, by decide⟩ ?_
    refine a_iload_n d_M_beginNow_56 rfl ?_
    refine a_iload_n d_M_beginNow_57 rfl ?_
    refine b_callV (as := [vi (1 : Int), vi r1, vi x2]) (b := 100) (st := []) (kd := 12) (kc1 := 0) (ks1 := 0) (kc2 := kc) (ks2 := ks) (d' := d) ml_M_265 rfl d_M_beginNow_58 rfl rfl (Nat.le_of_ble_eq_true rfl) (by decide) rfl (Nat.le_refl _) (by omega) (by omega) (KNM_100 hm1) ?_
    refine Ev.mono v ?_
    intro u h3 v
    obtain ⟨rfl, v⟩ := kv_el v
    obtain ⟨hm2, v⟩ := v
    change Ev l D Y_M_beginNow _ _ _ 61 [some (vr 100), some (vi x1), some (vi x2), some (vi r1), none] [] _ _
    exact v
theorem m_M_beginNow_61 {l : Launch} {D : DD} {d kc ks : Nat} {h : Hp} {Φ : Option AV → Hp → Prop} {x1 : Int} {x2 : Int} {x3 : Int} (hM : MS h) (v : 0 ≤ x1 ∧ x1 < 16 ∧ ((xI h 102 (x1).toNat = (2 : Int) → (Φ none h)) ∧ (¬ xI h 102 (x1).toNat = (2 : Int) → (Ev l D Y_M_beginNow (d + 1) kc ks 79 [some (vr 100), some (vi x1), some (vi x2), some (vi x3), some (vi (wr ((xI h 100 0) - (1 : Int))))] [] h Φ)))) : Ev l D Y_M_beginNow (d + 1) kc ks 61 [some (vr 100), some (vi x1), some (vi x2), some (vi x3), none] [] h Φ := by
  refine a_aload_n d_M_beginNow_61 rfl ?_
  refine a_getAe fl_M_7 d_M_beginNow_62 (beq_iff_eq.mpr (KNM_100 hM)) (KRM_100_1 hM) ?_
  refine a_iload_n d_M_beginNow_65 rfl ?_
  obtain ⟨c2, c3, v⟩ := v
  refine a_iald d_M_beginNow_66 (Or.inl (KNM_102 hM)) c2 (lt_len (NNM_102 hM) c3) ?_
  refine a_iconst d_M_beginNow_67 ⟨by decide, by decide⟩ ?_
  obtain ⟨vt, vf⟩ := v
  refine a_icmp_eq (tgt := 150) d_M_beginNow_68 (by decide) (fun c => ?_) (fun c => ?_)
  · have v := vt (c); clear vt vf
    exact a_vret d_M_beginNow_150 rfl v
  · have v := vf (c); clear vt vf
    refine a_aload_n d_M_beginNow_71 rfl ?_
    refine a_getI fl_M_123 d_M_beginNow_72 (beq_iff_eq.mpr (KNM_100 hM)) ?_
    refine a_iconst d_M_beginNow_75 ⟨by decide, by decide⟩ ?_
    refine a_isub d_M_beginNow_76 ?_
    refine a_istore (L' := [some (vr 100), some (vi x1), some (vi x2), some (vi x3), some (vi (wr ((xI h 100 0) - (1 : Int))))]) d_M_beginNow_77 (Nat.le_of_ble_eq_true rfl) rfl rfl ?_
    exact v
theorem m_M_beginNow_79 {l : Launch} {D : DD} {d kc ks : Nat} {h : Hp} {Φ : Option AV → Hp → Prop} {x1 : Int} {x2 : Int} {x3 : Int} {x4 : Int} (hM : MS h) (v : (x4 < 0 → (0 ≤ x1 ∧ x1 < 16 ∧ ((xI h 103 (x1).toNat = (-1 : Int) → (Φ none h)) ∧ (¬ xI h 103 (x1).toNat = (-1 : Int) → (0 ≤ x1 ∧ x1 < 16 ∧ (Ev l D Y_M_push d 0 0 0 [some (vr 100), some (vi (2 : Int)), some (vi (xI h 103 (x1).toNat)), some (vi x2)] [] h (kv (fun h1 => MS h1 ∧ (Φ none h1))))))))) ∧ (x4 ≥ 0 → (Ev l D Y_M_isUnder d 0 0 0 [some (vr 100), some (vi x1), some (vi x4), none, none] [] h (ki (fun r1 h2 => MS h2 ∧ ((r1 = 0 → (Ev l D Y_M_beginNow (d + 1) kc ks 79 [some (vr 100), some (vi x1), some (vi x2), some (vi x3), some (vi (wr (x4 + (-1 : Int))))] [] h2 Φ)) ∧ (¬ r1 = 0 → (0 ≤ x4 ∧ x4 < 16 ∧ ((¬ xI h2 102 (x4).toNat = (2 : Int) → (Ev l D Y_M_beginNow (d + 1) kc ks 79 [some (vr 100), some (vi x1), some (vi x2), some (vi x3), some (vi (wr (x4 + (-1 : Int))))] [] h2 Φ)) ∧ (xI h2 102 (x4).toNat = (2 : Int) → (Ev l D Y_M_hasPlain d 0 0 0 [some (vr 100), some (vi x4), none, none] [] h2 (ki (fun r2 h3 => MS h3 ∧ ((r2 = 0 → (Ev l D Y_M_beginNow (d + 1) kc ks 79 [some (vr 100), some (vi x1), some (vi x2), some (vi x3), some (vi (wr (x4 + (-1 : Int))))] [] h3 Φ)) ∧ (¬ r2 = 0 → (Ev l D Y_M_push d 0 0 0 [some (vr 100), some (vi (2 : Int)), some (vi x4), some (vi x2)] [] h3 (kv (fun h4 => MS h4 ∧ (Ev l D Y_M_beginNow (d + 1) kc ks 79 [some (vr 100), some (vi x1), some (vi x2), some (vi x3), some (vi (wr (x4 + (-1 : Int))))] [] h4 Φ))))))))))))))))))) : Ev l D Y_M_beginNow (d + 1) kc ks 79 [some (vr 100), some (vi x1), some (vi x2), some (vi x3), some (vi x4)] [] h Φ := by
  refine a_iload d_M_beginNow_79 rfl ?_
  obtain ⟨vt, vf⟩ := v
  refine a_if_lt (tgt := 128) d_M_beginNow_81 (by decide) (fun c => ?_) (fun c => ?_)
  · have v := vt (c); clear vt vf
    refine a_aload_n d_M_beginNow_128 rfl ?_
    refine a_getAe fl_M_13 d_M_beginNow_129 (beq_iff_eq.mpr (KNM_100 hM)) (KRM_100_2 hM) ?_
    refine a_iload_n d_M_beginNow_132 rfl ?_
    obtain ⟨c2, c3, v⟩ := v
    refine a_iald d_M_beginNow_133 (Or.inl (KNM_103 hM)) c2 (lt_len (NNM_103 hM) c3) ?_
    refine a_iconst d_M_beginNow_134 ⟨by decide, by decide⟩ ?_
    obtain ⟨vt, vf⟩ := v
    refine a_icmp_eq (tgt := 150) d_M_beginNow_135 (by decide) (fun c => ?_) (fun c => ?_)
    · have v := vt (c); clear vt vf
      exact a_vret d_M_beginNow_150 rfl v
    · have v := vf (c); clear vt vf
      refine a_aload_n d_M_beginNow_138 rfl ?_
      refine a_iconst d_M_beginNow_139 ⟨by decide, by decide⟩ ?_
      refine a_aload_n d_M_beginNow_140 rfl ?_
      refine a_getAe fl_M_13 d_M_beginNow_141 (beq_iff_eq.mpr (KNM_100 hM)) (KRM_100_2 hM) ?_
      refine a_iload_n d_M_beginNow_144 rfl ?_
      obtain ⟨c5, c6, v⟩ := v
      refine a_iald d_M_beginNow_145 (Or.inl (KNM_103 hM)) c5 (lt_len (NNM_103 hM) c6) ?_
      refine a_iload_n d_M_beginNow_146 rfl ?_
      refine b_callV (as := [vi (2 : Int), vi (xI h 103 (x1).toNat), vi x2]) (b := 100) (st := []) (kd := 12) (kc1 := 0) (ks1 := 0) (kc2 := kc) (ks2 := ks) (d' := d) ml_M_265 rfl d_M_beginNow_147 rfl rfl (Nat.le_of_ble_eq_true rfl) (by decide) rfl (Nat.le_refl _) (by omega) (by omega) (KNM_100 hM) ?_
      refine Ev.mono v ?_
      intro u h1 v
      obtain ⟨rfl, v⟩ := kv_el v
      obtain ⟨hm1, v⟩ := v
      change Ev l D Y_M_beginNow _ _ _ 150 [some (vr 100), some (vi x1), some (vi x2), some (vi x3), some (vi x4)] [] _ _
      exact a_vret d_M_beginNow_150 rfl v
  · have v := vf (Int.not_lt.mp c); clear vt vf
    refine a_aload_n d_M_beginNow_84 rfl ?_
    refine a_iload_n d_M_beginNow_85 rfl ?_
    refine a_iload d_M_beginNow_86 rfl ?_
    refine b_callV (as := [vi x1, vi x4]) (b := 100) (st := []) (kd := 12) (kc1 := 0) (ks1 := 0) (kc2 := kc) (ks2 := ks) (d' := d) ml_M_166 rfl d_M_beginNow_88 rfl rfl (Nat.le_of_ble_eq_true rfl) (by decide) rfl (Nat.le_refl _) (by omega) (by omega) (KNM_100 hM) ?_
    refine Ev.mono v ?_
    intro u h2 v
    obtain ⟨r1, rfl, v⟩ := ki_el v
    obtain ⟨hm2, v⟩ := v
    change Ev l D Y_M_beginNow _ _ _ 91 [some (vr 100), some (vi x1), some (vi x2), some (vi x3), some (vi x4)] [vi r1] _ _
    obtain ⟨vt, vf⟩ := v
    refine a_if_eq (tgt := 122) d_M_beginNow_91 (by decide) (fun c => ?_) (fun c => ?_)
    · have v := vt (c); clear vt vf
      refine a_iinc (L' := [some (vr 100), some (vi x1), some (vi x2), some (vi x3), some (vi (wr (x4 + (-1 : Int))))]) d_M_beginNow_122 rfl (Nat.le_of_ble_eq_true rfl) rfl rfl ?_
      refine a_goto (tgt := 79) d_M_beginNow_125 (by decide) ?_
      exact v
    · have v := vf (c); clear vt vf
      refine a_aload_n d_M_beginNow_94 rfl ?_
      refine a_getAe fl_M_7 d_M_beginNow_95 (beq_iff_eq.mpr (KNM_100 hm2)) (KRM_100_1 hm2) ?_
      refine a_iload d_M_beginNow_98 rfl ?_
      obtain ⟨c9, c10, v⟩ := v
      refine a_iald d_M_beginNow_100 (Or.inl (KNM_102 hm2)) c9 (lt_len (NNM_102 hm2) c10) ?_
      refine a_iconst d_M_beginNow_101 ⟨by decide, by decide⟩ ?_
      obtain ⟨vt, vf⟩ := v
      refine a_icmp_ne (tgt := 122) d_M_beginNow_102 (by decide) (fun c => ?_) (fun c => ?_)
      · have v := vt (c); clear vt vf
        refine a_iinc (L' := [some (vr 100), some (vi x1), some (vi x2), some (vi x3), some (vi (wr (x4 + (-1 : Int))))]) d_M_beginNow_122 rfl (Nat.le_of_ble_eq_true rfl) rfl rfl ?_
        refine a_goto (tgt := 79) d_M_beginNow_125 (by decide) ?_
        exact v
      · have v := vf (Classical.not_not.mp c); clear vt vf
        refine a_aload_n d_M_beginNow_105 rfl ?_
        refine a_iload d_M_beginNow_106 rfl ?_
        refine b_callV (as := [vi x4]) (b := 100) (st := []) (kd := 12) (kc1 := 0) (ks1 := 0) (kc2 := kc) (ks2 := ks) (d' := d) ml_M_183 rfl d_M_beginNow_108 rfl rfl (Nat.le_of_ble_eq_true rfl) (by decide) rfl (Nat.le_refl _) (by omega) (by omega) (KNM_100 hm2) ?_
        refine Ev.mono v ?_
        intro u h3 v
        obtain ⟨r2, rfl, v⟩ := ki_el v
        obtain ⟨hm3, v⟩ := v
        change Ev l D Y_M_beginNow _ _ _ 111 [some (vr 100), some (vi x1), some (vi x2), some (vi x3), some (vi x4)] [vi r2] _ _
        obtain ⟨vt, vf⟩ := v
        refine a_if_eq (tgt := 122) d_M_beginNow_111 (by decide) (fun c => ?_) (fun c => ?_)
        · have v := vt (c); clear vt vf
          refine a_iinc (L' := [some (vr 100), some (vi x1), some (vi x2), some (vi x3), some (vi (wr (x4 + (-1 : Int))))]) d_M_beginNow_122 rfl (Nat.le_of_ble_eq_true rfl) rfl rfl ?_
          refine a_goto (tgt := 79) d_M_beginNow_125 (by decide) ?_
          exact v
        · have v := vf (c); clear vt vf
          refine a_aload_n d_M_beginNow_114 rfl ?_
          refine a_iconst d_M_beginNow_115 ⟨by decide, by decide⟩ ?_
          refine a_iload d_M_beginNow_116 rfl ?_
          refine a_iload_n d_M_beginNow_118 rfl ?_
          refine b_callV (as := [vi (2 : Int), vi x4, vi x2]) (b := 100) (st := []) (kd := 12) (kc1 := 0) (ks1 := 0) (kc2 := kc) (ks2 := ks) (d' := d) ml_M_265 rfl d_M_beginNow_119 rfl rfl (Nat.le_of_ble_eq_true rfl) (by decide) rfl (Nat.le_refl _) (by omega) (by omega) (KNM_100 hm3) ?_
          refine Ev.mono v ?_
          intro u h4 v
          obtain ⟨rfl, v⟩ := kv_el v
          obtain ⟨hm4, v⟩ := v
          change Ev l D Y_M_beginNow _ _ _ 122 [some (vr 100), some (vi x1), some (vi x2), some (vi x3), some (vi x4)] [] _ _
          refine a_iinc (L' := [some (vr 100), some (vi x1), some (vi x2), some (vi x3), some (vi (wr (x4 + (-1 : Int))))]) d_M_beginNow_122 rfl (Nat.le_of_ble_eq_true rfl) rfl rfl ?_
          refine a_goto (tgt := 79) d_M_beginNow_125 (by decide) ?_
          exact v
theorem d_M_runCall_0 : decode Y_M_runCall.2.1 0 = .ok (.aload_n 0, 1) := by decide +kernel
theorem d_M_runCall_1 : decode Y_M_runCall.2.1 1 = .ok (.getfield 44, 3) := by decide +kernel
theorem d_M_runCall_4 : decode Y_M_runCall.2.1 4 = .ok (.iload_n 1, 1) := by decide +kernel
theorem d_M_runCall_5 : decode Y_M_runCall.2.1 5 = .ok (.iaload, 1) := by decide +kernel
theorem d_M_runCall_6 : decode Y_M_runCall.2.1 6 = .ok (.istore_n 2, 1) := by decide +kernel
theorem d_M_runCall_7 : decode Y_M_runCall.2.1 7 = .ok (.iconst 0, 1) := by decide +kernel
theorem d_M_runCall_8 : decode Y_M_runCall.2.1 8 = .ok (.istore_n 3, 1) := by decide +kernel
theorem d_M_runCall_9 : decode Y_M_runCall.2.1 9 = .ok (.iconst 0, 1) := by decide +kernel
theorem d_M_runCall_10 : decode Y_M_runCall.2.1 10 = .ok (.istore 4, 2) := by decide +kernel
theorem d_M_runCall_12 : decode Y_M_runCall.2.1 12 = .ok (.iload 4, 2) := by decide +kernel
theorem d_M_runCall_14 : decode Y_M_runCall.2.1 14 = .ok (.aload_n 0, 1) := by decide +kernel
theorem d_M_runCall_15 : decode Y_M_runCall.2.1 15 = .ok (.getfield 268, 3) := by decide +kernel
theorem d_M_runCall_18 : decode Y_M_runCall.2.1 18 = .ok (.if_icmp .ge 32, 3) := by decide +kernel
theorem d_M_runCall_21 : decode Y_M_runCall.2.1 21 = .ok (.iload_n 3, 1) := by decide +kernel
theorem d_M_runCall_22 : decode Y_M_runCall.2.1 22 = .ok (.aload_n 0, 1) := by decide +kernel
theorem d_M_runCall_23 : decode Y_M_runCall.2.1 23 = .ok (.aload_n 0, 1) := by decide +kernel
theorem d_M_runCall_24 : decode Y_M_runCall.2.1 24 = .ok (.getfield 110, 3) := by decide +kernel
theorem d_M_runCall_27 : decode Y_M_runCall.2.1 27 = .ok (.iload 4, 2) := by decide +kernel
theorem d_M_runCall_29 : decode Y_M_runCall.2.1 29 = .ok (.iaload, 1) := by decide +kernel
theorem d_M_runCall_30 : decode Y_M_runCall.2.1 30 = .ok (.iload_n 2, 1) := by decide +kernel
theorem d_M_runCall_31 : decode Y_M_runCall.2.1 31 = .ok (.invokevirtual 166, 3) := by decide +kernel
theorem d_M_runCall_34 : decode Y_M_runCall.2.1 34 = .ok (.ifCond .eq 7, 3) := by decide +kernel
theorem d_M_runCall_37 : decode Y_M_runCall.2.1 37 = .ok (.iconst 1, 1) := by decide +kernel
theorem d_M_runCall_38 : decode Y_M_runCall.2.1 38 = .ok (.goto 4, 3) := by decide +kernel
theorem d_M_runCall_41 : decode Y_M_runCall.2.1 41 = .ok (.iconst 0, 1) := by decide +kernel
theorem d_M_runCall_42 : decode Y_M_runCall.2.1 42 = .ok (.iadd, 1) := by decide +kernel
theorem d_M_runCall_43 : decode Y_M_runCall.2.1 43 = .ok (.istore_n 3, 1) := by decide +kernel
theorem d_M_runCall_44 : decode Y_M_runCall.2.1 44 = .ok (.iinc 4 1, 3) := by decide +kernel
theorem d_M_runCall_47 : decode Y_M_runCall.2.1 47 = .ok (.goto (-35), 3) := by decide +kernel
theorem d_M_runCall_50 : decode Y_M_runCall.2.1 50 = .ok (.iload_n 3, 1) := by decide +kernel
theorem d_M_runCall_51 : decode Y_M_runCall.2.1 51 = .ok (.ifCond .ne 4, 3) := by decide +kernel
theorem d_M_runCall_54 : decode Y_M_runCall.2.1 54 = .ok (.return_, 1) := by decide +kernel
theorem d_M_runCall_55 : decode Y_M_runCall.2.1 55 = .ok (.aload_n 0, 1) := by decide +kernel
theorem d_M_runCall_56 : decode Y_M_runCall.2.1 56 = .ok (.iload_n 3, 1) := by decide +kernel
theorem d_M_runCall_57 : decode Y_M_runCall.2.1 57 = .ok (.invokevirtual 271, 3) := by decide +kernel
theorem d_M_runCall_60 : decode Y_M_runCall.2.1 60 = .ok (.istore 4, 2) := by decide +kernel
theorem d_M_runCall_62 : decode Y_M_runCall.2.1 62 = .ok (.iconst 0, 1) := by decide +kernel
theorem d_M_runCall_63 : decode Y_M_runCall.2.1 63 = .ok (.istore 5, 2) := by decide +kernel
theorem d_M_runCall_65 : decode Y_M_runCall.2.1 65 = .ok (.iload 5, 2) := by decide +kernel
theorem d_M_runCall_67 : decode Y_M_runCall.2.1 67 = .ok (.aload_n 0, 1) := by decide +kernel
theorem d_M_runCall_68 : decode Y_M_runCall.2.1 68 = .ok (.getfield 268, 3) := by decide +kernel
theorem d_M_runCall_71 : decode Y_M_runCall.2.1 71 = .ok (.if_icmp .ge 65, 3) := by decide +kernel
theorem d_M_runCall_74 : decode Y_M_runCall.2.1 74 = .ok (.aload_n 0, 1) := by decide +kernel
theorem d_M_runCall_75 : decode Y_M_runCall.2.1 75 = .ok (.aload_n 0, 1) := by decide +kernel
theorem d_M_runCall_76 : decode Y_M_runCall.2.1 76 = .ok (.getfield 110, 3) := by decide +kernel
theorem d_M_runCall_79 : decode Y_M_runCall.2.1 79 = .ok (.iload 5, 2) := by decide +kernel
theorem d_M_runCall_81 : decode Y_M_runCall.2.1 81 = .ok (.iaload, 1) := by decide +kernel
theorem d_M_runCall_82 : decode Y_M_runCall.2.1 82 = .ok (.iload_n 2, 1) := by decide +kernel
theorem d_M_runCall_83 : decode Y_M_runCall.2.1 83 = .ok (.invokevirtual 166, 3) := by decide +kernel
theorem d_M_runCall_86 : decode Y_M_runCall.2.1 86 = .ok (.ifCond .eq 44, 3) := by decide +kernel
theorem d_M_runCall_89 : decode Y_M_runCall.2.1 89 = .ok (.iload 4, 2) := by decide +kernel
theorem d_M_runCall_91 : decode Y_M_runCall.2.1 91 = .ok (.ifCond .ne 36, 3) := by decide +kernel
theorem d_M_runCall_94 : decode Y_M_runCall.2.1 94 = .ok (.aload_n 0, 1) := by decide +kernel
theorem d_M_runCall_95 : decode Y_M_runCall.2.1 95 = .ok (.aload_n 0, 1) := by decide +kernel
theorem d_M_runCall_96 : decode Y_M_runCall.2.1 96 = .ok (.getfield 110, 3) := by decide +kernel
theorem d_M_runCall_99 : decode Y_M_runCall.2.1 99 = .ok (.iload 5, 2) := by decide +kernel
theorem d_M_runCall_101 : decode Y_M_runCall.2.1 101 = .ok (.iaload, 1) := by decide +kernel
theorem d_M_runCall_102 : decode Y_M_runCall.2.1 102 = .ok (.iload_n 2, 1) := by decide +kernel
theorem d_M_runCall_103 : decode Y_M_runCall.2.1 103 = .ok (.aload_n 0, 1) := by decide +kernel
theorem d_M_runCall_104 : decode Y_M_runCall.2.1 104 = .ok (.getfield 47, 3) := by decide +kernel
theorem d_M_runCall_107 : decode Y_M_runCall.2.1 107 = .ok (.iload_n 1, 1) := by decide +kernel
theorem d_M_runCall_108 : decode Y_M_runCall.2.1 108 = .ok (.iaload, 1) := by decide +kernel
theorem d_M_runCall_109 : decode Y_M_runCall.2.1 109 = .ok (.invokevirtual 179, 3) := by decide +kernel
theorem d_M_runCall_112 : decode Y_M_runCall.2.1 112 = .ok (.istore 6, 2) := by decide +kernel
theorem d_M_runCall_114 : decode Y_M_runCall.2.1 114 = .ok (.iload 6, 2) := by decide +kernel
theorem d_M_runCall_116 : decode Y_M_runCall.2.1 116 = .ok (.ifCond .lt 11, 3) := by decide +kernel
theorem d_M_runCall_119 : decode Y_M_runCall.2.1 119 = .ok (.aload_n 0, 1) := by decide +kernel
theorem d_M_runCall_120 : decode Y_M_runCall.2.1 120 = .ok (.iconst 1, 1) := by decide +kernel
theorem d_M_runCall_121 : decode Y_M_runCall.2.1 121 = .ok (.iload 6, 2) := by decide +kernel
theorem d_M_runCall_123 : decode Y_M_runCall.2.1 123 = .ok (.iload_n 1, 1) := by decide +kernel
theorem d_M_runCall_124 : decode Y_M_runCall.2.1 124 = .ok (.invokevirtual 265, 3) := by decide +kernel
theorem d_M_runCall_127 : decode Y_M_runCall.2.1 127 = .ok (.iinc 4 (-1), 3) := by decide +kernel
theorem d_M_runCall_130 : decode Y_M_runCall.2.1 130 = .ok (.iinc 5 1, 3) := by decide +kernel
theorem d_M_runCall_133 : decode Y_M_runCall.2.1 133 = .ok (.goto (-68), 3) := by decide +kernel
theorem d_M_runCall_136 : decode Y_M_runCall.2.1 136 = .ok (.return_, 1) := by decide +kernel
theorem m_M_runCall_0 {l : Launch} {D : DD} {d kc ks : Nat} {h : Hp} {Φ : Option AV → Hp → Prop} {x1 : Int} (hM : MS h) (v : 0 ≤ x1 ∧ x1 < 160 ∧ (Ev l D Y_M_runCall (d + 1) kc ks 12 [some (vr 100), some (vi x1), some (vi (xI h 115 (x1).toNat)), some (vi (0 : Int)), some (vi (0 : Int)), none, none] [] h Φ)) : Ev l D Y_M_runCall (d + 1) kc ks 0 [some (vr 100), some (vi x1), none, none, none, none, none] [] h Φ := by
  refine a_aload_n d_M_runCall_0 rfl ?_
  refine a_getAe fl_M_44 d_M_runCall_1 (beq_iff_eq.mpr (KNM_100 hM)) (KRM_100_14 hM) ?_
  refine a_iload_n d_M_runCall_4 rfl ?_
  obtain ⟨c2, c3, v⟩ := v
  refine a_iald d_M_runCall_5 (Or.inl (KNM_115 hM)) c2 (lt_len (NNM_115 hM) c3) ?_
  refine a_istore_n (L' := [some (vr 100), some (vi x1), some (vi (xI h 115 (x1).toNat)), none, none, none, none]) d_M_runCall_6 (Nat.le_of_ble_eq_true rfl) rfl rfl ?_
  refine a_iconst d_M_runCall_7 ⟨by decide, by decide⟩ ?_
  refine a_istore_n (L' := [some (vr 100), some (vi x1), some (vi (xI h 115 (x1).toNat)), some (vi (0 : Int)), none, none, none]) d_M_runCall_8 (Nat.le_of_ble_eq_true rfl) rfl rfl ?_
  refine a_iconst d_M_runCall_9 ⟨by decide, by decide⟩ ?_
  refine a_istore (L' := [some (vr 100), some (vi x1), some (vi (xI h 115 (x1).toNat)), some (vi (0 : Int)), some (vi (0 : Int)), none, none]) d_M_runCall_10 (Nat.le_of_ble_eq_true rfl) rfl rfl ?_
  exact v
theorem m_M_runCall_12 {l : Launch} {D : DD} {d kc ks : Nat} {h : Hp} {Φ : Option AV → Hp → Prop} {x1 : Int} {x2 : Int} {x3 : Int} {x4 : Int} (hM : MS h) (v : (x4 ≥ xI h 100 47 → ((¬ x3 = 0 → (Ev l D Y_M_draw d 0 0 0 [some (vr 100), some (vi x3)] [] h (ki (fun r1 h1 => MS h1 ∧ (Ev l D Y_M_runCall (d + 1) kc ks 65 [some (vr 100), some (vi x1), some (vi x2), some (vi x3), some (vi r1), some (vi (0 : Int)), none] [] h1 Φ))))) ∧ (x3 = 0 → (Φ none h)))) ∧ (x4 < xI h 100 47 → (0 ≤ x4 ∧ x4 < 20 ∧ (Ev l D Y_M_isUnder d 0 0 0 [some (vr 100), some (vi (xI h 147 (x4).toNat)), some (vi x2), none, none] [] h (ki (fun r2 h2 => MS h2 ∧ ((r2 = 0 → (Ev l D Y_M_runCall (d + 1) kc ks 12 [some (vr 100), some (vi x1), some (vi x2), some (vi (wr (x3 + (0 : Int)))), some (vi (wr (x4 + (1 : Int)))), none, none] [] h2 Φ)) ∧ (¬ r2 = 0 → (Ev l D Y_M_runCall (d + 1) kc ks 12 [some (vr 100), some (vi x1), some (vi x2), some (vi (wr (x3 + (1 : Int)))), some (vi (wr (x4 + (1 : Int)))), none, none] [] h2 Φ))))))))) : Ev l D Y_M_runCall (d + 1) kc ks 12 [some (vr 100), some (vi x1), some (vi x2), some (vi x3), some (vi x4), none, none] [] h Φ := by
  refine a_iload d_M_runCall_12 rfl ?_
  refine a_aload_n d_M_runCall_14 rfl ?_
  refine a_getI fl_M_268 d_M_runCall_15 (beq_iff_eq.mpr (KNM_100 hM)) ?_
  obtain ⟨vt, vf⟩ := v
  refine a_icmp_ge (tgt := 50) d_M_runCall_18 (by decide) (fun c => ?_) (fun c => ?_)
  · have v := vt (c); clear vt vf
    refine a_iload_n d_M_runCall_50 rfl ?_
    obtain ⟨vt, vf⟩ := v
    refine a_if_ne (tgt := 55) d_M_runCall_51 (by decide) (fun c => ?_) (fun c => ?_)
    · have v := vt (c); clear vt vf
      refine a_aload_n d_M_runCall_55 rfl ?_
      refine a_iload_n d_M_runCall_56 rfl ?_
      refine b_callV (as := [vi x3]) (b := 100) (st := []) (kd := 12) (kc1 := 0) (ks1 := 0) (kc2 := kc) (ks2 := ks) (d' := d) ml_M_271 rfl d_M_runCall_57 rfl rfl (Nat.le_of_ble_eq_true rfl) (by decide) rfl (Nat.le_refl _) (by omega) (by omega) (KNM_100 hM) ?_
      refine Ev.mono v ?_
      intro u h1 v
      obtain ⟨r1, rfl, v⟩ := ki_el v
      obtain ⟨hm1, v⟩ := v
      change Ev l D Y_M_runCall _ _ _ 60 [some (vr 100), some (vi x1), some (vi x2), some (vi x3), some (vi x4), none, none] [vi r1] _ _
      refine a_istore (L' := [some (vr 100), some (vi x1), some (vi x2), some (vi x3), some (vi r1), none, none]) d_M_runCall_60 (Nat.le_of_ble_eq_true rfl) rfl rfl ?_
      refine a_iconst d_M_runCall_62 ⟨by decide, by decide⟩ ?_
      refine a_istore (L' := [some (vr 100), some (vi x1), some (vi x2), some (vi x3), some (vi r1), some (vi (0 : Int)), none]) d_M_runCall_63 (Nat.le_of_ble_eq_true rfl) rfl rfl ?_
      exact v
    · have v := vf (Classical.not_not.mp c); clear vt vf
      exact a_vret d_M_runCall_54 rfl v
  · have v := vf (Int.not_le.mp c); clear vt vf
    refine a_iload_n d_M_runCall_21 rfl ?_
    refine a_aload_n d_M_runCall_22 rfl ?_
    refine a_aload_n d_M_runCall_23 rfl ?_
    refine a_getAe fl_M_110 d_M_runCall_24 (beq_iff_eq.mpr (KNM_100 hM)) (KRM_100_46 hM) ?_
    refine a_iload d_M_runCall_27 rfl ?_
    obtain ⟨c3, c4, v⟩ := v
    refine a_iald d_M_runCall_29 (Or.inl (KNM_147 hM)) c3 (lt_len (NNM_147 hM) c4) ?_
    refine a_iload_n d_M_runCall_30 rfl ?_
    refine b_callV (as := [vi (xI h 147 (x4).toNat), vi x2]) (b := 100) (st := [vi x3]) (kd := 12) (kc1 := 0) (ks1 := 0) (kc2 := kc) (ks2 := ks) (d' := d) ml_M_166 rfl d_M_runCall_31 rfl rfl (Nat.le_of_ble_eq_true rfl) (by decide) rfl (Nat.le_refl _) (by omega) (by omega) (KNM_100 hM) ?_
    refine Ev.mono v ?_
    intro u h2 v
    obtain ⟨r2, rfl, v⟩ := ki_el v
    obtain ⟨hm2, v⟩ := v
    change Ev l D Y_M_runCall _ _ _ 34 [some (vr 100), some (vi x1), some (vi x2), some (vi x3), some (vi x4), none, none] [vi r2, vi x3] _ _
    obtain ⟨vt, vf⟩ := v
    refine a_if_eq (tgt := 41) d_M_runCall_34 (by decide) (fun c => ?_) (fun c => ?_)
    · have v := vt (c); clear vt vf
      refine a_iconst d_M_runCall_41 ⟨by decide, by decide⟩ ?_
      refine a_iadd d_M_runCall_42 ?_
      refine a_istore_n (L' := [some (vr 100), some (vi x1), some (vi x2), some (vi (wr (x3 + (0 : Int)))), some (vi x4), none, none]) d_M_runCall_43 (Nat.le_of_ble_eq_true rfl) rfl rfl ?_
      refine a_iinc (L' := [some (vr 100), some (vi x1), some (vi x2), some (vi (wr (x3 + (0 : Int)))), some (vi (wr (x4 + (1 : Int)))), none, none]) d_M_runCall_44 rfl (Nat.le_of_ble_eq_true rfl) rfl rfl ?_
      refine a_goto (tgt := 12) d_M_runCall_47 (by decide) ?_
      exact v
    · have v := vf (c); clear vt vf
      refine a_iconst d_M_runCall_37 ⟨by decide, by decide⟩ ?_
      refine a_goto (tgt := 42) d_M_runCall_38 (by decide) ?_
      refine a_iadd d_M_runCall_42 ?_
      refine a_istore_n (L' := [some (vr 100), some (vi x1), some (vi x2), some (vi (wr (x3 + (1 : Int)))), some (vi x4), none, none]) d_M_runCall_43 (Nat.le_of_ble_eq_true rfl) rfl rfl ?_
      refine a_iinc (L' := [some (vr 100), some (vi x1), some (vi x2), some (vi (wr (x3 + (1 : Int)))), some (vi (wr (x4 + (1 : Int)))), none, none]) d_M_runCall_44 rfl (Nat.le_of_ble_eq_true rfl) rfl rfl ?_
      refine a_goto (tgt := 12) d_M_runCall_47 (by decide) ?_
      exact v
theorem m_M_runCall_65 {l : Launch} {D : DD} {d kc ks : Nat} {h : Hp} {Φ : Option AV → Hp → Prop} {x1 : Int} {x2 : Int} {x3 : Int} {x4 : Int} {x5 : Int} (hM : MS h) (v : (x5 ≥ xI h 100 47 → (Φ none h)) ∧ (x5 < xI h 100 47 → (0 ≤ x5 ∧ x5 < 20 ∧ (Ev l D Y_M_isUnder d 0 0 0 [some (vr 100), some (vi (xI h 147 (x5).toNat)), some (vi x2), none, none] [] h (ki (fun r1 h1 => MS h1 ∧ ((r1 = 0 → (Ev l D Y_M_runCall (d + 1) kc ks 65 [some (vr 100), some (vi x1), some (vi x2), some (vi x3), some (vi x4), some (vi (wr (x5 + (1 : Int)))), none] [] h1 Φ)) ∧ (¬ r1 = 0 → ((¬ x4 = 0 → (Ev l D Y_M_runCall (d + 1) kc ks 65 [some (vr 100), some (vi x1), some (vi x2), some (vi x3), some (vi (wr (x4 + (-1 : Int)))), some (vi (wr (x5 + (1 : Int)))), none] [] h1 Φ)) ∧ (x4 = 0 → (0 ≤ x5 ∧ x5 < 20 ∧ (0 ≤ x1 ∧ x1 < 160 ∧ (Ev l D Y_M_chosenOf d 0 0 0 [some (vr 100), some (vi (xI h1 147 (x5).toNat)), some (vi x2), some (vi (xI h1 116 (x1).toNat)), none] [] h1 (ki (fun r2 h2 => MS h2 ∧ ((r2 < 0 → (Ev l D Y_M_runCall (d + 1) kc ks 65 [some (vr 100), some (vi x1), some (vi x2), some (vi x3), some (vi (wr (x4 + (-1 : Int)))), some (vi (wr (x5 + (1 : Int)))), none] [] h2 Φ)) ∧ (r2 ≥ 0 → (Ev l D Y_M_push d 0 0 0 [some (vr 100), some (vi (1 : Int)), some (vi r2), some (vi x1)] [] h2 (kv (fun h3 => MS h3 ∧ (Ev l D Y_M_runCall (d + 1) kc ks 65 [some (vr 100), some (vi x1), some (vi x2), some (vi x3), some (vi (wr (x4 + (-1 : Int)))), some (vi (wr (x5 + (1 : Int)))), none] [] h3 Φ))))))))))))))))))))) : Ev l D Y_M_runCall (d + 1) kc ks 65 [some (vr 100), some (vi x1), some (vi x2), some (vi x3), some (vi x4), some (vi x5), none] [] h Φ := by
  refine a_iload d_M_runCall_65 rfl ?_
  refine a_aload_n d_M_runCall_67 rfl ?_
  refine a_getI fl_M_268 d_M_runCall_68 (beq_iff_eq.mpr (KNM_100 hM)) ?_
  obtain ⟨vt, vf⟩ := v
  refine a_icmp_ge (tgt := 136) d_M_runCall_71 (by decide) (fun c => ?_) (fun c => ?_)
  · have v := vt (c); clear vt vf
    exact a_vret d_M_runCall_136 rfl v
  · have v := vf (Int.not_le.mp c); clear vt vf
    refine a_aload_n d_M_runCall_74 rfl ?_
    refine a_aload_n d_M_runCall_75 rfl ?_
    refine a_getAe fl_M_110 d_M_runCall_76 (beq_iff_eq.mpr (KNM_100 hM)) (KRM_100_46 hM) ?_
    refine a_iload d_M_runCall_79 rfl ?_
    obtain ⟨c2, c3, v⟩ := v
    refine a_iald d_M_runCall_81 (Or.inl (KNM_147 hM)) c2 (lt_len (NNM_147 hM) c3) ?_
    refine a_iload_n d_M_runCall_82 rfl ?_
    refine b_callV (as := [vi (xI h 147 (x5).toNat), vi x2]) (b := 100) (st := []) (kd := 12) (kc1 := 0) (ks1 := 0) (kc2 := kc) (ks2 := ks) (d' := d) ml_M_166 rfl d_M_runCall_83 rfl rfl (Nat.le_of_ble_eq_true rfl) (by decide) rfl (Nat.le_refl _) (by omega) (by omega) (KNM_100 hM) ?_
    refine Ev.mono v ?_
    intro u h1 v
    obtain ⟨r1, rfl, v⟩ := ki_el v
    obtain ⟨hm1, v⟩ := v
    change Ev l D Y_M_runCall _ _ _ 86 [some (vr 100), some (vi x1), some (vi x2), some (vi x3), some (vi x4), some (vi x5), none] [vi r1] _ _
    obtain ⟨vt, vf⟩ := v
    refine a_if_eq (tgt := 130) d_M_runCall_86 (by decide) (fun c => ?_) (fun c => ?_)
    · have v := vt (c); clear vt vf
      refine a_iinc (L' := [some (vr 100), some (vi x1), some (vi x2), some (vi x3), some (vi x4), some (vi (wr (x5 + (1 : Int)))), none]) d_M_runCall_130 rfl (Nat.le_of_ble_eq_true rfl) rfl rfl ?_
      refine a_goto (tgt := 65) d_M_runCall_133 (by decide) ?_
      exact v
    · have v := vf (c); clear vt vf
      refine a_iload d_M_runCall_89 rfl ?_
      obtain ⟨vt, vf⟩ := v
      refine a_if_ne (tgt := 127) d_M_runCall_91 (by decide) (fun c => ?_) (fun c => ?_)
      · have v := vt (c); clear vt vf
        refine a_iinc (L' := [some (vr 100), some (vi x1), some (vi x2), some (vi x3), some (vi (wr (x4 + (-1 : Int)))), some (vi x5), none]) d_M_runCall_127 rfl (Nat.le_of_ble_eq_true rfl) rfl rfl ?_
        refine a_iinc (L' := [some (vr 100), some (vi x1), some (vi x2), some (vi x3), some (vi (wr (x4 + (-1 : Int)))), some (vi (wr (x5 + (1 : Int)))), none]) d_M_runCall_130 rfl (Nat.le_of_ble_eq_true rfl) rfl rfl ?_
        refine a_goto (tgt := 65) d_M_runCall_133 (by decide) ?_
        exact v
      · have v := vf (Classical.not_not.mp c); clear vt vf
        refine a_aload_n d_M_runCall_94 rfl ?_
        refine a_aload_n d_M_runCall_95 rfl ?_
        refine a_getAe fl_M_110 d_M_runCall_96 (beq_iff_eq.mpr (KNM_100 hm1)) (KRM_100_46 hm1) ?_
        refine a_iload d_M_runCall_99 rfl ?_
        obtain ⟨c5, c6, v⟩ := v
        refine a_iald d_M_runCall_101 (Or.inl (KNM_147 hm1)) c5 (lt_len (NNM_147 hm1) c6) ?_
        refine a_iload_n d_M_runCall_102 rfl ?_
        refine a_aload_n d_M_runCall_103 rfl ?_
        refine a_getAe fl_M_47 d_M_runCall_104 (beq_iff_eq.mpr (KNM_100 hm1)) (KRM_100_15 hm1) ?_
        refine a_iload_n d_M_runCall_107 rfl ?_
        obtain ⟨c8, c9, v⟩ := v
        refine a_iald d_M_runCall_108 (Or.inl (KNM_116 hm1)) c8 (lt_len (NNM_116 hm1) c9) ?_
        refine b_callV (as := [vi (xI h1 147 (x5).toNat), vi x2, vi (xI h1 116 (x1).toNat)]) (b := 100) (st := []) (kd := 12) (kc1 := 0) (ks1 := 0) (kc2 := kc) (ks2 := ks) (d' := d) ml_M_179 rfl d_M_runCall_109 rfl rfl (Nat.le_of_ble_eq_true rfl) (by decide) rfl (Nat.le_refl _) (by omega) (by omega) (KNM_100 hm1) ?_
        refine Ev.mono v ?_
        intro u h2 v
        obtain ⟨r2, rfl, v⟩ := ki_el v
        obtain ⟨hm2, v⟩ := v
        change Ev l D Y_M_runCall _ _ _ 112 [some (vr 100), some (vi x1), some (vi x2), some (vi x3), some (vi x4), some (vi x5), none] [vi r2] _ _
        refine a_istore (L' := [some (vr 100), some (vi x1), some (vi x2), some (vi x3), some (vi x4), some (vi x5), some (vi r2)]) d_M_runCall_112 (Nat.le_of_ble_eq_true rfl) rfl rfl ?_
        refine a_iload d_M_runCall_114 rfl ?_
        obtain ⟨vt, vf⟩ := v
        refine a_if_lt (tgt := 127) d_M_runCall_116 (by decide) (fun c => ?_) (fun c => ?_)
        · have v := vt (c); clear vt vf
          refine a_iinc (L' := [some (vr 100), some (vi x1), some (vi x2), some (vi x3), some (vi (wr (x4 + (-1 : Int)))), some (vi x5), some (vi r2)]) d_M_runCall_127 rfl (Nat.le_of_ble_eq_true rfl) rfl rfl ?_
          refine a_iinc (L' := [some (vr 100), some (vi x1), some (vi x2), some (vi x3), some (vi (wr (x4 + (-1 : Int)))), some (vi (wr (x5 + (1 : Int)))), some (vi r2)]) d_M_runCall_130 rfl (Nat.le_of_ble_eq_true rfl) rfl rfl ?_
          refine a_goto (tgt := 65) d_M_runCall_133 (by decide) ?_
          exact Ev.weak v ⟨rfl, rfl, rfl, rfl, rfl, rfl, trivial⟩
        · have v := vf (Int.not_lt.mp c); clear vt vf
          refine a_aload_n d_M_runCall_119 rfl ?_
          refine a_iconst d_M_runCall_120 ⟨by decide, by decide⟩ ?_
          refine a_iload d_M_runCall_121 rfl ?_
          refine a_iload_n d_M_runCall_123 rfl ?_
          refine b_callV (as := [vi (1 : Int), vi r2, vi x1]) (b := 100) (st := []) (kd := 12) (kc1 := 0) (ks1 := 0) (kc2 := kc) (ks2 := ks) (d' := d) ml_M_265 rfl d_M_runCall_124 rfl rfl (Nat.le_of_ble_eq_true rfl) (by decide) rfl (Nat.le_refl _) (by omega) (by omega) (KNM_100 hm2) ?_
          refine Ev.mono v ?_
          intro u h3 v
          obtain ⟨rfl, v⟩ := kv_el v
          obtain ⟨hm3, v⟩ := v
          change Ev l D Y_M_runCall _ _ _ 127 [some (vr 100), some (vi x1), some (vi x2), some (vi x3), some (vi x4), some (vi x5), some (vi r2)] [] _ _
          refine a_iinc (L' := [some (vr 100), some (vi x1), some (vi x2), some (vi x3), some (vi (wr (x4 + (-1 : Int)))), some (vi x5), some (vi r2)]) d_M_runCall_127 rfl (Nat.le_of_ble_eq_true rfl) rfl rfl ?_
          refine a_iinc (L' := [some (vr 100), some (vi x1), some (vi x2), some (vi x3), some (vi (wr (x4 + (-1 : Int)))), some (vi (wr (x5 + (1 : Int)))), some (vi r2)]) d_M_runCall_130 rfl (Nat.le_of_ble_eq_true rfl) rfl rfl ?_
          refine a_goto (tgt := 65) d_M_runCall_133 (by decide) ?_
          exact Ev.weak v ⟨rfl, rfl, rfl, rfl, rfl, rfl, trivial⟩
theorem d_M_runAny_0 : decode Y_M_runAny.2.1 0 = .ok (.iconst 0, 1) := by decide +kernel
theorem d_M_runAny_1 : decode Y_M_runAny.2.1 1 = .ok (.istore_n 2, 1) := by decide +kernel
theorem d_M_runAny_2 : decode Y_M_runAny.2.1 2 = .ok (.iconst 0, 1) := by decide +kernel
theorem d_M_runAny_3 : decode Y_M_runAny.2.1 3 = .ok (.istore_n 3, 1) := by decide +kernel
theorem d_M_runAny_4 : decode Y_M_runAny.2.1 4 = .ok (.iload_n 3, 1) := by decide +kernel
theorem d_M_runAny_5 : decode Y_M_runAny.2.1 5 = .ok (.aload_n 0, 1) := by decide +kernel
theorem d_M_runAny_6 : decode Y_M_runAny.2.1 6 = .ok (.getfield 131, 3) := by decide +kernel
theorem d_M_runAny_9 : decode Y_M_runAny.2.1 9 = .ok (.if_icmp .ge 44, 3) := by decide +kernel
theorem d_M_runAny_12 : decode Y_M_runAny.2.1 12 = .ok (.iload_n 2, 1) := by decide +kernel
theorem d_M_runAny_13 : decode Y_M_runAny.2.1 13 = .ok (.aload_n 0, 1) := by decide +kernel
theorem d_M_runAny_14 : decode Y_M_runAny.2.1 14 = .ok (.getfield 25, 3) := by decide +kernel
theorem d_M_runAny_17 : decode Y_M_runAny.2.1 17 = .ok (.iload_n 3, 1) := by decide +kernel
theorem d_M_runAny_18 : decode Y_M_runAny.2.1 18 = .ok (.iaload, 1) := by decide +kernel
theorem d_M_runAny_19 : decode Y_M_runAny.2.1 19 = .ok (.aload_n 0, 1) := by decide +kernel
theorem d_M_runAny_20 : decode Y_M_runAny.2.1 20 = .ok (.getfield 47, 3) := by decide +kernel
theorem d_M_runAny_23 : decode Y_M_runAny.2.1 23 = .ok (.iload_n 1, 1) := by decide +kernel
theorem d_M_runAny_24 : decode Y_M_runAny.2.1 24 = .ok (.iaload, 1) := by decide +kernel
theorem d_M_runAny_25 : decode Y_M_runAny.2.1 25 = .ok (.if_icmp .ne 19, 3) := by decide +kernel
theorem d_M_runAny_28 : decode Y_M_runAny.2.1 28 = .ok (.aload_n 0, 1) := by decide +kernel
theorem d_M_runAny_29 : decode Y_M_runAny.2.1 29 = .ok (.getfield 28, 3) := by decide +kernel
theorem d_M_runAny_32 : decode Y_M_runAny.2.1 32 = .ok (.iload_n 3, 1) := by decide +kernel
theorem d_M_runAny_33 : decode Y_M_runAny.2.1 33 = .ok (.iaload, 1) := by decide +kernel
theorem d_M_runAny_34 : decode Y_M_runAny.2.1 34 = .ok (.invokestatic 153, 3) := by decide +kernel
theorem d_M_runAny_37 : decode Y_M_runAny.2.1 37 = .ok (.ifCond .eq 7, 3) := by decide +kernel
theorem d_M_runAny_40 : decode Y_M_runAny.2.1 40 = .ok (.iconst 1, 1) := by decide +kernel
theorem d_M_runAny_41 : decode Y_M_runAny.2.1 41 = .ok (.goto 4, 3) := by decide +kernel
theorem d_M_runAny_44 : decode Y_M_runAny.2.1 44 = .ok (.iconst 0, 1) := by decide +kernel
theorem d_M_runAny_45 : decode Y_M_runAny.2.1 45 = .ok (.iadd, 1) := by decide +kernel
theorem d_M_runAny_46 : decode Y_M_runAny.2.1 46 = .ok (.istore_n 2, 1) := by decide +kernel
theorem d_M_runAny_47 : decode Y_M_runAny.2.1 47 = .ok (.iinc 3 1, 3) := by decide +kernel
theorem d_M_runAny_50 : decode Y_M_runAny.2.1 50 = .ok (.goto (-46), 3) := by decide +kernel
theorem d_M_runAny_53 : decode Y_M_runAny.2.1 53 = .ok (.iload_n 2, 1) := by decide +kernel
theorem d_M_runAny_54 : decode Y_M_runAny.2.1 54 = .ok (.ifCond .ne 7, 3) := by decide +kernel
theorem d_M_runAny_57 : decode Y_M_runAny.2.1 57 = .ok (.iconst (-1), 1) := by decide +kernel
theorem d_M_runAny_58 : decode Y_M_runAny.2.1 58 = .ok (.goto 8, 3) := by decide +kernel
theorem d_M_runAny_61 : decode Y_M_runAny.2.1 61 = .ok (.aload_n 0, 1) := by decide +kernel
theorem d_M_runAny_62 : decode Y_M_runAny.2.1 62 = .ok (.iload_n 2, 1) := by decide +kernel
theorem d_M_runAny_63 : decode Y_M_runAny.2.1 63 = .ok (.invokevirtual 271, 3) := by decide +kernel
theorem d_M_runAny_66 : decode Y_M_runAny.2.1 66 = .ok (.istore_n 3, 1) := by decide +kernel
theorem d_M_runAny_67 : decode Y_M_runAny.2.1 67 = .ok (.iconst 0, 1) := by decide +kernel
theorem d_M_runAny_68 : decode Y_M_runAny.2.1 68 = .ok (.istore 4, 2) := by decide +kernel
theorem d_M_runAny_70 : decode Y_M_runAny.2.1 70 = .ok (.iload 4, 2) := by decide +kernel
theorem d_M_runAny_72 : decode Y_M_runAny.2.1 72 = .ok (.aload_n 0, 1) := by decide +kernel
theorem d_M_runAny_73 : decode Y_M_runAny.2.1 73 = .ok (.getfield 131, 3) := by decide +kernel
theorem d_M_runAny_76 : decode Y_M_runAny.2.1 76 = .ok (.if_icmp .ge 57, 3) := by decide +kernel
theorem d_M_runAny_79 : decode Y_M_runAny.2.1 79 = .ok (.iload_n 2, 1) := by decide +kernel
theorem d_M_runAny_80 : decode Y_M_runAny.2.1 80 = .ok (.ifCond .le 53, 3) := by decide +kernel
theorem d_M_runAny_83 : decode Y_M_runAny.2.1 83 = .ok (.aload_n 0, 1) := by decide +kernel
theorem d_M_runAny_84 : decode Y_M_runAny.2.1 84 = .ok (.getfield 25, 3) := by decide +kernel
theorem d_M_runAny_87 : decode Y_M_runAny.2.1 87 = .ok (.iload 4, 2) := by decide +kernel
theorem d_M_runAny_89 : decode Y_M_runAny.2.1 89 = .ok (.iaload, 1) := by decide +kernel
theorem d_M_runAny_90 : decode Y_M_runAny.2.1 90 = .ok (.aload_n 0, 1) := by decide +kernel
theorem d_M_runAny_91 : decode Y_M_runAny.2.1 91 = .ok (.getfield 47, 3) := by decide +kernel
theorem d_M_runAny_94 : decode Y_M_runAny.2.1 94 = .ok (.iload_n 1, 1) := by decide +kernel
theorem d_M_runAny_95 : decode Y_M_runAny.2.1 95 = .ok (.iaload, 1) := by decide +kernel
theorem d_M_runAny_96 : decode Y_M_runAny.2.1 96 = .ok (.if_icmp .ne 31, 3) := by decide +kernel
theorem d_M_runAny_99 : decode Y_M_runAny.2.1 99 = .ok (.aload_n 0, 1) := by decide +kernel
theorem d_M_runAny_100 : decode Y_M_runAny.2.1 100 = .ok (.getfield 28, 3) := by decide +kernel
theorem d_M_runAny_103 : decode Y_M_runAny.2.1 103 = .ok (.iload 4, 2) := by decide +kernel
theorem d_M_runAny_105 : decode Y_M_runAny.2.1 105 = .ok (.iaload, 1) := by decide +kernel
theorem d_M_runAny_106 : decode Y_M_runAny.2.1 106 = .ok (.invokestatic 153, 3) := by decide +kernel
theorem d_M_runAny_109 : decode Y_M_runAny.2.1 109 = .ok (.ifCond .eq 18, 3) := by decide +kernel
theorem d_M_runAny_112 : decode Y_M_runAny.2.1 112 = .ok (.iload_n 3, 1) := by decide +kernel
theorem d_M_runAny_113 : decode Y_M_runAny.2.1 113 = .ok (.ifCond .ne 11, 3) := by decide +kernel
theorem d_M_runAny_116 : decode Y_M_runAny.2.1 116 = .ok (.aload_n 0, 1) := by decide +kernel
theorem d_M_runAny_117 : decode Y_M_runAny.2.1 117 = .ok (.iconst 1, 1) := by decide +kernel
theorem d_M_runAny_118 : decode Y_M_runAny.2.1 118 = .ok (.iload 4, 2) := by decide +kernel
theorem d_M_runAny_120 : decode Y_M_runAny.2.1 120 = .ok (.iload_n 1, 1) := by decide +kernel
theorem d_M_runAny_121 : decode Y_M_runAny.2.1 121 = .ok (.invokevirtual 265, 3) := by decide +kernel
theorem d_M_runAny_124 : decode Y_M_runAny.2.1 124 = .ok (.iinc 3 (-1), 3) := by decide +kernel
theorem d_M_runAny_127 : decode Y_M_runAny.2.1 127 = .ok (.iinc 4 1, 3) := by decide +kernel
theorem d_M_runAny_130 : decode Y_M_runAny.2.1 130 = .ok (.goto (-60), 3) := by decide +kernel
theorem d_M_runAny_133 : decode Y_M_runAny.2.1 133 = .ok (.return_, 1) := by decide +kernel
theorem m_M_runAny_0 {l : Launch} {D : DD} {d kc ks : Nat} {h : Hp} {Φ : Option AV → Hp → Prop} {x1 : Int} (hM : MS h) (v : Ev l D Y_M_runAny (d + 1) kc ks 4 [some (vr 100), some (vi x1), some (vi (0 : Int)), some (vi (0 : Int)), none] [] h Φ) : Ev l D Y_M_runAny (d + 1) kc ks 0 [some (vr 100), some (vi x1), none, none, none] [] h Φ := by
  refine a_iconst d_M_runAny_0 ⟨by decide, by decide⟩ ?_
  refine a_istore_n (L' := [some (vr 100), some (vi x1), some (vi (0 : Int)), none, none]) d_M_runAny_1 (Nat.le_of_ble_eq_true rfl) rfl rfl ?_
  refine a_iconst d_M_runAny_2 ⟨by decide, by decide⟩ ?_
  refine a_istore_n (L' := [some (vr 100), some (vi x1), some (vi (0 : Int)), some (vi (0 : Int)), none]) d_M_runAny_3 (Nat.le_of_ble_eq_true rfl) rfl rfl ?_
  exact v
theorem m_M_runAny_4 {l : Launch} {D : DD} {d kc ks : Nat} {h : Hp} {Φ : Option AV → Hp → Prop} {x1 : Int} {x2 : Int} {x3 : Int} (hM : MS h) (v : (x3 ≥ xI h 100 5 → ((¬ x2 = 0 → (Ev l D Y_M_draw d 0 0 0 [some (vr 100), some (vi x2)] [] h (ki (fun r1 h1 => MS h1 ∧ (Ev l D Y_M_runAny (d + 1) kc ks 70 [some (vr 100), some (vi x1), some (vi x2), some (vi r1), some (vi (0 : Int))] [] h1 Φ))))) ∧ (x2 = 0 → (Ev l D Y_M_runAny (d + 1) kc ks 70 [some (vr 100), some (vi x1), some (vi x2), some (vi (-1 : Int)), some (vi (0 : Int))] [] h Φ)))) ∧ (x3 < xI h 100 5 → (0 ≤ x3 ∧ x3 < 48 ∧ (0 ≤ x1 ∧ x1 < 160 ∧ ((¬ xI h 108 (x3).toNat = xI h 116 (x1).toNat → (Ev l D Y_M_runAny (d + 1) kc ks 45 [some (vr 100), some (vi x1), some (vi x2), some (vi x3), none] [vi (0 : Int), vi x2] h Φ)) ∧ (xI h 108 (x3).toNat = xI h 116 (x1).toNat → (0 ≤ x3 ∧ x3 < 48 ∧ (Ev l D Y_M_canBeCalled d 0 0 0 [some (vi (xI h 109 (x3).toNat))] [] h (ki (fun r2 h2 => MS h2 ∧ ((r2 = 0 → (Ev l D Y_M_runAny (d + 1) kc ks 45 [some (vr 100), some (vi x1), some (vi x2), some (vi x3), none] [vi (0 : Int), vi x2] h2 Φ)) ∧ (¬ r2 = 0 → (Ev l D Y_M_runAny (d + 1) kc ks 45 [some (vr 100), some (vi x1), some (vi x2), some (vi x3), none] [vi (1 : Int), vi x2] h2 Φ))))))))))))) : Ev l D Y_M_runAny (d + 1) kc ks 4 [some (vr 100), some (vi x1), some (vi x2), some (vi x3), none] [] h Φ := by
  refine a_iload_n d_M_runAny_4 rfl ?_
  refine a_aload_n d_M_runAny_5 rfl ?_
  refine a_getI fl_M_131 d_M_runAny_6 (beq_iff_eq.mpr (KNM_100 hM)) ?_
  obtain ⟨vt, vf⟩ := v
  refine a_icmp_ge (tgt := 53) d_M_runAny_9 (by decide) (fun c => ?_) (fun c => ?_)
  · have v := vt (c); clear vt vf
    refine a_iload_n d_M_runAny_53 rfl ?_
    obtain ⟨vt, vf⟩ := v
    refine a_if_ne (tgt := 61) d_M_runAny_54 (by decide) (fun c => ?_) (fun c => ?_)
    · have v := vt (c); clear vt vf
      refine a_aload_n d_M_runAny_61 rfl ?_
      refine a_iload_n d_M_runAny_62 rfl ?_
      refine b_callV (as := [vi x2]) (b := 100) (st := []) (kd := 12) (kc1 := 0) (ks1 := 0) (kc2 := kc) (ks2 := ks) (d' := d) ml_M_271 rfl d_M_runAny_63 rfl rfl (Nat.le_of_ble_eq_true rfl) (by decide) rfl (Nat.le_refl _) (by omega) (by omega) (KNM_100 hM) ?_
      refine Ev.mono v ?_
      intro u h1 v
      obtain ⟨r1, rfl, v⟩ := ki_el v
      obtain ⟨hm1, v⟩ := v
      change Ev l D Y_M_runAny _ _ _ 66 [some (vr 100), some (vi x1), some (vi x2), some (vi x3), none] [vi r1] _ _
      refine a_istore_n (L' := [some (vr 100), some (vi x1), some (vi x2), some (vi r1), none]) d_M_runAny_66 (Nat.le_of_ble_eq_true rfl) rfl rfl ?_
      refine a_iconst d_M_runAny_67 ⟨by decide, by decide⟩ ?_
      refine a_istore (L' := [some (vr 100), some (vi x1), some (vi x2), some (vi r1), some (vi (0 : Int))]) d_M_runAny_68 (Nat.le_of_ble_eq_true rfl) rfl rfl ?_
      exact v
    · have v := vf (Classical.not_not.mp c); clear vt vf
      refine a_iconst d_M_runAny_57 ⟨by decide, by decide⟩ ?_
      refine a_goto (tgt := 66) d_M_runAny_58 (by decide) ?_
      refine a_istore_n (L' := [some (vr 100), some (vi x1), some (vi x2), some (vi (-1 : Int)), none]) d_M_runAny_66 (Nat.le_of_ble_eq_true rfl) rfl rfl ?_
      refine a_iconst d_M_runAny_67 ⟨by decide, by decide⟩ ?_
      refine a_istore (L' := [some (vr 100), some (vi x1), some (vi x2), some (vi (-1 : Int)), some (vi (0 : Int))]) d_M_runAny_68 (Nat.le_of_ble_eq_true rfl) rfl rfl ?_
      exact v
  · have v := vf (Int.not_le.mp c); clear vt vf
    refine a_iload_n d_M_runAny_12 rfl ?_
    refine a_aload_n d_M_runAny_13 rfl ?_
    refine a_getAe fl_M_25 d_M_runAny_14 (beq_iff_eq.mpr (KNM_100 hM)) (KRM_100_7 hM) ?_
    refine a_iload_n d_M_runAny_17 rfl ?_
    obtain ⟨c3, c4, v⟩ := v
    refine a_iald d_M_runAny_18 (Or.inl (KNM_108 hM)) c3 (lt_len (NNM_108 hM) c4) ?_
    refine a_aload_n d_M_runAny_19 rfl ?_
    refine a_getAe fl_M_47 d_M_runAny_20 (beq_iff_eq.mpr (KNM_100 hM)) (KRM_100_15 hM) ?_
    refine a_iload_n d_M_runAny_23 rfl ?_
    obtain ⟨c6, c7, v⟩ := v
    refine a_iald d_M_runAny_24 (Or.inl (KNM_116 hM)) c6 (lt_len (NNM_116 hM) c7) ?_
    obtain ⟨vt, vf⟩ := v
    refine a_icmp_ne (tgt := 44) d_M_runAny_25 (by decide) (fun c => ?_) (fun c => ?_)
    · have v := vt (c); clear vt vf
      refine a_iconst d_M_runAny_44 ⟨by decide, by decide⟩ ?_
      exact v
    · have v := vf (Classical.not_not.mp c); clear vt vf
      refine a_aload_n d_M_runAny_28 rfl ?_
      refine a_getAe fl_M_28 d_M_runAny_29 (beq_iff_eq.mpr (KNM_100 hM)) (KRM_100_8 hM) ?_
      refine a_iload_n d_M_runAny_32 rfl ?_
      obtain ⟨c9, c10, v⟩ := v
      refine a_iald d_M_runAny_33 (Or.inl (KNM_109 hM)) c9 (lt_len (NNM_109 hM) c10) ?_
      refine b_callS (as := [vi (xI h 109 (x3).toNat)]) (st := [vi x2]) (kc1 := 0) (ks1 := 0) (kc2 := kc) (ks2 := ks) (d' := d) ml_M_153 rfl d_M_runAny_34 rfl rfl (Nat.le_of_ble_eq_true rfl) rfl (Nat.le_refl _) (by omega) (by omega) ?_
      refine Ev.mono v ?_
      intro u h2 v
      obtain ⟨r2, rfl, v⟩ := ki_el v
      obtain ⟨hm2, v⟩ := v
      change Ev l D Y_M_runAny _ _ _ 37 [some (vr 100), some (vi x1), some (vi x2), some (vi x3), none] [vi r2, vi x2] _ _
      obtain ⟨vt, vf⟩ := v
      refine a_if_eq (tgt := 44) d_M_runAny_37 (by decide) (fun c => ?_) (fun c => ?_)
      · have v := vt (c); clear vt vf
        refine a_iconst d_M_runAny_44 ⟨by decide, by decide⟩ ?_
        exact v
      · have v := vf (c); clear vt vf
        refine a_iconst d_M_runAny_40 ⟨by decide, by decide⟩ ?_
        refine a_goto (tgt := 45) d_M_runAny_41 (by decide) ?_
        exact v
theorem m_M_runAny_70 {l : Launch} {D : DD} {d kc ks : Nat} {h : Hp} {Φ : Option AV → Hp → Prop} {x1 : Int} {x2 : Int} {x3 : Int} {x4 : Int} (hM : MS h) (v : (x4 ≥ xI h 100 5 → (Φ none h)) ∧ (x4 < xI h 100 5 → ((x2 ≤ 0 → (Φ none h)) ∧ (x2 > 0 → (0 ≤ x4 ∧ x4 < 48 ∧ (0 ≤ x1 ∧ x1 < 160 ∧ ((¬ xI h 108 (x4).toNat = xI h 116 (x1).toNat → (Ev l D Y_M_runAny (d + 1) kc ks 70 [some (vr 100), some (vi x1), some (vi x2), some (vi x3), some (vi (wr (x4 + (1 : Int))))] [] h Φ)) ∧ (xI h 108 (x4).toNat = xI h 116 (x1).toNat → (0 ≤ x4 ∧ x4 < 48 ∧ (Ev l D Y_M_canBeCalled d 0 0 0 [some (vi (xI h 109 (x4).toNat))] [] h (ki (fun r1 h1 => MS h1 ∧ ((r1 = 0 → (Ev l D Y_M_runAny (d + 1) kc ks 70 [some (vr 100), some (vi x1), some (vi x2), some (vi x3), some (vi (wr (x4 + (1 : Int))))] [] h1 Φ)) ∧ (¬ r1 = 0 → ((¬ x3 = 0 → (Ev l D Y_M_runAny (d + 1) kc ks 70 [some (vr 100), some (vi x1), some (vi x2), some (vi (wr (x3 + (-1 : Int)))), some (vi (wr (x4 + (1 : Int))))] [] h1 Φ)) ∧ (x3 = 0 → (Ev l D Y_M_push d 0 0 0 [some (vr 100), some (vi (1 : Int)), some (vi x4), some (vi x1)] [] h1 (kv (fun h2 => MS h2 ∧ (Ev l D Y_M_runAny (d + 1) kc ks 70 [some (vr 100), some (vi x1), some (vi x2), some (vi (wr (x3 + (-1 : Int)))), some (vi (wr (x4 + (1 : Int))))] [] h2 Φ)))))))))))))))))))) : Ev l D Y_M_runAny (d + 1) kc ks 70 [some (vr 100), some (vi x1), some (vi x2), some (vi x3), some (vi x4)] [] h Φ := by
  refine a_iload d_M_runAny_70 rfl ?_
  refine a_aload_n d_M_runAny_72 rfl ?_
  refine a_getI fl_M_131 d_M_runAny_73 (beq_iff_eq.mpr (KNM_100 hM)) ?_
  obtain ⟨vt, vf⟩ := v
  refine a_icmp_ge (tgt := 133) d_M_runAny_76 (by decide) (fun c => ?_) (fun c => ?_)
  · have v := vt (c); clear vt vf
    exact a_vret d_M_runAny_133 rfl v
  · have v := vf (Int.not_le.mp c); clear vt vf
    refine a_iload_n d_M_runAny_79 rfl ?_
    obtain ⟨vt, vf⟩ := v
    refine a_if_le (tgt := 133) d_M_runAny_80 (by decide) (fun c => ?_) (fun c => ?_)
    · have v := vt (c); clear vt vf
      exact a_vret d_M_runAny_133 rfl v
    · have v := vf (Int.not_le.mp c); clear vt vf
      refine a_aload_n d_M_runAny_83 rfl ?_
      refine a_getAe fl_M_25 d_M_runAny_84 (beq_iff_eq.mpr (KNM_100 hM)) (KRM_100_7 hM) ?_
      refine a_iload d_M_runAny_87 rfl ?_
      obtain ⟨c2, c3, v⟩ := v
      refine a_iald d_M_runAny_89 (Or.inl (KNM_108 hM)) c2 (lt_len (NNM_108 hM) c3) ?_
      refine a_aload_n d_M_runAny_90 rfl ?_
      refine a_getAe fl_M_47 d_M_runAny_91 (beq_iff_eq.mpr (KNM_100 hM)) (KRM_100_15 hM) ?_
      refine a_iload_n d_M_runAny_94 rfl ?_
      obtain ⟨c5, c6, v⟩ := v
      refine a_iald d_M_runAny_95 (Or.inl (KNM_116 hM)) c5 (lt_len (NNM_116 hM) c6) ?_
      obtain ⟨vt, vf⟩ := v
      refine a_icmp_ne (tgt := 127) d_M_runAny_96 (by decide) (fun c => ?_) (fun c => ?_)
      · have v := vt (c); clear vt vf
        refine a_iinc (L' := [some (vr 100), some (vi x1), some (vi x2), some (vi x3), some (vi (wr (x4 + (1 : Int))))]) d_M_runAny_127 rfl (Nat.le_of_ble_eq_true rfl) rfl rfl ?_
        refine a_goto (tgt := 70) d_M_runAny_130 (by decide) ?_
        exact v
      · have v := vf (Classical.not_not.mp c); clear vt vf
        refine a_aload_n d_M_runAny_99 rfl ?_
        refine a_getAe fl_M_28 d_M_runAny_100 (beq_iff_eq.mpr (KNM_100 hM)) (KRM_100_8 hM) ?_
        refine a_iload d_M_runAny_103 rfl ?_
        obtain ⟨c8, c9, v⟩ := v
        refine a_iald d_M_runAny_105 (Or.inl (KNM_109 hM)) c8 (lt_len (NNM_109 hM) c9) ?_
        refine b_callS (as := [vi (xI h 109 (x4).toNat)]) (st := []) (kc1 := 0) (ks1 := 0) (kc2 := kc) (ks2 := ks) (d' := d) ml_M_153 rfl d_M_runAny_106 rfl rfl (Nat.le_of_ble_eq_true rfl) rfl (Nat.le_refl _) (by omega) (by omega) ?_
        refine Ev.mono v ?_
        intro u h1 v
        obtain ⟨r1, rfl, v⟩ := ki_el v
        obtain ⟨hm1, v⟩ := v
        change Ev l D Y_M_runAny _ _ _ 109 [some (vr 100), some (vi x1), some (vi x2), some (vi x3), some (vi x4)] [vi r1] _ _
        obtain ⟨vt, vf⟩ := v
        refine a_if_eq (tgt := 127) d_M_runAny_109 (by decide) (fun c => ?_) (fun c => ?_)
        · have v := vt (c); clear vt vf
          refine a_iinc (L' := [some (vr 100), some (vi x1), some (vi x2), some (vi x3), some (vi (wr (x4 + (1 : Int))))]) d_M_runAny_127 rfl (Nat.le_of_ble_eq_true rfl) rfl rfl ?_
          refine a_goto (tgt := 70) d_M_runAny_130 (by decide) ?_
          exact v
        · have v := vf (c); clear vt vf
          refine a_iload_n d_M_runAny_112 rfl ?_
          obtain ⟨vt, vf⟩ := v
          refine a_if_ne (tgt := 124) d_M_runAny_113 (by decide) (fun c => ?_) (fun c => ?_)
          · have v := vt (c); clear vt vf
            refine a_iinc (L' := [some (vr 100), some (vi x1), some (vi x2), some (vi (wr (x3 + (-1 : Int)))), some (vi x4)]) d_M_runAny_124 rfl (Nat.le_of_ble_eq_true rfl) rfl rfl ?_
            refine a_iinc (L' := [some (vr 100), some (vi x1), some (vi x2), some (vi (wr (x3 + (-1 : Int)))), some (vi (wr (x4 + (1 : Int))))]) d_M_runAny_127 rfl (Nat.le_of_ble_eq_true rfl) rfl rfl ?_
            refine a_goto (tgt := 70) d_M_runAny_130 (by decide) ?_
            exact v
          · have v := vf (Classical.not_not.mp c); clear vt vf
            refine a_aload_n d_M_runAny_116 rfl ?_
            refine a_iconst d_M_runAny_117 ⟨by decide, by decide⟩ ?_
            refine a_iload d_M_runAny_118 rfl ?_
            refine a_iload_n d_M_runAny_120 rfl ?_
            refine b_callV (as := [vi (1 : Int), vi x4, vi x1]) (b := 100) (st := []) (kd := 12) (kc1 := 0) (ks1 := 0) (kc2 := kc) (ks2 := ks) (d' := d) ml_M_265 rfl d_M_runAny_121 rfl rfl (Nat.le_of_ble_eq_true rfl) (by decide) rfl (Nat.le_refl _) (by omega) (by omega) (KNM_100 hm1) ?_
            refine Ev.mono v ?_
            intro u h2 v
            obtain ⟨rfl, v⟩ := kv_el v
            obtain ⟨hm2, v⟩ := v
            change Ev l D Y_M_runAny _ _ _ 124 [some (vr 100), some (vi x1), some (vi x2), some (vi x3), some (vi x4)] [] _ _
            refine a_iinc (L' := [some (vr 100), some (vi x1), some (vi x2), some (vi (wr (x3 + (-1 : Int)))), some (vi x4)]) d_M_runAny_124 rfl (Nat.le_of_ble_eq_true rfl) rfl rfl ?_
            refine a_iinc (L' := [some (vr 100), some (vi x1), some (vi x2), some (vi (wr (x3 + (-1 : Int)))), some (vi (wr (x4 + (1 : Int))))]) d_M_runAny_127 rfl (Nat.le_of_ble_eq_true rfl) rfl rfl ?_
            refine a_goto (tgt := 70) d_M_runAny_130 (by decide) ?_
            exact v
theorem m_M_runAny_45 {l : Launch} {D : DD} {d kc ks : Nat} {h : Hp} {Φ : Option AV → Hp → Prop} {x1 : Int} {x2 : Int} {x3 : Int} {y0 : Int} {y1 : Int} (hM : MS h) (v : Ev l D Y_M_runAny (d + 1) kc ks 4 [some (vr 100), some (vi x1), some (vi (wr (y1 + y0))), some (vi (wr (x3 + (1 : Int)))), none] [] h Φ) : Ev l D Y_M_runAny (d + 1) kc ks 45 [some (vr 100), some (vi x1), some (vi x2), some (vi x3), none] [vi y0, vi y1] h Φ := by
  refine a_iadd d_M_runAny_45 ?_
  refine a_istore_n (L' := [some (vr 100), some (vi x1), some (vi (wr (y1 + y0))), some (vi x3), none]) d_M_runAny_46 (Nat.le_of_ble_eq_true rfl) rfl rfl ?_
  refine a_iinc (L' := [some (vr 100), some (vi x1), some (vi (wr (y1 + y0))), some (vi (wr (x3 + (1 : Int)))), none]) d_M_runAny_47 rfl (Nat.le_of_ble_eq_true rfl) rfl rfl ?_
  refine a_goto (tgt := 4) d_M_runAny_50 (by decide) ?_
  exact v
theorem d_M_runOp_0 : decode Y_M_runOp.2.1 0 = .ok (.aload_n 0, 1) := by decide +kernel
theorem d_M_runOp_1 : decode Y_M_runOp.2.1 1 = .ok (.getfield 44, 3) := by decide +kernel
theorem d_M_runOp_4 : decode Y_M_runOp.2.1 4 = .ok (.iload_n 1, 1) := by decide +kernel
theorem d_M_runOp_5 : decode Y_M_runOp.2.1 5 = .ok (.iaload, 1) := by decide +kernel
theorem d_M_runOp_6 : decode Y_M_runOp.2.1 6 = .ok (.istore_n 2, 1) := by decide +kernel
theorem d_M_runOp_7 : decode Y_M_runOp.2.1 7 = .ok (.aload_n 0, 1) := by decide +kernel
theorem d_M_runOp_8 : decode Y_M_runOp.2.1 8 = .ok (.getfield 47, 3) := by decide +kernel
theorem d_M_runOp_11 : decode Y_M_runOp.2.1 11 = .ok (.iload_n 1, 1) := by decide +kernel
theorem d_M_runOp_12 : decode Y_M_runOp.2.1 12 = .ok (.iaload, 1) := by decide +kernel
theorem d_M_runOp_13 : decode Y_M_runOp.2.1 13 = .ok (.istore_n 3, 1) := by decide +kernel
theorem d_M_runOp_14 : decode Y_M_runOp.2.1 14 = .ok (.iconst (-1), 1) := by decide +kernel
theorem d_M_runOp_15 : decode Y_M_runOp.2.1 15 = .ok (.istore 4, 2) := by decide +kernel
theorem d_M_runOp_17 : decode Y_M_runOp.2.1 17 = .ok (.aload_n 0, 1) := by decide +kernel
theorem d_M_runOp_18 : decode Y_M_runOp.2.1 18 = .ok (.getfield 41, 3) := by decide +kernel
theorem d_M_runOp_21 : decode Y_M_runOp.2.1 21 = .ok (.iload_n 1, 1) := by decide +kernel
theorem d_M_runOp_22 : decode Y_M_runOp.2.1 22 = .ok (.iaload, 1) := by decide +kernel
theorem d_M_runOp_23 : decode Y_M_runOp.2.1 23 = .ok (.tableswitch 268 0 7 #[45, 268, 62, 87, 268, 136, 222, 260], 45) := by decide +kernel
theorem d_M_runOp_68 : decode Y_M_runOp.2.1 68 = .ok (.aload_n 0, 1) := by decide +kernel
theorem d_M_runOp_69 : decode Y_M_runOp.2.1 69 = .ok (.iconst 3, 1) := by decide +kernel
theorem d_M_runOp_70 : decode Y_M_runOp.2.1 70 = .ok (.iload_n 2, 1) := by decide +kernel
theorem d_M_runOp_71 : decode Y_M_runOp.2.1 71 = .ok (.iload_n 1, 1) := by decide +kernel
theorem d_M_runOp_72 : decode Y_M_runOp.2.1 72 = .ok (.invokevirtual 265, 3) := by decide +kernel
theorem d_M_runOp_75 : decode Y_M_runOp.2.1 75 = .ok (.aload_n 0, 1) := by decide +kernel
theorem d_M_runOp_76 : decode Y_M_runOp.2.1 76 = .ok (.iconst 2, 1) := by decide +kernel
theorem d_M_runOp_77 : decode Y_M_runOp.2.1 77 = .ok (.iload_n 2, 1) := by decide +kernel
theorem d_M_runOp_78 : decode Y_M_runOp.2.1 78 = .ok (.iload_n 1, 1) := by decide +kernel
theorem d_M_runOp_79 : decode Y_M_runOp.2.1 79 = .ok (.invokevirtual 265, 3) := by decide +kernel
theorem d_M_runOp_82 : decode Y_M_runOp.2.1 82 = .ok (.goto 214, 3) := by decide +kernel
theorem d_M_runOp_85 : decode Y_M_runOp.2.1 85 = .ok (.aload_n 0, 1) := by decide +kernel
theorem d_M_runOp_86 : decode Y_M_runOp.2.1 86 = .ok (.iload_n 2, 1) := by decide +kernel
theorem d_M_runOp_87 : decode Y_M_runOp.2.1 87 = .ok (.iload_n 2, 1) := by decide +kernel
theorem d_M_runOp_88 : decode Y_M_runOp.2.1 88 = .ok (.iload_n 3, 1) := by decide +kernel
theorem d_M_runOp_89 : decode Y_M_runOp.2.1 89 = .ok (.invokevirtual 179, 3) := by decide +kernel
theorem d_M_runOp_92 : decode Y_M_runOp.2.1 92 = .ok (.istore 4, 2) := by decide +kernel
theorem d_M_runOp_94 : decode Y_M_runOp.2.1 94 = .ok (.iload 4, 2) := by decide +kernel
theorem d_M_runOp_96 : decode Y_M_runOp.2.1 96 = .ok (.ifCond .lt 200, 3) := by decide +kernel
theorem d_M_runOp_99 : decode Y_M_runOp.2.1 99 = .ok (.aload_n 0, 1) := by decide +kernel
theorem d_M_runOp_100 : decode Y_M_runOp.2.1 100 = .ok (.iconst 1, 1) := by decide +kernel
theorem d_M_runOp_101 : decode Y_M_runOp.2.1 101 = .ok (.iload 4, 2) := by decide +kernel
theorem d_M_runOp_103 : decode Y_M_runOp.2.1 103 = .ok (.iload_n 1, 1) := by decide +kernel
theorem d_M_runOp_104 : decode Y_M_runOp.2.1 104 = .ok (.invokevirtual 265, 3) := by decide +kernel
theorem d_M_runOp_107 : decode Y_M_runOp.2.1 107 = .ok (.goto 189, 3) := by decide +kernel
theorem d_M_runOp_110 : decode Y_M_runOp.2.1 110 = .ok (.aload_n 0, 1) := by decide +kernel
theorem d_M_runOp_111 : decode Y_M_runOp.2.1 111 = .ok (.iload_n 2, 1) := by decide +kernel
theorem d_M_runOp_112 : decode Y_M_runOp.2.1 112 = .ok (.iload_n 3, 1) := by decide +kernel
theorem d_M_runOp_113 : decode Y_M_runOp.2.1 113 = .ok (.invokevirtual 173, 3) := by decide +kernel
theorem d_M_runOp_116 : decode Y_M_runOp.2.1 116 = .ok (.istore 4, 2) := by decide +kernel
theorem d_M_runOp_118 : decode Y_M_runOp.2.1 118 = .ok (.iload 4, 2) := by decide +kernel
theorem d_M_runOp_120 : decode Y_M_runOp.2.1 120 = .ok (.iconst (-1), 1) := by decide +kernel
theorem d_M_runOp_121 : decode Y_M_runOp.2.1 121 = .ok (.if_icmp .eq 175, 3) := by decide +kernel
theorem d_M_runOp_124 : decode Y_M_runOp.2.1 124 = .ok (.aload_n 0, 1) := by decide +kernel
theorem d_M_runOp_125 : decode Y_M_runOp.2.1 125 = .ok (.getfield 28, 3) := by decide +kernel
theorem d_M_runOp_128 : decode Y_M_runOp.2.1 128 = .ok (.iload 4, 2) := by decide +kernel
theorem d_M_runOp_130 : decode Y_M_runOp.2.1 130 = .ok (.iaload, 1) := by decide +kernel
theorem d_M_runOp_131 : decode Y_M_runOp.2.1 131 = .ok (.iconst 2, 1) := by decide +kernel
theorem d_M_runOp_132 : decode Y_M_runOp.2.1 132 = .ok (.if_icmp .ne 164, 3) := by decide +kernel
theorem d_M_runOp_135 : decode Y_M_runOp.2.1 135 = .ok (.aload_n 0, 1) := by decide +kernel
theorem d_M_runOp_136 : decode Y_M_runOp.2.1 136 = .ok (.iconst 1, 1) := by decide +kernel
theorem d_M_runOp_137 : decode Y_M_runOp.2.1 137 = .ok (.iload 4, 2) := by decide +kernel
theorem d_M_runOp_139 : decode Y_M_runOp.2.1 139 = .ok (.iload_n 1, 1) := by decide +kernel
theorem d_M_runOp_140 : decode Y_M_runOp.2.1 140 = .ok (.invokevirtual 265, 3) := by decide +kernel
theorem d_M_runOp_143 : decode Y_M_runOp.2.1 143 = .ok (.aload_n 0, 1) := by decide +kernel
theorem d_M_runOp_144 : decode Y_M_runOp.2.1 144 = .ok (.iconst 2, 1) := by decide +kernel
theorem d_M_runOp_145 : decode Y_M_runOp.2.1 145 = .ok (.aload_n 0, 1) := by decide +kernel
theorem d_M_runOp_146 : decode Y_M_runOp.2.1 146 = .ok (.getfield 22, 3) := by decide +kernel
theorem d_M_runOp_149 : decode Y_M_runOp.2.1 149 = .ok (.iload 4, 2) := by decide +kernel
theorem d_M_runOp_151 : decode Y_M_runOp.2.1 151 = .ok (.iaload, 1) := by decide +kernel
theorem d_M_runOp_152 : decode Y_M_runOp.2.1 152 = .ok (.iload_n 1, 1) := by decide +kernel
theorem d_M_runOp_153 : decode Y_M_runOp.2.1 153 = .ok (.invokevirtual 265, 3) := by decide +kernel
theorem d_M_runOp_156 : decode Y_M_runOp.2.1 156 = .ok (.goto 140, 3) := by decide +kernel
theorem d_M_runOp_159 : decode Y_M_runOp.2.1 159 = .ok (.iconst 0, 1) := by decide +kernel
theorem d_M_runOp_160 : decode Y_M_runOp.2.1 160 = .ok (.istore 5, 2) := by decide +kernel
theorem d_M_runOp_162 : decode Y_M_runOp.2.1 162 = .ok (.iconst 0, 1) := by decide +kernel
theorem d_M_runOp_163 : decode Y_M_runOp.2.1 163 = .ok (.istore 6, 2) := by decide +kernel
theorem d_M_runOp_165 : decode Y_M_runOp.2.1 165 = .ok (.iload 6, 2) := by decide +kernel
theorem d_M_runOp_167 : decode Y_M_runOp.2.1 167 = .ok (.aload_n 0, 1) := by decide +kernel
theorem d_M_runOp_168 : decode Y_M_runOp.2.1 168 = .ok (.getfield 116, 3) := by decide +kernel
theorem d_M_runOp_171 : decode Y_M_runOp.2.1 171 = .ok (.iload_n 2, 1) := by decide +kernel
theorem d_M_runOp_172 : decode Y_M_runOp.2.1 172 = .ok (.iaload, 1) := by decide +kernel
theorem d_M_runOp_173 : decode Y_M_runOp.2.1 173 = .ok (.if_icmp .ge 37, 3) := by decide +kernel
theorem d_M_runOp_176 : decode Y_M_runOp.2.1 176 = .ok (.iload 5, 2) := by decide +kernel
theorem d_M_runOp_178 : decode Y_M_runOp.2.1 178 = .ok (.ifCond .ne 19, 3) := by decide +kernel
theorem d_M_runOp_181 : decode Y_M_runOp.2.1 181 = .ok (.aload_n 0, 1) := by decide +kernel
theorem d_M_runOp_182 : decode Y_M_runOp.2.1 182 = .ok (.getfield 113, 3) := by decide +kernel
theorem d_M_runOp_185 : decode Y_M_runOp.2.1 185 = .ok (.bipush 48, 2) := by decide +kernel
theorem d_M_runOp_187 : decode Y_M_runOp.2.1 187 = .ok (.iload_n 2, 1) := by decide +kernel
theorem d_M_runOp_188 : decode Y_M_runOp.2.1 188 = .ok (.imul, 1) := by decide +kernel
theorem d_M_runOp_189 : decode Y_M_runOp.2.1 189 = .ok (.iload 6, 2) := by decide +kernel
theorem d_M_runOp_191 : decode Y_M_runOp.2.1 191 = .ok (.iadd, 1) := by decide +kernel
theorem d_M_runOp_192 : decode Y_M_runOp.2.1 192 = .ok (.iaload, 1) := by decide +kernel
theorem d_M_runOp_193 : decode Y_M_runOp.2.1 193 = .ok (.iload_n 3, 1) := by decide +kernel
theorem d_M_runOp_194 : decode Y_M_runOp.2.1 194 = .ok (.if_icmp .ne 7, 3) := by decide +kernel
theorem d_M_runOp_197 : decode Y_M_runOp.2.1 197 = .ok (.iconst 1, 1) := by decide +kernel
theorem d_M_runOp_198 : decode Y_M_runOp.2.1 198 = .ok (.goto 4, 3) := by decide +kernel
theorem d_M_runOp_201 : decode Y_M_runOp.2.1 201 = .ok (.iconst 0, 1) := by decide +kernel
theorem d_M_runOp_202 : decode Y_M_runOp.2.1 202 = .ok (.istore 5, 2) := by decide +kernel
theorem d_M_runOp_204 : decode Y_M_runOp.2.1 204 = .ok (.iinc 6 1, 3) := by decide +kernel
theorem d_M_runOp_207 : decode Y_M_runOp.2.1 207 = .ok (.goto (-42), 3) := by decide +kernel
theorem d_M_runOp_210 : decode Y_M_runOp.2.1 210 = .ok (.iload 5, 2) := by decide +kernel
theorem d_M_runOp_212 : decode Y_M_runOp.2.1 212 = .ok (.ifCond .ne 84, 3) := by decide +kernel
theorem d_M_runOp_215 : decode Y_M_runOp.2.1 215 = .ok (.aload_n 0, 1) := by decide +kernel
theorem d_M_runOp_216 : decode Y_M_runOp.2.1 216 = .ok (.getfield 113, 3) := by decide +kernel
theorem d_M_runOp_219 : decode Y_M_runOp.2.1 219 = .ok (.bipush 48, 2) := by decide +kernel
theorem d_M_runOp_221 : decode Y_M_runOp.2.1 221 = .ok (.iload_n 2, 1) := by decide +kernel
theorem d_M_runOp_222 : decode Y_M_runOp.2.1 222 = .ok (.imul, 1) := by decide +kernel
theorem d_M_runOp_223 : decode Y_M_runOp.2.1 223 = .ok (.aload_n 0, 1) := by decide +kernel
theorem d_M_runOp_224 : decode Y_M_runOp.2.1 224 = .ok (.getfield 116, 3) := by decide +kernel
theorem d_M_runOp_227 : decode Y_M_runOp.2.1 227 = .ok (.iload_n 2, 1) := by decide +kernel
theorem d_M_runOp_228 : decode Y_M_runOp.2.1 228 = .ok (.iaload, 1) := by decide +kernel
theorem d_M_runOp_229 : decode Y_M_runOp.2.1 229 = .ok (.iadd, 1) := by decide +kernel
theorem d_M_runOp_230 : decode Y_M_runOp.2.1 230 = .ok (.iload_n 3, 1) := by decide +kernel
theorem d_M_runOp_231 : decode Y_M_runOp.2.1 231 = .ok (.iastore, 1) := by decide +kernel
theorem d_M_runOp_232 : decode Y_M_runOp.2.1 232 = .ok (.aload_n 0, 1) := by decide +kernel
theorem d_M_runOp_233 : decode Y_M_runOp.2.1 233 = .ok (.getfield 116, 3) := by decide +kernel
theorem d_M_runOp_236 : decode Y_M_runOp.2.1 236 = .ok (.iload_n 2, 1) := by decide +kernel
theorem d_M_runOp_237 : decode Y_M_runOp.2.1 237 = .ok (.dup2, 1) := by decide +kernel
theorem d_M_runOp_238 : decode Y_M_runOp.2.1 238 = .ok (.iaload, 1) := by decide +kernel
theorem d_M_runOp_239 : decode Y_M_runOp.2.1 239 = .ok (.iconst 1, 1) := by decide +kernel
theorem d_M_runOp_240 : decode Y_M_runOp.2.1 240 = .ok (.iadd, 1) := by decide +kernel
theorem d_M_runOp_241 : decode Y_M_runOp.2.1 241 = .ok (.iastore, 1) := by decide +kernel
theorem d_M_runOp_242 : decode Y_M_runOp.2.1 242 = .ok (.goto 54, 3) := by decide +kernel
theorem d_M_runOp_245 : decode Y_M_runOp.2.1 245 = .ok (.aload_n 0, 1) := by decide +kernel
theorem d_M_runOp_246 : decode Y_M_runOp.2.1 246 = .ok (.getfield 116, 3) := by decide +kernel
theorem d_M_runOp_249 : decode Y_M_runOp.2.1 249 = .ok (.iload_n 2, 1) := by decide +kernel
theorem d_M_runOp_250 : decode Y_M_runOp.2.1 250 = .ok (.iaload, 1) := by decide +kernel
theorem d_M_runOp_251 : decode Y_M_runOp.2.1 251 = .ok (.ifCond .le 45, 3) := by decide +kernel
theorem d_M_runOp_254 : decode Y_M_runOp.2.1 254 = .ok (.aload_n 0, 1) := by decide +kernel
theorem d_M_runOp_255 : decode Y_M_runOp.2.1 255 = .ok (.iconst 1, 1) := by decide +kernel
theorem d_M_runOp_256 : decode Y_M_runOp.2.1 256 = .ok (.aload_n 0, 1) := by decide +kernel
theorem d_M_runOp_257 : decode Y_M_runOp.2.1 257 = .ok (.getfield 113, 3) := by decide +kernel
theorem d_M_runOp_260 : decode Y_M_runOp.2.1 260 = .ok (.bipush 48, 2) := by decide +kernel
theorem d_M_runOp_262 : decode Y_M_runOp.2.1 262 = .ok (.iload_n 2, 1) := by decide +kernel
theorem d_M_runOp_263 : decode Y_M_runOp.2.1 263 = .ok (.imul, 1) := by decide +kernel
theorem d_M_runOp_264 : decode Y_M_runOp.2.1 264 = .ok (.aload_n 0, 1) := by decide +kernel
theorem d_M_runOp_265 : decode Y_M_runOp.2.1 265 = .ok (.aload_n 0, 1) := by decide +kernel
theorem d_M_runOp_266 : decode Y_M_runOp.2.1 266 = .ok (.getfield 116, 3) := by decide +kernel
theorem d_M_runOp_269 : decode Y_M_runOp.2.1 269 = .ok (.iload_n 2, 1) := by decide +kernel
theorem d_M_runOp_270 : decode Y_M_runOp.2.1 270 = .ok (.iaload, 1) := by decide +kernel
theorem d_M_runOp_271 : decode Y_M_runOp.2.1 271 = .ok (.invokevirtual 271, 3) := by decide +kernel
theorem d_M_runOp_274 : decode Y_M_runOp.2.1 274 = .ok (.iadd, 1) := by decide +kernel
theorem d_M_runOp_275 : decode Y_M_runOp.2.1 275 = .ok (.iaload, 1) := by decide +kernel
theorem d_M_runOp_276 : decode Y_M_runOp.2.1 276 = .ok (.iload_n 1, 1) := by decide +kernel
theorem d_M_runOp_277 : decode Y_M_runOp.2.1 277 = .ok (.invokevirtual 265, 3) := by decide +kernel
theorem d_M_runOp_280 : decode Y_M_runOp.2.1 280 = .ok (.goto 16, 3) := by decide +kernel
theorem d_M_runOp_283 : decode Y_M_runOp.2.1 283 = .ok (.aload_n 0, 1) := by decide +kernel
theorem d_M_runOp_284 : decode Y_M_runOp.2.1 284 = .ok (.iload_n 1, 1) := by decide +kernel
theorem d_M_runOp_285 : decode Y_M_runOp.2.1 285 = .ok (.invokevirtual 274, 3) := by decide +kernel
theorem d_M_runOp_288 : decode Y_M_runOp.2.1 288 = .ok (.goto 8, 3) := by decide +kernel
theorem d_M_runOp_291 : decode Y_M_runOp.2.1 291 = .ok (.aload_n 0, 1) := by decide +kernel
theorem d_M_runOp_292 : decode Y_M_runOp.2.1 292 = .ok (.iload_n 1, 1) := by decide +kernel
theorem d_M_runOp_293 : decode Y_M_runOp.2.1 293 = .ok (.invokevirtual 277, 3) := by decide +kernel
theorem d_M_runOp_296 : decode Y_M_runOp.2.1 296 = .ok (.return_, 1) := by decide +kernel
theorem m_M_runOp_0 {l : Launch} {D : DD} {d kc ks : Nat} {h : Hp} {Φ : Option AV → Hp → Prop} {x1 : Int} (hM : MS h) (v : 0 ≤ x1 ∧ x1 < 160 ∧ (0 ≤ x1 ∧ x1 < 160 ∧ (0 ≤ x1 ∧ x1 < 160 ∧ ((xI h 114 (x1).toNat = (0 : Int) → (Ev l D Y_M_push d 0 0 0 [some (vr 100), some (vi (3 : Int)), some (vi (xI h 115 (x1).toNat)), some (vi x1)] [] h (kv (fun h1 => MS h1 ∧ (Ev l D Y_M_push d 0 0 0 [some (vr 100), some (vi (2 : Int)), some (vi (xI h 115 (x1).toNat)), some (vi x1)] [] h1 (kv (fun h2 => MS h2 ∧ (Φ none h2)))))))) ∧ (xI h 114 (x1).toNat = (1 : Int) → (Ev l D Y_M_runCall d 0 0 0 [some (vr 100), some (vi x1), none, none, none, none, none] [] h (kv (fun h3 => MS h3 ∧ (Φ none h3))))) ∧ (xI h 114 (x1).toNat = (2 : Int) → (Ev l D Y_M_chosenOf d 0 0 0 [some (vr 100), some (vi (xI h 115 (x1).toNat)), some (vi (xI h 115 (x1).toNat)), some (vi (xI h 116 (x1).toNat)), none] [] h (ki (fun r1 h4 => MS h4 ∧ ((r1 < 0 → (Φ none h4)) ∧ (r1 ≥ 0 → (Ev l D Y_M_push d 0 0 0 [some (vr 100), some (vi (1 : Int)), some (vi r1), some (vi x1)] [] h4 (kv (fun h5 => MS h5 ∧ (Φ none h5)))))))))) ∧ (xI h 114 (x1).toNat = (3 : Int) → (Ev l D Y_M_find d 0 0 0 [some (vr 100), some (vi (xI h 115 (x1).toNat)), some (vi (xI h 116 (x1).toNat)), none, none, none, none, none] [] h (ki (fun r2 h6 => MS h6 ∧ ((r2 = (-1 : Int) → (Φ none h6)) ∧ (¬ r2 = (-1 : Int) → (0 ≤ r2 ∧ r2 < 48 ∧ ((¬ xI h6 109 (r2).toNat = (2 : Int) → (Φ none h6)) ∧ (xI h6 109 (r2).toNat = (2 : Int) → (Ev l D Y_M_push d 0 0 0 [some (vr 100), some (vi (1 : Int)), some (vi r2), some (vi x1)] [] h6 (kv (fun h7 => MS h7 ∧ (0 ≤ r2 ∧ r2 < 48 ∧ (Ev l D Y_M_push d 0 0 0 [some (vr 100), some (vi (2 : Int)), some (vi (xI h7 107 (r2).toNat)), some (vi x1)] [] h7 (kv (fun h8 => MS h8 ∧ (Φ none h8))))))))))))))))) ∧ (xI h 114 (x1).toNat = (4 : Int) → (Ev l D Y_M_runCall d 0 0 0 [some (vr 100), some (vi x1), none, none, none, none, none] [] h (kv (fun h9 => MS h9 ∧ (Φ none h9))))) ∧ (xI h 114 (x1).toNat = (5 : Int) → (Ev l D Y_M_runOp (d + 1) kc ks 165 [some (vr 100), some (vi x1), some (vi (xI h 115 (x1).toNat)), some (vi (xI h 116 (x1).toNat)), some (vi (-1 : Int)), some (vi (0 : Int)), some (vi (0 : Int))] [] h Φ)) ∧ (xI h 114 (x1).toNat = (6 : Int) → (0 ≤ xI h 115 (x1).toNat ∧ xI h 115 (x1).toNat < 4 ∧ ((xI h 150 (xI h 115 (x1).toNat).toNat ≤ 0 → (Φ none h)) ∧ (xI h 150 (xI h 115 (x1).toNat).toNat > 0 → (0 ≤ xI h 115 (x1).toNat ∧ xI h 115 (x1).toNat < 4 ∧ (Ev l D Y_M_draw d 0 0 0 [some (vr 100), some (vi (xI h 150 (xI h 115 (x1).toNat).toNat))] [] h (ki (fun r3 h10 => MS h10 ∧ (0 ≤ wr ((wr ((48 : Int) * (xI h 115 (x1).toNat))) + r3) ∧ wr ((wr ((48 : Int) * (xI h 115 (x1).toNat))) + r3) < 192 ∧ (Ev l D Y_M_push d 0 0 0 [some (vr 100), some (vi (1 : Int)), some (vi (xI h10 149 (wr ((wr ((48 : Int) * (xI h 115 (x1).toNat))) + r3)).toNat)), some (vi x1)] [] h10 (kv (fun h11 => MS h11 ∧ (Φ none h11))))))))))))) ∧ (xI h 114 (x1).toNat = (7 : Int) → (Ev l D Y_M_runAny d 0 0 0 [some (vr 100), some (vi x1), none, none, none] [] h (kv (fun h12 => MS h12 ∧ (Φ none h12))))) ∧ (xI h 114 (x1).toNat < (0 : Int) ∨ (7 : Int) < xI h 114 (x1).toNat → (Ev l D Y_M_runCall d 0 0 0 [some (vr 100), some (vi x1), none, none, none, none, none] [] h (kv (fun h13 => MS h13 ∧ (Φ none h13))))))))) : Ev l D Y_M_runOp (d + 1) kc ks 0 [some (vr 100), some (vi x1), none, none, none, none, none] [] h Φ := by
  refine a_aload_n d_M_runOp_0 rfl ?_
  refine a_getAe fl_M_44 d_M_runOp_1 (beq_iff_eq.mpr (KNM_100 hM)) (KRM_100_14 hM) ?_
  refine a_iload_n d_M_runOp_4 rfl ?_
  obtain ⟨c2, c3, v⟩ := v
  refine a_iald d_M_runOp_5 (Or.inl (KNM_115 hM)) c2 (lt_len (NNM_115 hM) c3) ?_
  refine a_istore_n (L' := [some (vr 100), some (vi x1), some (vi (xI h 115 (x1).toNat)), none, none, none, none]) d_M_runOp_6 (Nat.le_of_ble_eq_true rfl) rfl rfl ?_
  refine a_aload_n d_M_runOp_7 rfl ?_
  refine a_getAe fl_M_47 d_M_runOp_8 (beq_iff_eq.mpr (KNM_100 hM)) (KRM_100_15 hM) ?_
  refine a_iload_n d_M_runOp_11 rfl ?_
  obtain ⟨c5, c6, v⟩ := v
  refine a_iald d_M_runOp_12 (Or.inl (KNM_116 hM)) c5 (lt_len (NNM_116 hM) c6) ?_
  refine a_istore_n (L' := [some (vr 100), some (vi x1), some (vi (xI h 115 (x1).toNat)), some (vi (xI h 116 (x1).toNat)), none, none, none]) d_M_runOp_13 (Nat.le_of_ble_eq_true rfl) rfl rfl ?_
  refine a_iconst d_M_runOp_14 ⟨by decide, by decide⟩ ?_
  refine a_istore (L' := [some (vr 100), some (vi x1), some (vi (xI h 115 (x1).toNat)), some (vi (xI h 116 (x1).toNat)), some (vi (-1 : Int)), none, none]) d_M_runOp_15 (Nat.le_of_ble_eq_true rfl) rfl rfl ?_
  refine a_aload_n d_M_runOp_17 rfl ?_
  refine a_getAe fl_M_41 d_M_runOp_18 (beq_iff_eq.mpr (KNM_100 hM)) (KRM_100_13 hM) ?_
  refine a_iload_n d_M_runOp_21 rfl ?_
  obtain ⟨c8, c9, v⟩ := v
  refine a_iald d_M_runOp_22 (Or.inl (KNM_114 hM)) c8 (lt_len (NNM_114 hM) c9) ?_
  obtain ⟨v0, v1, v2, v3, v4, v5, v6, v7, vd⟩ := v
  refine a_tab (tgt := 291) [68, 291, 85, 110, 291, 159, 245, 283] d_M_runOp_23 (by decide) (by decide) (by decide) (fun c => ?_) (fun i t hi c => ?_)
  · have v := vd c; clear vd v0 v1 v2 v3 v4 v5 v6 v7
    refine a_aload_n d_M_runOp_291 rfl ?_
    refine a_iload_n d_M_runOp_292 rfl ?_
    refine b_callV (as := [vi x1]) (b := 100) (st := []) (kd := 12) (kc1 := 0) (ks1 := 0) (kc2 := kc) (ks2 := ks) (d' := d) ml_M_277 rfl d_M_runOp_293 rfl rfl (Nat.le_of_ble_eq_true rfl) (by decide) rfl (Nat.le_refl _) (by omega) (by omega) (KNM_100 hM) ?_
    refine Ev.mono v ?_
    intro u h13 v
    obtain ⟨rfl, v⟩ := kv_el v
    obtain ⟨hm13, v⟩ := v
    change Ev l D Y_M_runOp _ _ _ 296 [some (vr 100), some (vi x1), some (vi (xI h 115 (x1).toNat)), some (vi (xI h 116 (x1).toNat)), some (vi (-1 : Int)), none, none] [] _ _
    exact a_vret d_M_runOp_296 rfl v
  · match i, hi, c with
    | 0, hi, c =>
      obtain rfl : 68 = t := Option.some.inj hi
      have v := v0 (by omega); clear vd v0 v1 v2 v3 v4 v5 v6 v7
      refine a_aload_n d_M_runOp_68 rfl ?_
      refine a_iconst d_M_runOp_69 ⟨by decide, by decide⟩ ?_
      refine a_iload_n d_M_runOp_70 rfl ?_
      refine a_iload_n d_M_runOp_71 rfl ?_
      refine b_callV (as := [vi (3 : Int), vi (xI h 115 (x1).toNat), vi x1]) (b := 100) (st := []) (kd := 12) (kc1 := 0) (ks1 := 0) (kc2 := kc) (ks2 := ks) (d' := d) ml_M_265 rfl d_M_runOp_72 rfl rfl (Nat.le_of_ble_eq_true rfl) (by decide) rfl (Nat.le_refl _) (by omega) (by omega) (KNM_100 hM) ?_
      refine Ev.mono v ?_
      intro u h1 v
      obtain ⟨rfl, v⟩ := kv_el v
      obtain ⟨hm1, v⟩ := v
      change Ev l D Y_M_runOp _ _ _ 75 [some (vr 100), some (vi x1), some (vi (xI h 115 (x1).toNat)), some (vi (xI h 116 (x1).toNat)), some (vi (-1 : Int)), none, none] [] _ _
      refine a_aload_n d_M_runOp_75 rfl ?_
      refine a_iconst d_M_runOp_76 ⟨by decide, by decide⟩ ?_
      refine a_iload_n d_M_runOp_77 rfl ?_
      refine a_iload_n d_M_runOp_78 rfl ?_
      refine b_callV (as := [vi (2 : Int), vi (xI h 115 (x1).toNat), vi x1]) (b := 100) (st := []) (kd := 12) (kc1 := 0) (ks1 := 0) (kc2 := kc) (ks2 := ks) (d' := d) ml_M_265 rfl d_M_runOp_79 rfl rfl (Nat.le_of_ble_eq_true rfl) (by decide) rfl (Nat.le_refl _) (by omega) (by omega) (KNM_100 hm1) ?_
      refine Ev.mono v ?_
      intro u h2 v
      obtain ⟨rfl, v⟩ := kv_el v
      obtain ⟨hm2, v⟩ := v
      change Ev l D Y_M_runOp _ _ _ 82 [some (vr 100), some (vi x1), some (vi (xI h 115 (x1).toNat)), some (vi (xI h 116 (x1).toNat)), some (vi (-1 : Int)), none, none] [] _ _
      refine a_goto (tgt := 296) d_M_runOp_82 (by decide) ?_
      exact a_vret d_M_runOp_296 rfl v
    | 1, hi, c =>
      obtain rfl : 291 = t := Option.some.inj hi
      have v := v1 (by omega); clear vd v0 v1 v2 v3 v4 v5 v6 v7
      refine a_aload_n d_M_runOp_291 rfl ?_
      refine a_iload_n d_M_runOp_292 rfl ?_
      refine b_callV (as := [vi x1]) (b := 100) (st := []) (kd := 12) (kc1 := 0) (ks1 := 0) (kc2 := kc) (ks2 := ks) (d' := d) ml_M_277 rfl d_M_runOp_293 rfl rfl (Nat.le_of_ble_eq_true rfl) (by decide) rfl (Nat.le_refl _) (by omega) (by omega) (KNM_100 hM) ?_
      refine Ev.mono v ?_
      intro u h3 v
      obtain ⟨rfl, v⟩ := kv_el v
      obtain ⟨hm3, v⟩ := v
      change Ev l D Y_M_runOp _ _ _ 296 [some (vr 100), some (vi x1), some (vi (xI h 115 (x1).toNat)), some (vi (xI h 116 (x1).toNat)), some (vi (-1 : Int)), none, none] [] _ _
      exact a_vret d_M_runOp_296 rfl v
    | 2, hi, c =>
      obtain rfl : 85 = t := Option.some.inj hi
      have v := v2 (by omega); clear vd v0 v1 v2 v3 v4 v5 v6 v7
      refine a_aload_n d_M_runOp_85 rfl ?_
      refine a_iload_n d_M_runOp_86 rfl ?_
      refine a_iload_n d_M_runOp_87 rfl ?_
      refine a_iload_n d_M_runOp_88 rfl ?_
      refine b_callV (as := [vi (xI h 115 (x1).toNat), vi (xI h 115 (x1).toNat), vi (xI h 116 (x1).toNat)]) (b := 100) (st := []) (kd := 12) (kc1 := 0) (ks1 := 0) (kc2 := kc) (ks2 := ks) (d' := d) ml_M_179 rfl d_M_runOp_89 rfl rfl (Nat.le_of_ble_eq_true rfl) (by decide) rfl (Nat.le_refl _) (by omega) (by omega) (KNM_100 hM) ?_
      refine Ev.mono v ?_
      intro u h4 v
      obtain ⟨r1, rfl, v⟩ := ki_el v
      obtain ⟨hm4, v⟩ := v
      change Ev l D Y_M_runOp _ _ _ 92 [some (vr 100), some (vi x1), some (vi (xI h 115 (x1).toNat)), some (vi (xI h 116 (x1).toNat)), some (vi (-1 : Int)), none, none] [vi r1] _ _
      refine a_istore (L' := [some (vr 100), some (vi x1), some (vi (xI h 115 (x1).toNat)), some (vi (xI h 116 (x1).toNat)), some (vi r1), none, none]) d_M_runOp_92 (Nat.le_of_ble_eq_true rfl) rfl rfl ?_
      refine a_iload d_M_runOp_94 rfl ?_
      obtain ⟨vt, vf⟩ := v
      refine a_if_lt (tgt := 296) d_M_runOp_96 (by decide) (fun c => ?_) (fun c => ?_)
      · have v := vt (c); clear vt vf
        exact a_vret d_M_runOp_296 rfl v
      · have v := vf (Int.not_lt.mp c); clear vt vf
        refine a_aload_n d_M_runOp_99 rfl ?_
        refine a_iconst d_M_runOp_100 ⟨by decide, by decide⟩ ?_
        refine a_iload d_M_runOp_101 rfl ?_
        refine a_iload_n d_M_runOp_103 rfl ?_
        refine b_callV (as := [vi (1 : Int), vi r1, vi x1]) (b := 100) (st := []) (kd := 12) (kc1 := 0) (ks1 := 0) (kc2 := kc) (ks2 := ks) (d' := d) ml_M_265 rfl d_M_runOp_104 rfl rfl (Nat.le_of_ble_eq_true rfl) (by decide) rfl (Nat.le_refl _) (by omega) (by omega) (KNM_100 hm4) ?_
        refine Ev.mono v ?_
        intro u h5 v
        obtain ⟨rfl, v⟩ := kv_el v
        obtain ⟨hm5, v⟩ := v
        change Ev l D Y_M_runOp _ _ _ 107 [some (vr 100), some (vi x1), some (vi (xI h 115 (x1).toNat)), some (vi (xI h 116 (x1).toNat)), some (vi r1), none, none] [] _ _
        refine a_goto (tgt := 296) d_M_runOp_107 (by decide) ?_
        exact a_vret d_M_runOp_296 rfl v
    | 3, hi, c =>
      obtain rfl : 110 = t := Option.some.inj hi
      have v := v3 (by omega); clear vd v0 v1 v2 v3 v4 v5 v6 v7
      refine a_aload_n d_M_runOp_110 rfl ?_
      refine a_iload_n d_M_runOp_111 rfl ?_
      refine a_iload_n d_M_runOp_112 rfl ?_
      refine b_callV (as := [vi (xI h 115 (x1).toNat), vi (xI h 116 (x1).toNat)]) (b := 100) (st := []) (kd := 12) (kc1 := 0) (ks1 := 0) (kc2 := kc) (ks2 := ks) (d' := d) ml_M_173 rfl d_M_runOp_113 rfl rfl (Nat.le_of_ble_eq_true rfl) (by decide) rfl (Nat.le_refl _) (by omega) (by omega) (KNM_100 hM) ?_
      refine Ev.mono v ?_
      intro u h6 v
      obtain ⟨r2, rfl, v⟩ := ki_el v
      obtain ⟨hm6, v⟩ := v
      change Ev l D Y_M_runOp _ _ _ 116 [some (vr 100), some (vi x1), some (vi (xI h 115 (x1).toNat)), some (vi (xI h 116 (x1).toNat)), some (vi (-1 : Int)), none, none] [vi r2] _ _
      refine a_istore (L' := [some (vr 100), some (vi x1), some (vi (xI h 115 (x1).toNat)), some (vi (xI h 116 (x1).toNat)), some (vi r2), none, none]) d_M_runOp_116 (Nat.le_of_ble_eq_true rfl) rfl rfl ?_
      refine a_iload d_M_runOp_118 rfl ?_
      refine a_iconst d_M_runOp_120 ⟨by decide, by decide⟩ ?_
      obtain ⟨vt, vf⟩ := v
      refine a_icmp_eq (tgt := 296) d_M_runOp_121 (by decide) (fun c => ?_) (fun c => ?_)
      · have v := vt (c); clear vt vf
        exact a_vret d_M_runOp_296 rfl v
      · have v := vf (c); clear vt vf
        refine a_aload_n d_M_runOp_124 rfl ?_
        refine a_getAe fl_M_28 d_M_runOp_125 (beq_iff_eq.mpr (KNM_100 hm6)) (KRM_100_8 hm6) ?_
        refine a_iload d_M_runOp_128 rfl ?_
        obtain ⟨c16, c17, v⟩ := v
        refine a_iald d_M_runOp_130 (Or.inl (KNM_109 hm6)) c16 (lt_len (NNM_109 hm6) c17) ?_
        refine a_iconst d_M_runOp_131 ⟨by decide, by decide⟩ ?_
        obtain ⟨vt, vf⟩ := v
        refine a_icmp_ne (tgt := 296) d_M_runOp_132 (by decide) (fun c => ?_) (fun c => ?_)
        · have v := vt (c); clear vt vf
          exact a_vret d_M_runOp_296 rfl v
        · have v := vf (Classical.not_not.mp c); clear vt vf
          refine a_aload_n d_M_runOp_135 rfl ?_
          refine a_iconst d_M_runOp_136 ⟨by decide, by decide⟩ ?_
          refine a_iload d_M_runOp_137 rfl ?_
          refine a_iload_n d_M_runOp_139 rfl ?_
          refine b_callV (as := [vi (1 : Int), vi r2, vi x1]) (b := 100) (st := []) (kd := 12) (kc1 := 0) (ks1 := 0) (kc2 := kc) (ks2 := ks) (d' := d) ml_M_265 rfl d_M_runOp_140 rfl rfl (Nat.le_of_ble_eq_true rfl) (by decide) rfl (Nat.le_refl _) (by omega) (by omega) (KNM_100 hm6) ?_
          refine Ev.mono v ?_
          intro u h7 v
          obtain ⟨rfl, v⟩ := kv_el v
          obtain ⟨hm7, v⟩ := v
          change Ev l D Y_M_runOp _ _ _ 143 [some (vr 100), some (vi x1), some (vi (xI h 115 (x1).toNat)), some (vi (xI h 116 (x1).toNat)), some (vi r2), none, none] [] _ _
          refine a_aload_n d_M_runOp_143 rfl ?_
          refine a_iconst d_M_runOp_144 ⟨by decide, by decide⟩ ?_
          refine a_aload_n d_M_runOp_145 rfl ?_
          refine a_getAe fl_M_22 d_M_runOp_146 (beq_iff_eq.mpr (KNM_100 hm7)) (KRM_100_6 hm7) ?_
          refine a_iload d_M_runOp_149 rfl ?_
          obtain ⟨c19, c20, v⟩ := v
          refine a_iald d_M_runOp_151 (Or.inl (KNM_107 hm7)) c19 (lt_len (NNM_107 hm7) c20) ?_
          refine a_iload_n d_M_runOp_152 rfl ?_
          refine b_callV (as := [vi (2 : Int), vi (xI h7 107 (r2).toNat), vi x1]) (b := 100) (st := []) (kd := 12) (kc1 := 0) (ks1 := 0) (kc2 := kc) (ks2 := ks) (d' := d) ml_M_265 rfl d_M_runOp_153 rfl rfl (Nat.le_of_ble_eq_true rfl) (by decide) rfl (Nat.le_refl _) (by omega) (by omega) (KNM_100 hm7) ?_
          refine Ev.mono v ?_
          intro u h8 v
          obtain ⟨rfl, v⟩ := kv_el v
          obtain ⟨hm8, v⟩ := v
          change Ev l D Y_M_runOp _ _ _ 156 [some (vr 100), some (vi x1), some (vi (xI h 115 (x1).toNat)), some (vi (xI h 116 (x1).toNat)), some (vi r2), none, none] [] _ _
          refine a_goto (tgt := 296) d_M_runOp_156 (by decide) ?_
          exact a_vret d_M_runOp_296 rfl v
    | 4, hi, c =>
      obtain rfl : 291 = t := Option.some.inj hi
      have v := v4 (by omega); clear vd v0 v1 v2 v3 v4 v5 v6 v7
      refine a_aload_n d_M_runOp_291 rfl ?_
      refine a_iload_n d_M_runOp_292 rfl ?_
      refine b_callV (as := [vi x1]) (b := 100) (st := []) (kd := 12) (kc1 := 0) (ks1 := 0) (kc2 := kc) (ks2 := ks) (d' := d) ml_M_277 rfl d_M_runOp_293 rfl rfl (Nat.le_of_ble_eq_true rfl) (by decide) rfl (Nat.le_refl _) (by omega) (by omega) (KNM_100 hM) ?_
      refine Ev.mono v ?_
      intro u h9 v
      obtain ⟨rfl, v⟩ := kv_el v
      obtain ⟨hm9, v⟩ := v
      change Ev l D Y_M_runOp _ _ _ 296 [some (vr 100), some (vi x1), some (vi (xI h 115 (x1).toNat)), some (vi (xI h 116 (x1).toNat)), some (vi (-1 : Int)), none, none] [] _ _
      exact a_vret d_M_runOp_296 rfl v
    | 5, hi, c =>
      obtain rfl : 159 = t := Option.some.inj hi
      have v := v5 (by omega); clear vd v0 v1 v2 v3 v4 v5 v6 v7
      refine a_iconst d_M_runOp_159 ⟨by decide, by decide⟩ ?_
      refine a_istore (L' := [some (vr 100), some (vi x1), some (vi (xI h 115 (x1).toNat)), some (vi (xI h 116 (x1).toNat)), some (vi (-1 : Int)), some (vi (0 : Int)), none]) d_M_runOp_160 (Nat.le_of_ble_eq_true rfl) rfl rfl ?_
      refine a_iconst d_M_runOp_162 ⟨by decide, by decide⟩ ?_
      refine a_istore (L' := [some (vr 100), some (vi x1), some (vi (xI h 115 (x1).toNat)), some (vi (xI h 116 (x1).toNat)), some (vi (-1 : Int)), some (vi (0 : Int)), some (vi (0 : Int))]) d_M_runOp_163 (Nat.le_of_ble_eq_true rfl) rfl rfl ?_
      exact v
    | 6, hi, c =>
      obtain rfl : 245 = t := Option.some.inj hi
      have v := v6 (by omega); clear vd v0 v1 v2 v3 v4 v5 v6 v7
      refine a_aload_n d_M_runOp_245 rfl ?_
      refine a_getAe fl_M_116 d_M_runOp_246 (beq_iff_eq.mpr (KNM_100 hM)) (KRM_100_49 hM) ?_
      refine a_iload_n d_M_runOp_249 rfl ?_
      obtain ⟨c26, c27, v⟩ := v
      refine a_iald d_M_runOp_250 (Or.inl (KNM_150 hM)) c26 (lt_len (NNM_150 hM) c27) ?_
      obtain ⟨vt, vf⟩ := v
      refine a_if_le (tgt := 296) d_M_runOp_251 (by decide) (fun c => ?_) (fun c => ?_)
      · have v := vt (c); clear vt vf
        exact a_vret d_M_runOp_296 rfl v
      · have v := vf (Int.not_le.mp c); clear vt vf
        refine a_aload_n d_M_runOp_254 rfl ?_
        refine a_iconst d_M_runOp_255 ⟨by decide, by decide⟩ ?_
        refine a_aload_n d_M_runOp_256 rfl ?_
        refine a_getAe fl_M_113 d_M_runOp_257 (beq_iff_eq.mpr (KNM_100 hM)) (KRM_100_48 hM) ?_
        refine a_bipush d_M_runOp_260 ⟨by decide, by decide⟩ (by decide) ?_
        refine a_iload_n d_M_runOp_262 rfl ?_
        refine a_imul d_M_runOp_263 ?_
        refine a_aload_n d_M_runOp_264 rfl ?_
        refine a_aload_n d_M_runOp_265 rfl ?_
        refine a_getAe fl_M_116 d_M_runOp_266 (beq_iff_eq.mpr (KNM_100 hM)) (KRM_100_49 hM) ?_
        refine a_iload_n d_M_runOp_269 rfl ?_
        obtain ⟨c29, c30, v⟩ := v
        refine a_iald d_M_runOp_270 (Or.inl (KNM_150 hM)) c29 (lt_len (NNM_150 hM) c30) ?_
        refine b_callV (as := [vi (xI h 150 (xI h 115 (x1).toNat).toNat)]) (b := 100) (st := [vi (wr ((48 : Int) * (xI h 115 (x1).toNat))), vr 149, vi (1 : Int), vr 100]) (kd := 12) (kc1 := 0) (ks1 := 0) (kc2 := kc) (ks2 := ks) (d' := d) ml_M_271 rfl d_M_runOp_271 rfl rfl (Nat.le_of_ble_eq_true rfl) (by decide) rfl (Nat.le_refl _) (by omega) (by omega) (KNM_100 hM) ?_
        refine Ev.mono v ?_
        intro u h10 v
        obtain ⟨r3, rfl, v⟩ := ki_el v
        obtain ⟨hm10, v⟩ := v
        change Ev l D Y_M_runOp _ _ _ 274 [some (vr 100), some (vi x1), some (vi (xI h 115 (x1).toNat)), some (vi (xI h 116 (x1).toNat)), some (vi (-1 : Int)), none, none] [vi r3, vi (wr ((48 : Int) * (xI h 115 (x1).toNat))), vr 149, vi (1 : Int), vr 100] _ _
        refine a_iadd d_M_runOp_274 ?_
        obtain ⟨c32, c33, v⟩ := v
        refine a_iald d_M_runOp_275 (Or.inl (KNM_149 hm10)) c32 (lt_len (NNM_149 hm10) c33) ?_
        refine a_iload_n d_M_runOp_276 rfl ?_
        refine b_callV (as := [vi (1 : Int), vi (xI h10 149 (wr ((wr ((48 : Int) * (xI h 115 (x1).toNat))) + r3)).toNat), vi x1]) (b := 100) (st := []) (kd := 12) (kc1 := 0) (ks1 := 0) (kc2 := kc) (ks2 := ks) (d' := d) ml_M_265 rfl d_M_runOp_277 rfl rfl (Nat.le_of_ble_eq_true rfl) (by decide) rfl (Nat.le_refl _) (by omega) (by omega) (KNM_100 hm10) ?_
        refine Ev.mono v ?_
        intro u h11 v
        obtain ⟨rfl, v⟩ := kv_el v
        obtain ⟨hm11, v⟩ := v
        change Ev l D Y_M_runOp _ _ _ 280 [some (vr 100), some (vi x1), some (vi (xI h 115 (x1).toNat)), some (vi (xI h 116 (x1).toNat)), some (vi (-1 : Int)), none, none] [] _ _
        refine a_goto (tgt := 296) d_M_runOp_280 (by decide) ?_
        exact a_vret d_M_runOp_296 rfl v
    | 7, hi, c =>
      obtain rfl : 283 = t := Option.some.inj hi
      have v := v7 (by omega); clear vd v0 v1 v2 v3 v4 v5 v6 v7
      refine a_aload_n d_M_runOp_283 rfl ?_
      refine a_iload_n d_M_runOp_284 rfl ?_
      refine b_callV (as := [vi x1]) (b := 100) (st := []) (kd := 12) (kc1 := 0) (ks1 := 0) (kc2 := kc) (ks2 := ks) (d' := d) ml_M_274 rfl d_M_runOp_285 rfl rfl (Nat.le_of_ble_eq_true rfl) (by decide) rfl (Nat.le_refl _) (by omega) (by omega) (KNM_100 hM) ?_
      refine Ev.mono v ?_
      intro u h12 v
      obtain ⟨rfl, v⟩ := kv_el v
      obtain ⟨hm12, v⟩ := v
      change Ev l D Y_M_runOp _ _ _ 288 [some (vr 100), some (vi x1), some (vi (xI h 115 (x1).toNat)), some (vi (xI h 116 (x1).toNat)), some (vi (-1 : Int)), none, none] [] _ _
      refine a_goto (tgt := 296) d_M_runOp_288 (by decide) ?_
      exact a_vret d_M_runOp_296 rfl v
    | i + 8, hi, c => exact absurd hi (by simp)
theorem m_M_runOp_165 {l : Launch} {D : DD} {d kc ks : Nat} {h : Hp} {Φ : Option AV → Hp → Prop} {x1 : Int} {x2 : Int} {x3 : Int} {x4 : Int} {x5 : Int} {x6 : Int} (hM : MS h) (v : 0 ≤ x2 ∧ x2 < 4 ∧ ((x6 ≥ xI h 150 (x2).toNat → ((¬ x5 = 0 → (Φ none h)) ∧ (x5 = 0 → (0 ≤ x2 ∧ x2 < 4 ∧ (0 ≤ wr ((wr ((48 : Int) * x2)) + (xI h 150 (x2).toNat)) ∧ wr ((wr ((48 : Int) * x2)) + (xI h 150 (x2).toNat)) < 192 ∧ (∀ h1 : Hp, h1 = sI h 149 (wr ((wr ((48 : Int) * x2)) + (xI h 150 (x2).toNat))).toNat x3 → (0 ≤ x2 ∧ x2 < 4 ∧ (0 ≤ x2 ∧ x2 < 4 ∧ (∀ h2 : Hp, h2 = sI h1 150 (x2).toNat (wr ((xI h1 150 (x2).toNat) + (1 : Int))) → (Φ none h2)))))))))) ∧ (x6 < xI h 150 (x2).toNat → ((¬ x5 = 0 → (Ev l D Y_M_runOp (d + 1) kc ks 202 [some (vr 100), some (vi x1), some (vi x2), some (vi x3), some (vi x4), some (vi x5), some (vi x6)] [vi (1 : Int)] h Φ)) ∧ (x5 = 0 → (0 ≤ wr ((wr ((48 : Int) * x2)) + x6) ∧ wr ((wr ((48 : Int) * x2)) + x6) < 192 ∧ ((¬ xI h 149 (wr ((wr ((48 : Int) * x2)) + x6)).toNat = x3 → (Ev l D Y_M_runOp (d + 1) kc ks 202 [some (vr 100), some (vi x1), some (vi x2), some (vi x3), some (vi x4), some (vi x5), some (vi x6)] [vi (0 : Int)] h Φ)) ∧ (xI h 149 (wr ((wr ((48 : Int) * x2)) + x6)).toNat = x3 → (Ev l D Y_M_runOp (d + 1) kc ks 202 [some (vr 100), some (vi x1), some (vi x2), some (vi x3), some (vi x4), some (vi x5), some (vi x6)] [vi (1 : Int)] h Φ))))))))) : Ev l D Y_M_runOp (d + 1) kc ks 165 [some (vr 100), some (vi x1), some (vi x2), some (vi x3), some (vi x4), some (vi x5), some (vi x6)] [] h Φ := by
  refine a_iload d_M_runOp_165 rfl ?_
  refine a_aload_n d_M_runOp_167 rfl ?_
  refine a_getAe fl_M_116 d_M_runOp_168 (beq_iff_eq.mpr (KNM_100 hM)) (KRM_100_49 hM) ?_
  refine a_iload_n d_M_runOp_171 rfl ?_
  obtain ⟨c2, c3, v⟩ := v
  refine a_iald d_M_runOp_172 (Or.inl (KNM_150 hM)) c2 (lt_len (NNM_150 hM) c3) ?_
  obtain ⟨vt, vf⟩ := v
  refine a_icmp_ge (tgt := 210) d_M_runOp_173 (by decide) (fun c => ?_) (fun c => ?_)
  · have v := vt (c); clear vt vf
    refine a_iload d_M_runOp_210 rfl ?_
    obtain ⟨vt, vf⟩ := v
    refine a_if_ne (tgt := 296) d_M_runOp_212 (by decide) (fun c => ?_) (fun c => ?_)
    · have v := vt (c); clear vt vf
      exact a_vret d_M_runOp_296 rfl v
    · have v := vf (Classical.not_not.mp c); clear vt vf
      refine a_aload_n d_M_runOp_215 rfl ?_
      refine a_getAe fl_M_113 d_M_runOp_216 (beq_iff_eq.mpr (KNM_100 hM)) (KRM_100_48 hM) ?_
      refine a_bipush d_M_runOp_219 ⟨by decide, by decide⟩ (by decide) ?_
      refine a_iload_n d_M_runOp_221 rfl ?_
      refine a_imul d_M_runOp_222 ?_
      refine a_aload_n d_M_runOp_223 rfl ?_
      refine a_getAe fl_M_116 d_M_runOp_224 (beq_iff_eq.mpr (KNM_100 hM)) (KRM_100_49 hM) ?_
      refine a_iload_n d_M_runOp_227 rfl ?_
      obtain ⟨c5, c6, v⟩ := v
      refine a_iald d_M_runOp_228 (Or.inl (KNM_150 hM)) c5 (lt_len (NNM_150 hM) c6) ?_
      refine a_iadd d_M_runOp_229 ?_
      refine a_iload_n d_M_runOp_230 rfl ?_
      obtain ⟨c9, c10, v⟩ := v
      have v := v _ rfl
      refine a_iast d_M_runOp_231 (KNM_149 hM) (by decide) c9 (lt_len (NNM_149 hM) c10) ?_
      refine a_aload_n d_M_runOp_232 rfl ?_
      refine a_getAe fl_M_116 d_M_runOp_233 (beq_iff_eq.mpr (KNM_100 hM)) (KRM_100_49 hM) ?_
      refine a_iload_n d_M_runOp_236 rfl ?_
      refine a_dup2 d_M_runOp_237 rfl rfl ?_
      obtain ⟨c12, c13, v⟩ := v
      refine a_iald d_M_runOp_238 (Or.inl (KNM_150 hM)) c12 (lt_len (NNM_150 hM) c13) ?_
      refine a_iconst d_M_runOp_239 ⟨by decide, by decide⟩ ?_
      refine a_iadd d_M_runOp_240 ?_
      obtain ⟨c16, c17, v⟩ := v
      have v := v _ rfl
      refine a_iast d_M_runOp_241 (KNM_150 hM) (by decide) c16 (lt_len (NNM_150 hM) c17) ?_
      refine a_goto (tgt := 296) d_M_runOp_242 (by decide) ?_
      exact a_vret d_M_runOp_296 rfl v
  · have v := vf (Int.not_le.mp c); clear vt vf
    refine a_iload d_M_runOp_176 rfl ?_
    obtain ⟨vt, vf⟩ := v
    refine a_if_ne (tgt := 197) d_M_runOp_178 (by decide) (fun c => ?_) (fun c => ?_)
    · have v := vt (c); clear vt vf
      refine a_iconst d_M_runOp_197 ⟨by decide, by decide⟩ ?_
      refine a_goto (tgt := 202) d_M_runOp_198 (by decide) ?_
      exact v
    · have v := vf (Classical.not_not.mp c); clear vt vf
      refine a_aload_n d_M_runOp_181 rfl ?_
      refine a_getAe fl_M_113 d_M_runOp_182 (beq_iff_eq.mpr (KNM_100 hM)) (KRM_100_48 hM) ?_
      refine a_bipush d_M_runOp_185 ⟨by decide, by decide⟩ (by decide) ?_
      refine a_iload_n d_M_runOp_187 rfl ?_
      refine a_imul d_M_runOp_188 ?_
      refine a_iload d_M_runOp_189 rfl ?_
      refine a_iadd d_M_runOp_191 ?_
      obtain ⟨c19, c20, v⟩ := v
      refine a_iald d_M_runOp_192 (Or.inl (KNM_149 hM)) c19 (lt_len (NNM_149 hM) c20) ?_
      refine a_iload_n d_M_runOp_193 rfl ?_
      obtain ⟨vt, vf⟩ := v
      refine a_icmp_ne (tgt := 201) d_M_runOp_194 (by decide) (fun c => ?_) (fun c => ?_)
      · have v := vt (c); clear vt vf
        refine a_iconst d_M_runOp_201 ⟨by decide, by decide⟩ ?_
        exact v
      · have v := vf (Classical.not_not.mp c); clear vt vf
        refine a_iconst d_M_runOp_197 ⟨by decide, by decide⟩ ?_
        refine a_goto (tgt := 202) d_M_runOp_198 (by decide) ?_
        exact v
theorem m_M_runOp_202 {l : Launch} {D : DD} {d kc ks : Nat} {h : Hp} {Φ : Option AV → Hp → Prop} {x1 : Int} {x2 : Int} {x3 : Int} {x4 : Int} {x5 : Int} {x6 : Int} {y0 : Int} (hM : MS h) (v : Ev l D Y_M_runOp (d + 1) kc ks 165 [some (vr 100), some (vi x1), some (vi x2), some (vi x3), some (vi x4), some (vi y0), some (vi (wr (x6 + (1 : Int))))] [] h Φ) : Ev l D Y_M_runOp (d + 1) kc ks 202 [some (vr 100), some (vi x1), some (vi x2), some (vi x3), some (vi x4), some (vi x5), some (vi x6)] [vi y0] h Φ := by
  refine a_istore (L' := [some (vr 100), some (vi x1), some (vi x2), some (vi x3), some (vi x4), some (vi y0), some (vi x6)]) d_M_runOp_202 (Nat.le_of_ble_eq_true rfl) rfl rfl ?_
  refine a_iinc (L' := [some (vr 100), some (vi x1), some (vi x2), some (vi x3), some (vi x4), some (vi y0), some (vi (wr (x6 + (1 : Int))))]) d_M_runOp_204 rfl (Nat.le_of_ble_eq_true rfl) rfl rfl ?_
  refine a_goto (tgt := 165) d_M_runOp_207 (by decide) ?_
  exact v
theorem d_M_doNext_0 : decode Y_M_doNext.2.1 0 = .ok (.aload_n 0, 1) := by decide +kernel
theorem d_M_doNext_1 : decode Y_M_doNext.2.1 1 = .ok (.getfield 247, 3) := by decide +kernel
theorem d_M_doNext_4 : decode Y_M_doNext.2.1 4 = .ok (.iconst 1, 1) := by decide +kernel
theorem d_M_doNext_5 : decode Y_M_doNext.2.1 5 = .ok (.isub, 1) := by decide +kernel
theorem d_M_doNext_6 : decode Y_M_doNext.2.1 6 = .ok (.istore_n 1, 1) := by decide +kernel
theorem d_M_doNext_7 : decode Y_M_doNext.2.1 7 = .ok (.aload_n 0, 1) := by decide +kernel
theorem d_M_doNext_8 : decode Y_M_doNext.2.1 8 = .ok (.getfield 95, 3) := by decide +kernel
theorem d_M_doNext_11 : decode Y_M_doNext.2.1 11 = .ok (.iload_n 1, 1) := by decide +kernel
theorem d_M_doNext_12 : decode Y_M_doNext.2.1 12 = .ok (.iaload, 1) := by decide +kernel
theorem d_M_doNext_13 : decode Y_M_doNext.2.1 13 = .ok (.istore_n 2, 1) := by decide +kernel
theorem d_M_doNext_14 : decode Y_M_doNext.2.1 14 = .ok (.aload_n 0, 1) := by decide +kernel
theorem d_M_doNext_15 : decode Y_M_doNext.2.1 15 = .ok (.getfield 92, 3) := by decide +kernel
theorem d_M_doNext_18 : decode Y_M_doNext.2.1 18 = .ok (.iload_n 1, 1) := by decide +kernel
theorem d_M_doNext_19 : decode Y_M_doNext.2.1 19 = .ok (.iaload, 1) := by decide +kernel
theorem d_M_doNext_20 : decode Y_M_doNext.2.1 20 = .ok (.ifCond .ne 82, 3) := by decide +kernel
theorem d_M_doNext_23 : decode Y_M_doNext.2.1 23 = .ok (.aload_n 0, 1) := by decide +kernel
theorem d_M_doNext_24 : decode Y_M_doNext.2.1 24 = .ok (.getfield 98, 3) := by decide +kernel
theorem d_M_doNext_27 : decode Y_M_doNext.2.1 27 = .ok (.iload_n 1, 1) := by decide +kernel
theorem d_M_doNext_28 : decode Y_M_doNext.2.1 28 = .ok (.iaload, 1) := by decide +kernel
theorem d_M_doNext_29 : decode Y_M_doNext.2.1 29 = .ok (.aload_n 0, 1) := by decide +kernel
theorem d_M_doNext_30 : decode Y_M_doNext.2.1 30 = .ok (.getfield 35, 3) := by decide +kernel
theorem d_M_doNext_33 : decode Y_M_doNext.2.1 33 = .ok (.iload_n 2, 1) := by decide +kernel
theorem d_M_doNext_34 : decode Y_M_doNext.2.1 34 = .ok (.iaload, 1) := by decide +kernel
theorem d_M_doNext_35 : decode Y_M_doNext.2.1 35 = .ok (.if_icmp .ne 26, 3) := by decide +kernel
theorem d_M_doNext_38 : decode Y_M_doNext.2.1 38 = .ok (.aload_n 0, 1) := by decide +kernel
theorem d_M_doNext_39 : decode Y_M_doNext.2.1 39 = .ok (.dup, 1) := by decide +kernel
theorem d_M_doNext_40 : decode Y_M_doNext.2.1 40 = .ok (.getfield 247, 3) := by decide +kernel
theorem d_M_doNext_43 : decode Y_M_doNext.2.1 43 = .ok (.iconst 1, 1) := by decide +kernel
theorem d_M_doNext_44 : decode Y_M_doNext.2.1 44 = .ok (.isub, 1) := by decide +kernel
theorem d_M_doNext_45 : decode Y_M_doNext.2.1 45 = .ok (.putfield 247, 3) := by decide +kernel
theorem d_M_doNext_48 : decode Y_M_doNext.2.1 48 = .ok (.aload_n 0, 1) := by decide +kernel
theorem d_M_doNext_49 : decode Y_M_doNext.2.1 49 = .ok (.dup, 1) := by decide +kernel
theorem d_M_doNext_50 : decode Y_M_doNext.2.1 50 = .ok (.getfield 253, 3) := by decide +kernel
theorem d_M_doNext_53 : decode Y_M_doNext.2.1 53 = .ok (.iconst 1, 1) := by decide +kernel
theorem d_M_doNext_54 : decode Y_M_doNext.2.1 54 = .ok (.isub, 1) := by decide +kernel
theorem d_M_doNext_55 : decode Y_M_doNext.2.1 55 = .ok (.putfield 253, 3) := by decide +kernel
theorem d_M_doNext_58 : decode Y_M_doNext.2.1 58 = .ok (.goto 43, 3) := by decide +kernel
theorem d_M_doNext_61 : decode Y_M_doNext.2.1 61 = .ok (.aload_n 0, 1) := by decide +kernel
theorem d_M_doNext_62 : decode Y_M_doNext.2.1 62 = .ok (.getfield 38, 3) := by decide +kernel
theorem d_M_doNext_65 : decode Y_M_doNext.2.1 65 = .ok (.bipush 24, 2) := by decide +kernel
theorem d_M_doNext_67 : decode Y_M_doNext.2.1 67 = .ok (.iload_n 2, 1) := by decide +kernel
theorem d_M_doNext_68 : decode Y_M_doNext.2.1 68 = .ok (.imul, 1) := by decide +kernel
theorem d_M_doNext_69 : decode Y_M_doNext.2.1 69 = .ok (.aload_n 0, 1) := by decide +kernel
theorem d_M_doNext_70 : decode Y_M_doNext.2.1 70 = .ok (.getfield 98, 3) := by decide +kernel
theorem d_M_doNext_73 : decode Y_M_doNext.2.1 73 = .ok (.iload_n 1, 1) := by decide +kernel
theorem d_M_doNext_74 : decode Y_M_doNext.2.1 74 = .ok (.iaload, 1) := by decide +kernel
theorem d_M_doNext_75 : decode Y_M_doNext.2.1 75 = .ok (.iadd, 1) := by decide +kernel
theorem d_M_doNext_76 : decode Y_M_doNext.2.1 76 = .ok (.iaload, 1) := by decide +kernel
theorem d_M_doNext_77 : decode Y_M_doNext.2.1 77 = .ok (.istore_n 3, 1) := by decide +kernel
theorem d_M_doNext_78 : decode Y_M_doNext.2.1 78 = .ok (.aload_n 0, 1) := by decide +kernel
theorem d_M_doNext_79 : decode Y_M_doNext.2.1 79 = .ok (.getfield 98, 3) := by decide +kernel
theorem d_M_doNext_82 : decode Y_M_doNext.2.1 82 = .ok (.iload_n 1, 1) := by decide +kernel
theorem d_M_doNext_83 : decode Y_M_doNext.2.1 83 = .ok (.dup2, 1) := by decide +kernel
theorem d_M_doNext_84 : decode Y_M_doNext.2.1 84 = .ok (.iaload, 1) := by decide +kernel
theorem d_M_doNext_85 : decode Y_M_doNext.2.1 85 = .ok (.iconst 1, 1) := by decide +kernel
theorem d_M_doNext_86 : decode Y_M_doNext.2.1 86 = .ok (.iadd, 1) := by decide +kernel
theorem d_M_doNext_87 : decode Y_M_doNext.2.1 87 = .ok (.iastore, 1) := by decide +kernel
theorem d_M_doNext_88 : decode Y_M_doNext.2.1 88 = .ok (.aload_n 0, 1) := by decide +kernel
theorem d_M_doNext_89 : decode Y_M_doNext.2.1 89 = .ok (.iconst 4, 1) := by decide +kernel
theorem d_M_doNext_90 : decode Y_M_doNext.2.1 90 = .ok (.invokevirtual 271, 3) := by decide +kernel
theorem d_M_doNext_93 : decode Y_M_doNext.2.1 93 = .ok (.ifCond .eq 8, 3) := by decide +kernel
theorem d_M_doNext_96 : decode Y_M_doNext.2.1 96 = .ok (.aload_n 0, 1) := by decide +kernel
theorem d_M_doNext_97 : decode Y_M_doNext.2.1 97 = .ok (.iload_n 3, 1) := by decide +kernel
theorem d_M_doNext_98 : decode Y_M_doNext.2.1 98 = .ok (.invokevirtual 280, 3) := by decide +kernel
theorem d_M_doNext_101 : decode Y_M_doNext.2.1 101 = .ok (.return_, 1) := by decide +kernel
theorem d_M_doNext_102 : decode Y_M_doNext.2.1 102 = .ok (.aload_n 0, 1) := by decide +kernel
theorem d_M_doNext_103 : decode Y_M_doNext.2.1 103 = .ok (.dup, 1) := by decide +kernel
theorem d_M_doNext_104 : decode Y_M_doNext.2.1 104 = .ok (.getfield 247, 3) := by decide +kernel
theorem d_M_doNext_107 : decode Y_M_doNext.2.1 107 = .ok (.iconst 1, 1) := by decide +kernel
theorem d_M_doNext_108 : decode Y_M_doNext.2.1 108 = .ok (.isub, 1) := by decide +kernel
theorem d_M_doNext_109 : decode Y_M_doNext.2.1 109 = .ok (.putfield 247, 3) := by decide +kernel
theorem d_M_doNext_112 : decode Y_M_doNext.2.1 112 = .ok (.aload_n 0, 1) := by decide +kernel
theorem d_M_doNext_113 : decode Y_M_doNext.2.1 113 = .ok (.getfield 101, 3) := by decide +kernel
theorem d_M_doNext_116 : decode Y_M_doNext.2.1 116 = .ok (.iload_n 1, 1) := by decide +kernel
theorem d_M_doNext_117 : decode Y_M_doNext.2.1 117 = .ok (.iaload, 1) := by decide +kernel
theorem d_M_doNext_118 : decode Y_M_doNext.2.1 118 = .ok (.istore_n 3, 1) := by decide +kernel
theorem d_M_doNext_119 : decode Y_M_doNext.2.1 119 = .ok (.aload_n 0, 1) := by decide +kernel
theorem d_M_doNext_120 : decode Y_M_doNext.2.1 120 = .ok (.getfield 92, 3) := by decide +kernel
theorem d_M_doNext_123 : decode Y_M_doNext.2.1 123 = .ok (.iload_n 1, 1) := by decide +kernel
theorem d_M_doNext_124 : decode Y_M_doNext.2.1 124 = .ok (.iaload, 1) := by decide +kernel
theorem d_M_doNext_125 : decode Y_M_doNext.2.1 125 = .ok (.iconst 1, 1) := by decide +kernel
theorem d_M_doNext_126 : decode Y_M_doNext.2.1 126 = .ok (.if_icmp .ne 12, 3) := by decide +kernel
theorem d_M_doNext_129 : decode Y_M_doNext.2.1 129 = .ok (.aload_n 0, 1) := by decide +kernel
theorem d_M_doNext_130 : decode Y_M_doNext.2.1 130 = .ok (.iload_n 2, 1) := by decide +kernel
theorem d_M_doNext_131 : decode Y_M_doNext.2.1 131 = .ok (.iload_n 3, 1) := by decide +kernel
theorem d_M_doNext_132 : decode Y_M_doNext.2.1 132 = .ok (.invokevirtual 283, 3) := by decide +kernel
theorem d_M_doNext_135 : decode Y_M_doNext.2.1 135 = .ok (.goto 76, 3) := by decide +kernel
theorem d_M_doNext_138 : decode Y_M_doNext.2.1 138 = .ok (.aload_n 0, 1) := by decide +kernel
theorem d_M_doNext_139 : decode Y_M_doNext.2.1 139 = .ok (.getfield 92, 3) := by decide +kernel
theorem d_M_doNext_142 : decode Y_M_doNext.2.1 142 = .ok (.iload_n 1, 1) := by decide +kernel
theorem d_M_doNext_143 : decode Y_M_doNext.2.1 143 = .ok (.iaload, 1) := by decide +kernel
theorem d_M_doNext_144 : decode Y_M_doNext.2.1 144 = .ok (.iconst 2, 1) := by decide +kernel
theorem d_M_doNext_145 : decode Y_M_doNext.2.1 145 = .ok (.if_icmp .ne 12, 3) := by decide +kernel
theorem d_M_doNext_148 : decode Y_M_doNext.2.1 148 = .ok (.aload_n 0, 1) := by decide +kernel
theorem d_M_doNext_149 : decode Y_M_doNext.2.1 149 = .ok (.iload_n 2, 1) := by decide +kernel
theorem d_M_doNext_150 : decode Y_M_doNext.2.1 150 = .ok (.iload_n 3, 1) := by decide +kernel
theorem d_M_doNext_151 : decode Y_M_doNext.2.1 151 = .ok (.invokevirtual 286, 3) := by decide +kernel
theorem d_M_doNext_154 : decode Y_M_doNext.2.1 154 = .ok (.goto 57, 3) := by decide +kernel
theorem d_M_doNext_157 : decode Y_M_doNext.2.1 157 = .ok (.aload_n 0, 1) := by decide +kernel
theorem d_M_doNext_158 : decode Y_M_doNext.2.1 158 = .ok (.aload_n 0, 1) := by decide +kernel
theorem d_M_doNext_159 : decode Y_M_doNext.2.1 159 = .ok (.getfield 250, 3) := by decide +kernel
theorem d_M_doNext_162 : decode Y_M_doNext.2.1 162 = .ok (.ifCond .eq 16, 3) := by decide +kernel
theorem d_M_doNext_165 : decode Y_M_doNext.2.1 165 = .ok (.aload_n 0, 1) := by decide +kernel
theorem d_M_doNext_166 : decode Y_M_doNext.2.1 166 = .ok (.getfield 53, 3) := by decide +kernel
theorem d_M_doNext_169 : decode Y_M_doNext.2.1 169 = .ok (.iload_n 2, 1) := by decide +kernel
theorem d_M_doNext_170 : decode Y_M_doNext.2.1 170 = .ok (.baload, 1) := by decide +kernel
theorem d_M_doNext_171 : decode Y_M_doNext.2.1 171 = .ok (.ifCond .eq 7, 3) := by decide +kernel
theorem d_M_doNext_174 : decode Y_M_doNext.2.1 174 = .ok (.iconst 1, 1) := by decide +kernel
theorem d_M_doNext_175 : decode Y_M_doNext.2.1 175 = .ok (.goto 4, 3) := by decide +kernel
theorem d_M_doNext_178 : decode Y_M_doNext.2.1 178 = .ok (.iconst 0, 1) := by decide +kernel
theorem d_M_doNext_179 : decode Y_M_doNext.2.1 179 = .ok (.putfield 250, 3) := by decide +kernel
theorem d_M_doNext_182 : decode Y_M_doNext.2.1 182 = .ok (.aload_n 0, 1) := by decide +kernel
theorem d_M_doNext_183 : decode Y_M_doNext.2.1 183 = .ok (.getfield 268, 3) := by decide +kernel
theorem d_M_doNext_186 : decode Y_M_doNext.2.1 186 = .ok (.bipush 20, 2) := by decide +kernel
theorem d_M_doNext_188 : decode Y_M_doNext.2.1 188 = .ok (.if_icmp .ge 23, 3) := by decide +kernel
theorem d_M_doNext_191 : decode Y_M_doNext.2.1 191 = .ok (.aload_n 0, 1) := by decide +kernel
theorem d_M_doNext_192 : decode Y_M_doNext.2.1 192 = .ok (.getfield 110, 3) := by decide +kernel
theorem d_M_doNext_195 : decode Y_M_doNext.2.1 195 = .ok (.aload_n 0, 1) := by decide +kernel
theorem d_M_doNext_196 : decode Y_M_doNext.2.1 196 = .ok (.getfield 268, 3) := by decide +kernel
theorem d_M_doNext_199 : decode Y_M_doNext.2.1 199 = .ok (.iload_n 2, 1) := by decide +kernel
theorem d_M_doNext_200 : decode Y_M_doNext.2.1 200 = .ok (.iastore, 1) := by decide +kernel
theorem d_M_doNext_201 : decode Y_M_doNext.2.1 201 = .ok (.aload_n 0, 1) := by decide +kernel
theorem d_M_doNext_202 : decode Y_M_doNext.2.1 202 = .ok (.dup, 1) := by decide +kernel
theorem d_M_doNext_203 : decode Y_M_doNext.2.1 203 = .ok (.getfield 268, 3) := by decide +kernel
theorem d_M_doNext_206 : decode Y_M_doNext.2.1 206 = .ok (.iconst 1, 1) := by decide +kernel
theorem d_M_doNext_207 : decode Y_M_doNext.2.1 207 = .ok (.iadd, 1) := by decide +kernel
theorem d_M_doNext_208 : decode Y_M_doNext.2.1 208 = .ok (.putfield 268, 3) := by decide +kernel
theorem d_M_doNext_211 : decode Y_M_doNext.2.1 211 = .ok (.return_, 1) := by decide +kernel
theorem m_M_doNext_0 {l : Launch} {D : DD} {d kc ks : Nat} {h : Hp} {Φ : Option AV → Hp → Prop} (hM : MS h) (v : 0 ≤ wr ((xI h 100 37) - (1 : Int)) ∧ wr ((xI h 100 37) - (1 : Int)) < 1000 ∧ (0 ≤ wr ((xI h 100 37) - (1 : Int)) ∧ wr ((xI h 100 37) - (1 : Int)) < 1000 ∧ ((¬ xI h 134 (wr ((xI h 100 37) - (1 : Int))).toNat = 0 → (∀ h1 : Hp, h1 = sI h 100 37 (wr ((xI h 100 37) - (1 : Int))) → (0 ≤ wr ((xI h 100 37) - (1 : Int)) ∧ wr ((xI h 100 37) - (1 : Int)) < 1000 ∧ (0 ≤ wr ((xI h 100 37) - (1 : Int)) ∧ wr ((xI h 100 37) - (1 : Int)) < 1000 ∧ ((¬ xI h1 134 (wr ((xI h 100 37) - (1 : Int))).toNat = (1 : Int) → (0 ≤ wr ((xI h 100 37) - (1 : Int)) ∧ wr ((xI h 100 37) - (1 : Int)) < 1000 ∧ ((¬ xI h1 134 (wr ((xI h 100 37) - (1 : Int))).toNat = (2 : Int) → ((xI h1 100 43 = 0 → (Ev l D Y_M_doNext (d + 1) kc ks 179 [some (vr 100), some (vi (wr ((xI h 100 37) - (1 : Int)))), some (vi (xI h 135 (wr ((xI h 100 37) - (1 : Int))).toNat)), some (vi (xI h1 137 (wr ((xI h 100 37) - (1 : Int))).toNat))] [vi (0 : Int), vr 100] h1 Φ)) ∧ (¬ xI h1 100 43 = 0 → (0 ≤ xI h 135 (wr ((xI h 100 37) - (1 : Int))).toNat ∧ xI h 135 (wr ((xI h 100 37) - (1 : Int))).toNat < 16 ∧ ((xI h1 120 (xI h 135 (wr ((xI h 100 37) - (1 : Int))).toNat).toNat = 0 → (Ev l D Y_M_doNext (d + 1) kc ks 179 [some (vr 100), some (vi (wr ((xI h 100 37) - (1 : Int)))), some (vi (xI h 135 (wr ((xI h 100 37) - (1 : Int))).toNat)), some (vi (xI h1 137 (wr ((xI h 100 37) - (1 : Int))).toNat))] [vi (0 : Int), vr 100] h1 Φ)) ∧ (¬ xI h1 120 (xI h 135 (wr ((xI h 100 37) - (1 : Int))).toNat).toNat = 0 → (Ev l D Y_M_doNext (d + 1) kc ks 179 [some (vr 100), some (vi (wr ((xI h 100 37) - (1 : Int)))), some (vi (xI h 135 (wr ((xI h 100 37) - (1 : Int))).toNat)), some (vi (xI h1 137 (wr ((xI h 100 37) - (1 : Int))).toNat))] [vi (1 : Int), vr 100] h1 Φ))))))) ∧ (xI h1 134 (wr ((xI h 100 37) - (1 : Int))).toNat = (2 : Int) → (Ev l D Y_M_beginNow d 0 0 0 [some (vr 100), some (vi (xI h 135 (wr ((xI h 100 37) - (1 : Int))).toNat)), some (vi (xI h1 137 (wr ((xI h 100 37) - (1 : Int))).toNat)), none, none] [] h1 (kv (fun h2 => MS h2 ∧ (Φ none h2)))))))) ∧ (xI h1 134 (wr ((xI h 100 37) - (1 : Int))).toNat = (1 : Int) → (Ev l D Y_M_runNow d 0 0 0 [some (vr 100), some (vi (xI h 135 (wr ((xI h 100 37) - (1 : Int))).toNat)), some (vi (xI h1 137 (wr ((xI h 100 37) - (1 : Int))).toNat))] [] h1 (kv (fun h3 => MS h3 ∧ (Φ none h3)))))))))) ∧ (xI h 134 (wr ((xI h 100 37) - (1 : Int))).toNat = 0 → (0 ≤ wr ((xI h 100 37) - (1 : Int)) ∧ wr ((xI h 100 37) - (1 : Int)) < 1000 ∧ (0 ≤ xI h 135 (wr ((xI h 100 37) - (1 : Int))).toNat ∧ xI h 135 (wr ((xI h 100 37) - (1 : Int))).toNat < 48 ∧ ((¬ xI h 136 (wr ((xI h 100 37) - (1 : Int))).toNat = xI h 111 (xI h 135 (wr ((xI h 100 37) - (1 : Int))).toNat).toNat → (0 ≤ wr ((xI h 100 37) - (1 : Int)) ∧ wr ((xI h 100 37) - (1 : Int)) < 1000 ∧ (0 ≤ wr ((wr ((24 : Int) * (xI h 135 (wr ((xI h 100 37) - (1 : Int))).toNat))) + (xI h 136 (wr ((xI h 100 37) - (1 : Int))).toNat)) ∧ wr ((wr ((24 : Int) * (xI h 135 (wr ((xI h 100 37) - (1 : Int))).toNat))) + (xI h 136 (wr ((xI h 100 37) - (1 : Int))).toNat)) < 1152 ∧ (0 ≤ wr ((xI h 100 37) - (1 : Int)) ∧ wr ((xI h 100 37) - (1 : Int)) < 1000 ∧ (0 ≤ wr ((xI h 100 37) - (1 : Int)) ∧ wr ((xI h 100 37) - (1 : Int)) < 1000 ∧ (∀ h4 : Hp, h4 = sI h 136 (wr ((xI h 100 37) - (1 : Int))).toNat (wr ((xI h 136 (wr ((xI h 100 37) - (1 : Int))).toNat) + (1 : Int))) → (Ev l D Y_M_draw d 0 0 0 [some (vr 100), some (vi (4 : Int))] [] h4 (ki (fun r1 h5 => MS h5 ∧ ((r1 = 0 → (Ev l D Y_M_doNext (d + 1) kc ks 101 [some (vr 100), some (vi (wr ((xI h 100 37) - (1 : Int)))), some (vi (xI h 135 (wr ((xI h 100 37) - (1 : Int))).toNat)), none] [] h5 Φ)) ∧ (¬ r1 = 0 → (Ev l D Y_M_runOp d 0 0 0 [some (vr 100), some (vi (xI h 112 (wr ((wr ((24 : Int) * (xI h 135 (wr ((xI h 100 37) - (1 : Int))).toNat))) + (xI h 136 (wr ((xI h 100 37) - (1 : Int))).toNat))).toNat)), none, none, none, none, none] [] h5 (kv (fun h6 => MS h6 ∧ (Ev l D Y_M_doNext (d + 1) kc ks 101 [some (vr 100), some (vi (wr ((xI h 100 37) - (1 : Int)))), some (vi (xI h 135 (wr ((xI h 100 37) - (1 : Int))).toNat)), none] [] h6 Φ))))))))))))))) ∧ (xI h 136 (wr ((xI h 100 37) - (1 : Int))).toNat = xI h 111 (xI h 135 (wr ((xI h 100 37) - (1 : Int))).toNat).toNat → (∀ h7 : Hp, h7 = sI h 100 37 (wr ((xI h 100 37) - (1 : Int))) → (∀ h8 : Hp, h8 = sI h7 100 40 (wr ((xI h7 100 40) - (1 : Int))) → (Ev l D Y_M_doNext (d + 1) kc ks 101 [some (vr 100), some (vi (wr ((xI h 100 37) - (1 : Int)))), some (vi (xI h 135 (wr ((xI h 100 37) - (1 : Int))).toNat)), none] [] h8 Φ))))))))))) : Ev l D Y_M_doNext (d + 1) kc ks 0 [some (vr 100), none, none, none] [] h Φ := by
  refine a_aload_n d_M_doNext_0 rfl ?_
  refine a_getI fl_M_247 d_M_doNext_1 (beq_iff_eq.mpr (KNM_100 hM)) ?_
  refine a_iconst d_M_doNext_4 ⟨by decide, by decide⟩ ?_
  refine a_isub d_M_doNext_5 ?_
  refine a_istore_n (L' := [some (vr 100), some (vi (wr ((xI h 100 37) - (1 : Int)))), none, none]) d_M_doNext_6 (Nat.le_of_ble_eq_true rfl) rfl rfl ?_
  refine a_aload_n d_M_doNext_7 rfl ?_
  refine a_getAe fl_M_95 d_M_doNext_8 (beq_iff_eq.mpr (KNM_100 hM)) (KRM_100_34 hM) ?_
  refine a_iload_n d_M_doNext_11 rfl ?_
  obtain ⟨c2, c3, v⟩ := v
  refine a_iald d_M_doNext_12 (Or.inl (KNM_135 hM)) c2 (lt_len (NNM_135 hM) c3) ?_
  refine a_istore_n (L' := [some (vr 100), some (vi (wr ((xI h 100 37) - (1 : Int)))), some (vi (xI h 135 (wr ((xI h 100 37) - (1 : Int))).toNat)), none]) d_M_doNext_13 (Nat.le_of_ble_eq_true rfl) rfl rfl ?_
  refine a_aload_n d_M_doNext_14 rfl ?_
  refine a_getAe fl_M_92 d_M_doNext_15 (beq_iff_eq.mpr (KNM_100 hM)) (KRM_100_33 hM) ?_
  refine a_iload_n d_M_doNext_18 rfl ?_
  obtain ⟨c5, c6, v⟩ := v
  refine a_iald d_M_doNext_19 (Or.inl (KNM_134 hM)) c5 (lt_len (NNM_134 hM) c6) ?_
  obtain ⟨vt, vf⟩ := v
  refine a_if_ne (tgt := 102) d_M_doNext_20 (by decide) (fun c => ?_) (fun c => ?_)
  · have v := vt (c); clear vt vf
    refine a_aload_n d_M_doNext_102 rfl ?_
    refine a_dup d_M_doNext_103 rfl ?_
    refine a_getI fl_M_247 d_M_doNext_104 (beq_iff_eq.mpr (KNM_100 hM)) ?_
    refine a_iconst d_M_doNext_107 ⟨by decide, by decide⟩ ?_
    refine a_isub d_M_doNext_108 ?_
    have v := v _ rfl
    refine a_putI fl_M_247 d_M_doNext_109 (beq_iff_eq.mpr (KNM_100 hM)) (by decide) ?_
    refine a_aload_n d_M_doNext_112 rfl ?_
    refine a_getAe fl_M_101 d_M_doNext_113 (beq_iff_eq.mpr (KNM_100 hM)) (KRM_100_36 hM) ?_
    refine a_iload_n d_M_doNext_116 rfl ?_
    obtain ⟨c10, c11, v⟩ := v
    refine a_iald d_M_doNext_117 (Or.inl (KNM_137 hM)) c10 (lt_len (NNM_137 hM) c11) ?_
    refine a_istore_n (L' := [some (vr 100), some (vi (wr ((xI h 100 37) - (1 : Int)))), some (vi (xI h 135 (wr ((xI h 100 37) - (1 : Int))).toNat)), some (vi (xI (sI h 100 37 (wr ((xI h 100 37) - (1 : Int)))) 137 (wr ((xI h 100 37) - (1 : Int))).toNat))]) d_M_doNext_118 (Nat.le_of_ble_eq_true rfl) rfl rfl ?_
    refine a_aload_n d_M_doNext_119 rfl ?_
    refine a_getAe fl_M_92 d_M_doNext_120 (beq_iff_eq.mpr (KNM_100 hM)) (KRM_100_33 hM) ?_
    refine a_iload_n d_M_doNext_123 rfl ?_
    obtain ⟨c13, c14, v⟩ := v
    refine a_iald d_M_doNext_124 (Or.inl (KNM_134 hM)) c13 (lt_len (NNM_134 hM) c14) ?_
    refine a_iconst d_M_doNext_125 ⟨by decide, by decide⟩ ?_
    obtain ⟨vt, vf⟩ := v
    refine a_icmp_ne (tgt := 138) d_M_doNext_126 (by decide) (fun c => ?_) (fun c => ?_)
    · have v := vt (c); clear vt vf
      refine a_aload_n d_M_doNext_138 rfl ?_
      refine a_getAe fl_M_92 d_M_doNext_139 (beq_iff_eq.mpr (KNM_100 hM)) (KRM_100_33 hM) ?_
      refine a_iload_n d_M_doNext_142 rfl ?_
      obtain ⟨c16, c17, v⟩ := v
      refine a_iald d_M_doNext_143 (Or.inl (KNM_134 hM)) c16 (lt_len (NNM_134 hM) c17) ?_
      refine a_iconst d_M_doNext_144 ⟨by decide, by decide⟩ ?_
      obtain ⟨vt, vf⟩ := v
      refine a_icmp_ne (tgt := 157) d_M_doNext_145 (by decide) (fun c => ?_) (fun c => ?_)
      · have v := vt (c); clear vt vf
        refine a_aload_n d_M_doNext_157 rfl ?_
        refine a_aload_n d_M_doNext_158 rfl ?_
        refine a_getZ fl_M_250 d_M_doNext_159 (beq_iff_eq.mpr (KNM_100 hM)) ?_
        obtain ⟨vt, vf⟩ := v
        refine a_if_eq (tgt := 178) d_M_doNext_162 (by decide) (fun c => ?_) (fun c => ?_)
        · have v := vt (c); clear vt vf
          refine a_iconst d_M_doNext_178 ⟨by decide, by decide⟩ ?_
          exact v
        · have v := vf (c); clear vt vf
          refine a_aload_n d_M_doNext_165 rfl ?_
          refine a_getAe fl_M_53 d_M_doNext_166 (beq_iff_eq.mpr (KNM_100 hM)) (KRM_100_19 hM) ?_
          refine a_iload_n d_M_doNext_169 rfl ?_
          obtain ⟨c19, c20, v⟩ := v
          refine a_zald d_M_doNext_170 (KNM_120 hM) c19 (lt_len (NNM_120 hM) c20) ?_
          obtain ⟨vt, vf⟩ := v
          refine a_if_eq (tgt := 178) d_M_doNext_171 (by decide) (fun c => ?_) (fun c => ?_)
          · have v := vt (c); clear vt vf
            refine a_iconst d_M_doNext_178 ⟨by decide, by decide⟩ ?_
            exact v
          · have v := vf (c); clear vt vf
            refine a_iconst d_M_doNext_174 ⟨by decide, by decide⟩ ?_
            refine a_goto (tgt := 179) d_M_doNext_175 (by decide) ?_
            exact v
      · have v := vf (Classical.not_not.mp c); clear vt vf
        refine a_aload_n d_M_doNext_148 rfl ?_
        refine a_iload_n d_M_doNext_149 rfl ?_
        refine a_iload_n d_M_doNext_150 rfl ?_
        refine b_callV (as := [vi (xI h 135 (wr ((xI h 100 37) - (1 : Int))).toNat), vi (xI (sI h 100 37 (wr ((xI h 100 37) - (1 : Int)))) 137 (wr ((xI h 100 37) - (1 : Int))).toNat)]) (b := 100) (st := []) (kd := 12) (kc1 := 0) (ks1 := 0) (kc2 := kc) (ks2 := ks) (d' := d) ml_M_286 rfl d_M_doNext_151 rfl rfl (Nat.le_of_ble_eq_true rfl) (by decide) rfl (Nat.le_refl _) (by omega) (by omega) (KNM_100 hM) ?_
        refine Ev.mono v ?_
        intro u h2 v
        obtain ⟨rfl, v⟩ := kv_el v
        obtain ⟨hm1, v⟩ := v
        change Ev l D Y_M_doNext _ _ _ 154 [some (vr 100), some (vi (wr ((xI h 100 37) - (1 : Int)))), some (vi (xI h 135 (wr ((xI h 100 37) - (1 : Int))).toNat)), some (vi (xI (sI h 100 37 (wr ((xI h 100 37) - (1 : Int)))) 137 (wr ((xI h 100 37) - (1 : Int))).toNat))] [] _ _
        refine a_goto (tgt := 211) d_M_doNext_154 (by decide) ?_
        exact a_vret d_M_doNext_211 rfl v
    · have v := vf (Classical.not_not.mp c); clear vt vf
      refine a_aload_n d_M_doNext_129 rfl ?_
      refine a_iload_n d_M_doNext_130 rfl ?_
      refine a_iload_n d_M_doNext_131 rfl ?_
      refine b_callV (as := [vi (xI h 135 (wr ((xI h 100 37) - (1 : Int))).toNat), vi (xI (sI h 100 37 (wr ((xI h 100 37) - (1 : Int)))) 137 (wr ((xI h 100 37) - (1 : Int))).toNat)]) (b := 100) (st := []) (kd := 12) (kc1 := 0) (ks1 := 0) (kc2 := kc) (ks2 := ks) (d' := d) ml_M_283 rfl d_M_doNext_132 rfl rfl (Nat.le_of_ble_eq_true rfl) (by decide) rfl (Nat.le_refl _) (by omega) (by omega) (KNM_100 hM) ?_
      refine Ev.mono v ?_
      intro u h3 v
      obtain ⟨rfl, v⟩ := kv_el v
      obtain ⟨hm2, v⟩ := v
      change Ev l D Y_M_doNext _ _ _ 135 [some (vr 100), some (vi (wr ((xI h 100 37) - (1 : Int)))), some (vi (xI h 135 (wr ((xI h 100 37) - (1 : Int))).toNat)), some (vi (xI (sI h 100 37 (wr ((xI h 100 37) - (1 : Int)))) 137 (wr ((xI h 100 37) - (1 : Int))).toNat))] [] _ _
      refine a_goto (tgt := 211) d_M_doNext_135 (by decide) ?_
      exact a_vret d_M_doNext_211 rfl v
  · have v := vf (Classical.not_not.mp c); clear vt vf
    refine a_aload_n d_M_doNext_23 rfl ?_
    refine a_getAe fl_M_98 d_M_doNext_24 (beq_iff_eq.mpr (KNM_100 hM)) (KRM_100_35 hM) ?_
    refine a_iload_n d_M_doNext_27 rfl ?_
    obtain ⟨c24, c25, v⟩ := v
    refine a_iald d_M_doNext_28 (Or.inl (KNM_136 hM)) c24 (lt_len (NNM_136 hM) c25) ?_
    refine a_aload_n d_M_doNext_29 rfl ?_
    refine a_getAe fl_M_35 d_M_doNext_30 (beq_iff_eq.mpr (KNM_100 hM)) (KRM_100_10 hM) ?_
    refine a_iload_n d_M_doNext_33 rfl ?_
    obtain ⟨c27, c28, v⟩ := v
    refine a_iald d_M_doNext_34 (Or.inl (KNM_111 hM)) c27 (lt_len (NNM_111 hM) c28) ?_
    obtain ⟨vt, vf⟩ := v
    refine a_icmp_ne (tgt := 61) d_M_doNext_35 (by decide) (fun c => ?_) (fun c => ?_)
    · have v := vt (c); clear vt vf
      refine a_aload_n d_M_doNext_61 rfl ?_
      refine a_getAe fl_M_38 d_M_doNext_62 (beq_iff_eq.mpr (KNM_100 hM)) (KRM_100_11 hM) ?_
      refine a_bipush d_M_doNext_65 ⟨by decide, by decide⟩ (by decide) ?_
      refine a_iload_n d_M_doNext_67 rfl ?_
      refine a_imul d_M_doNext_68 ?_
      refine a_aload_n d_M_doNext_69 rfl ?_
      refine a_getAe fl_M_98 d_M_doNext_70 (beq_iff_eq.mpr (KNM_100 hM)) (KRM_100_35 hM) ?_
      refine a_iload_n d_M_doNext_73 rfl ?_
      obtain ⟨c30, c31, v⟩ := v
      refine a_iald d_M_doNext_74 (Or.inl (KNM_136 hM)) c30 (lt_len (NNM_136 hM) c31) ?_
      refine a_iadd d_M_doNext_75 ?_
      obtain ⟨c33, c34, v⟩ := v
      refine a_iald d_M_doNext_76 (Or.inl (KNM_112 hM)) c33 (lt_len (NNM_112 hM) c34) ?_
      refine a_istore_n (L' := [some (vr 100), some (vi (wr ((xI h 100 37) - (1 : Int)))), some (vi (xI h 135 (wr ((xI h 100 37) - (1 : Int))).toNat)), some (vi (xI h 112 (wr ((wr ((24 : Int) * (xI h 135 (wr ((xI h 100 37) - (1 : Int))).toNat))) + (xI h 136 (wr ((xI h 100 37) - (1 : Int))).toNat))).toNat))]) d_M_doNext_77 (Nat.le_of_ble_eq_true rfl) rfl rfl ?_
      refine a_aload_n d_M_doNext_78 rfl ?_
      refine a_getAe fl_M_98 d_M_doNext_79 (beq_iff_eq.mpr (KNM_100 hM)) (KRM_100_35 hM) ?_
      refine a_iload_n d_M_doNext_82 rfl ?_
      refine a_dup2 d_M_doNext_83 rfl rfl ?_
      obtain ⟨c36, c37, v⟩ := v
      refine a_iald d_M_doNext_84 (Or.inl (KNM_136 hM)) c36 (lt_len (NNM_136 hM) c37) ?_
      refine a_iconst d_M_doNext_85 ⟨by decide, by decide⟩ ?_
      refine a_iadd d_M_doNext_86 ?_
      obtain ⟨c40, c41, v⟩ := v
      have v := v _ rfl
      refine a_iast d_M_doNext_87 (KNM_136 hM) (by decide) c40 (lt_len (NNM_136 hM) c41) ?_
      refine a_aload_n d_M_doNext_88 rfl ?_
      refine a_iconst d_M_doNext_89 ⟨by decide, by decide⟩ ?_
      refine b_callV (as := [vi (4 : Int)]) (b := 100) (st := []) (kd := 12) (kc1 := 0) (ks1 := 0) (kc2 := kc) (ks2 := ks) (d' := d) ml_M_271 rfl d_M_doNext_90 rfl rfl (Nat.le_of_ble_eq_true rfl) (by decide) rfl (Nat.le_refl _) (by omega) (by omega) (KNM_100 hM) ?_
      refine Ev.mono v ?_
      intro u h5 v
      obtain ⟨r1, rfl, v⟩ := ki_el v
      obtain ⟨hm3, v⟩ := v
      change Ev l D Y_M_doNext _ _ _ 93 [some (vr 100), some (vi (wr ((xI h 100 37) - (1 : Int)))), some (vi (xI h 135 (wr ((xI h 100 37) - (1 : Int))).toNat)), some (vi (xI h 112 (wr ((wr ((24 : Int) * (xI h 135 (wr ((xI h 100 37) - (1 : Int))).toNat))) + (xI h 136 (wr ((xI h 100 37) - (1 : Int))).toNat))).toNat))] [vi r1] _ _
      obtain ⟨vt, vf⟩ := v
      refine a_if_eq (tgt := 101) d_M_doNext_93 (by decide) (fun c => ?_) (fun c => ?_)
      · have v := vt (c); clear vt vf
        exact Ev.weak v ⟨rfl, rfl, rfl, trivial⟩
      · have v := vf (c); clear vt vf
        refine a_aload_n d_M_doNext_96 rfl ?_
        refine a_iload_n d_M_doNext_97 rfl ?_
        refine b_callV (as := [vi (xI h 112 (wr ((wr ((24 : Int) * (xI h 135 (wr ((xI h 100 37) - (1 : Int))).toNat))) + (xI h 136 (wr ((xI h 100 37) - (1 : Int))).toNat))).toNat)]) (b := 100) (st := []) (kd := 12) (kc1 := 0) (ks1 := 0) (kc2 := kc) (ks2 := ks) (d' := d) ml_M_280 rfl d_M_doNext_98 rfl rfl (Nat.le_of_ble_eq_true rfl) (by decide) rfl (Nat.le_refl _) (by omega) (by omega) (KNM_100 hm3) ?_
        refine Ev.mono v ?_
        intro u h6 v
        obtain ⟨rfl, v⟩ := kv_el v
        obtain ⟨hm4, v⟩ := v
        change Ev l D Y_M_doNext _ _ _ 101 [some (vr 100), some (vi (wr ((xI h 100 37) - (1 : Int)))), some (vi (xI h 135 (wr ((xI h 100 37) - (1 : Int))).toNat)), some (vi (xI h 112 (wr ((wr ((24 : Int) * (xI h 135 (wr ((xI h 100 37) - (1 : Int))).toNat))) + (xI h 136 (wr ((xI h 100 37) - (1 : Int))).toNat))).toNat))] [] _ _
        exact Ev.weak v ⟨rfl, rfl, rfl, trivial⟩
    · have v := vf (Classical.not_not.mp c); clear vt vf
      refine a_aload_n d_M_doNext_38 rfl ?_
      refine a_dup d_M_doNext_39 rfl ?_
      refine a_getI fl_M_247 d_M_doNext_40 (beq_iff_eq.mpr (KNM_100 hM)) ?_
      refine a_iconst d_M_doNext_43 ⟨by decide, by decide⟩ ?_
      refine a_isub d_M_doNext_44 ?_
      have v := v _ rfl
      refine a_putI fl_M_247 d_M_doNext_45 (beq_iff_eq.mpr (KNM_100 hM)) (by decide) ?_
      refine a_aload_n d_M_doNext_48 rfl ?_
      refine a_dup d_M_doNext_49 rfl ?_
      refine a_getI fl_M_253 d_M_doNext_50 (beq_iff_eq.mpr (KNM_100 hM)) ?_
      refine a_iconst d_M_doNext_53 ⟨by decide, by decide⟩ ?_
      refine a_isub d_M_doNext_54 ?_
      have v := v _ rfl
      refine a_putI fl_M_253 d_M_doNext_55 (beq_iff_eq.mpr (KNM_100 hM)) (by decide) ?_
      refine a_goto (tgt := 101) d_M_doNext_58 (by decide) ?_
      exact v
theorem m_M_doNext_179 {l : Launch} {D : DD} {d kc ks : Nat} {h : Hp} {Φ : Option AV → Hp → Prop} {x1 : Int} {x2 : Int} {x3 : Int} {y0 : Int} (hM : MS h) (v : (y0 = 0 ∨ y0 = 1) ∧ (∀ h1 : Hp, h1 = sI h 100 43 y0 → ((xI h1 100 47 ≥ (20 : Int) → (Φ none h1)) ∧ (xI h1 100 47 < (20 : Int) → (0 ≤ xI h1 100 47 ∧ xI h1 100 47 < 20 ∧ (∀ h2 : Hp, h2 = sI h1 147 (xI h1 100 47).toNat x2 → (∀ h3 : Hp, h3 = sI h2 100 47 (wr ((xI h2 100 47) + (1 : Int))) → (Φ none h3)))))))) : Ev l D Y_M_doNext (d + 1) kc ks 179 [some (vr 100), some (vi x1), some (vi x2), some (vi x3)] [vi y0, vr 100] h Φ := by
  obtain ⟨c3, v⟩ := v
  have v := v _ rfl
  refine a_putZ fl_M_250 d_M_doNext_179 (beq_iff_eq.mpr (KNM_100 hM)) (by decide) c3 ?_
  refine a_aload_n d_M_doNext_182 rfl ?_
  refine a_getI fl_M_268 d_M_doNext_183 (beq_iff_eq.mpr (KNM_100 hM)) ?_
  refine a_bipush d_M_doNext_186 ⟨by decide, by decide⟩ (by decide) ?_
  obtain ⟨vt, vf⟩ := v
  refine a_icmp_ge (tgt := 211) d_M_doNext_188 (by decide) (fun c => ?_) (fun c => ?_)
  · have v := vt (c); clear vt vf
    exact a_vret d_M_doNext_211 rfl v
  · have v := vf (Int.not_le.mp c); clear vt vf
    refine a_aload_n d_M_doNext_191 rfl ?_
    refine a_getAe fl_M_110 d_M_doNext_192 (beq_iff_eq.mpr (KNM_100 hM)) (KRM_100_46 hM) ?_
    refine a_aload_n d_M_doNext_195 rfl ?_
    refine a_getI fl_M_268 d_M_doNext_196 (beq_iff_eq.mpr (KNM_100 hM)) ?_
    refine a_iload_n d_M_doNext_199 rfl ?_
    obtain ⟨c6, c7, v⟩ := v
    have v := v _ rfl
    refine a_iast d_M_doNext_200 (KNM_147 hM) (by decide) c6 (lt_len (NNM_147 hM) c7) ?_
    refine a_aload_n d_M_doNext_201 rfl ?_
    refine a_dup d_M_doNext_202 rfl ?_
    refine a_getI fl_M_268 d_M_doNext_203 (beq_iff_eq.mpr (KNM_100 hM)) ?_
    refine a_iconst d_M_doNext_206 ⟨by decide, by decide⟩ ?_
    refine a_iadd d_M_doNext_207 ?_
    have v := v _ rfl
    refine a_putI fl_M_268 d_M_doNext_208 (beq_iff_eq.mpr (KNM_100 hM)) (by decide) ?_
    exact a_vret d_M_doNext_211 rfl v
theorem m_M_doNext_101 {l : Launch} {D : DD} {d kc ks : Nat} {h : Hp} {Φ : Option AV → Hp → Prop} {x1 : Int} {x2 : Int} (hM : MS h) (v : Φ none h) : Ev l D Y_M_doNext (d + 1) kc ks 101 [some (vr 100), some (vi x1), some (vi x2), none] [] h Φ := by
  exact a_vret d_M_doNext_101 rfl v
theorem d_M_runAll_0 : decode Y_M_runAll.2.1 0 = .ok (.aload_n 0, 1) := by decide +kernel
theorem d_M_runAll_1 : decode Y_M_runAll.2.1 1 = .ok (.invokevirtual 217, 3) := by decide +kernel
theorem d_M_runAll_4 : decode Y_M_runAll.2.1 4 = .ok (.aload_n 0, 1) := by decide +kernel
theorem d_M_runAll_5 : decode Y_M_runAll.2.1 5 = .ok (.lload_n 1, 1) := by decide +kernel
theorem d_M_runAll_6 : decode Y_M_runAll.2.1 6 = .ok (.putfield 239, 3) := by decide +kernel
theorem d_M_runAll_9 : decode Y_M_runAll.2.1 9 = .ok (.aload_n 0, 1) := by decide +kernel
theorem d_M_runAll_10 : decode Y_M_runAll.2.1 10 = .ok (.iconst 0, 1) := by decide +kernel
theorem d_M_runAll_11 : decode Y_M_runAll.2.1 11 = .ok (.putfield 256, 3) := by decide +kernel
theorem d_M_runAll_14 : decode Y_M_runAll.2.1 14 = .ok (.aload_n 0, 1) := by decide +kernel
theorem d_M_runAll_15 : decode Y_M_runAll.2.1 15 = .ok (.iconst 0, 1) := by decide +kernel
theorem d_M_runAll_16 : decode Y_M_runAll.2.1 16 = .ok (.putfield 253, 3) := by decide +kernel
theorem d_M_runAll_19 : decode Y_M_runAll.2.1 19 = .ok (.aload_n 0, 1) := by decide +kernel
theorem d_M_runAll_20 : decode Y_M_runAll.2.1 20 = .ok (.iconst 0, 1) := by decide +kernel
theorem d_M_runAll_21 : decode Y_M_runAll.2.1 21 = .ok (.putfield 259, 3) := by decide +kernel
theorem d_M_runAll_24 : decode Y_M_runAll.2.1 24 = .ok (.aload_n 0, 1) := by decide +kernel
theorem d_M_runAll_25 : decode Y_M_runAll.2.1 25 = .ok (.iconst (-1), 1) := by decide +kernel
theorem d_M_runAll_26 : decode Y_M_runAll.2.1 26 = .ok (.putfield 262, 3) := by decide +kernel
theorem d_M_runAll_29 : decode Y_M_runAll.2.1 29 = .ok (.aload_n 0, 1) := by decide +kernel
theorem d_M_runAll_30 : decode Y_M_runAll.2.1 30 = .ok (.iconst 1, 1) := by decide +kernel
theorem d_M_runAll_31 : decode Y_M_runAll.2.1 31 = .ok (.putfield 250, 3) := by decide +kernel
theorem d_M_runAll_34 : decode Y_M_runAll.2.1 34 = .ok (.aload_n 0, 1) := by decide +kernel
theorem d_M_runAll_35 : decode Y_M_runAll.2.1 35 = .ok (.iconst 0, 1) := by decide +kernel
theorem d_M_runAll_36 : decode Y_M_runAll.2.1 36 = .ok (.putfield 268, 3) := by decide +kernel
theorem d_M_runAll_39 : decode Y_M_runAll.2.1 39 = .ok (.aload_n 0, 1) := by decide +kernel
theorem d_M_runAll_40 : decode Y_M_runAll.2.1 40 = .ok (.iconst 0, 1) := by decide +kernel
theorem d_M_runAll_41 : decode Y_M_runAll.2.1 41 = .ok (.putfield 247, 3) := by decide +kernel
theorem d_M_runAll_44 : decode Y_M_runAll.2.1 44 = .ok (.iconst 0, 1) := by decide +kernel
theorem d_M_runAll_45 : decode Y_M_runAll.2.1 45 = .ok (.istore_n 3, 1) := by decide +kernel
theorem d_M_runAll_46 : decode Y_M_runAll.2.1 46 = .ok (.iload_n 3, 1) := by decide +kernel
theorem d_M_runAll_47 : decode Y_M_runAll.2.1 47 = .ok (.bipush 48, 2) := by decide +kernel
theorem d_M_runAll_49 : decode Y_M_runAll.2.1 49 = .ok (.if_icmp .ge 16, 3) := by decide +kernel
theorem d_M_runAll_52 : decode Y_M_runAll.2.1 52 = .ok (.aload_n 0, 1) := by decide +kernel
theorem d_M_runAll_53 : decode Y_M_runAll.2.1 53 = .ok (.getfield 104, 3) := by decide +kernel
theorem d_M_runAll_56 : decode Y_M_runAll.2.1 56 = .ok (.iload_n 3, 1) := by decide +kernel
theorem d_M_runAll_57 : decode Y_M_runAll.2.1 57 = .ok (.iconst 0, 1) := by decide +kernel
theorem d_M_runAll_58 : decode Y_M_runAll.2.1 58 = .ok (.bastore, 1) := by decide +kernel
theorem d_M_runAll_59 : decode Y_M_runAll.2.1 59 = .ok (.iinc 3 1, 3) := by decide +kernel
theorem d_M_runAll_62 : decode Y_M_runAll.2.1 62 = .ok (.goto (-16), 3) := by decide +kernel
theorem d_M_runAll_65 : decode Y_M_runAll.2.1 65 = .ok (.iconst 0, 1) := by decide +kernel
theorem d_M_runAll_66 : decode Y_M_runAll.2.1 66 = .ok (.istore_n 3, 1) := by decide +kernel
theorem d_M_runAll_67 : decode Y_M_runAll.2.1 67 = .ok (.iload_n 3, 1) := by decide +kernel
theorem d_M_runAll_68 : decode Y_M_runAll.2.1 68 = .ok (.bipush 16, 2) := by decide +kernel
theorem d_M_runAll_70 : decode Y_M_runAll.2.1 70 = .ok (.if_icmp .ge 16, 3) := by decide +kernel
theorem d_M_runAll_73 : decode Y_M_runAll.2.1 73 = .ok (.aload_n 0, 1) := by decide +kernel
theorem d_M_runAll_74 : decode Y_M_runAll.2.1 74 = .ok (.getfield 107, 3) := by decide +kernel
theorem d_M_runAll_77 : decode Y_M_runAll.2.1 77 = .ok (.iload_n 3, 1) := by decide +kernel
theorem d_M_runAll_78 : decode Y_M_runAll.2.1 78 = .ok (.iconst 0, 1) := by decide +kernel
theorem d_M_runAll_79 : decode Y_M_runAll.2.1 79 = .ok (.bastore, 1) := by decide +kernel
theorem d_M_runAll_80 : decode Y_M_runAll.2.1 80 = .ok (.iinc 3 1, 3) := by decide +kernel
theorem d_M_runAll_83 : decode Y_M_runAll.2.1 83 = .ok (.goto (-16), 3) := by decide +kernel
theorem d_M_runAll_86 : decode Y_M_runAll.2.1 86 = .ok (.iconst 0, 1) := by decide +kernel
theorem d_M_runAll_87 : decode Y_M_runAll.2.1 87 = .ok (.istore_n 3, 1) := by decide +kernel
theorem d_M_runAll_88 : decode Y_M_runAll.2.1 88 = .ok (.iload_n 3, 1) := by decide +kernel
theorem d_M_runAll_89 : decode Y_M_runAll.2.1 89 = .ok (.iconst 4, 1) := by decide +kernel
theorem d_M_runAll_90 : decode Y_M_runAll.2.1 90 = .ok (.if_icmp .ge 16, 3) := by decide +kernel
theorem d_M_runAll_93 : decode Y_M_runAll.2.1 93 = .ok (.aload_n 0, 1) := by decide +kernel
theorem d_M_runAll_94 : decode Y_M_runAll.2.1 94 = .ok (.getfield 116, 3) := by decide +kernel
theorem d_M_runAll_97 : decode Y_M_runAll.2.1 97 = .ok (.iload_n 3, 1) := by decide +kernel
theorem d_M_runAll_98 : decode Y_M_runAll.2.1 98 = .ok (.iconst 0, 1) := by decide +kernel
theorem d_M_runAll_99 : decode Y_M_runAll.2.1 99 = .ok (.iastore, 1) := by decide +kernel
theorem d_M_runAll_100 : decode Y_M_runAll.2.1 100 = .ok (.iinc 3 1, 3) := by decide +kernel
theorem d_M_runAll_103 : decode Y_M_runAll.2.1 103 = .ok (.goto (-15), 3) := by decide +kernel
theorem d_M_runAll_106 : decode Y_M_runAll.2.1 106 = .ok (.iconst 0, 1) := by decide +kernel
theorem d_M_runAll_107 : decode Y_M_runAll.2.1 107 = .ok (.istore_n 3, 1) := by decide +kernel
theorem d_M_runAll_108 : decode Y_M_runAll.2.1 108 = .ok (.iload_n 3, 1) := by decide +kernel
theorem d_M_runAll_109 : decode Y_M_runAll.2.1 109 = .ok (.aload_n 0, 1) := by decide +kernel
theorem d_M_runAll_110 : decode Y_M_runAll.2.1 110 = .ok (.getfield 131, 3) := by decide +kernel
theorem d_M_runAll_113 : decode Y_M_runAll.2.1 113 = .ok (.if_icmp .ge 39, 3) := by decide +kernel
theorem d_M_runAll_116 : decode Y_M_runAll.2.1 116 = .ok (.aload_n 0, 1) := by decide +kernel
theorem d_M_runAll_117 : decode Y_M_runAll.2.1 117 = .ok (.getfield 31, 3) := by decide +kernel
theorem d_M_runAll_120 : decode Y_M_runAll.2.1 120 = .ok (.iload_n 3, 1) := by decide +kernel
theorem d_M_runAll_121 : decode Y_M_runAll.2.1 121 = .ok (.baload, 1) := by decide +kernel
theorem d_M_runAll_122 : decode Y_M_runAll.2.1 122 = .ok (.ifCond .eq 24, 3) := by decide +kernel
theorem d_M_runAll_125 : decode Y_M_runAll.2.1 125 = .ok (.aload_n 0, 1) := by decide +kernel
theorem d_M_runAll_126 : decode Y_M_runAll.2.1 126 = .ok (.iconst 1, 1) := by decide +kernel
theorem d_M_runAll_127 : decode Y_M_runAll.2.1 127 = .ok (.iload_n 3, 1) := by decide +kernel
theorem d_M_runAll_128 : decode Y_M_runAll.2.1 128 = .ok (.iconst (-1), 1) := by decide +kernel
theorem d_M_runAll_129 : decode Y_M_runAll.2.1 129 = .ok (.invokevirtual 265, 3) := by decide +kernel
theorem d_M_runAll_132 : decode Y_M_runAll.2.1 132 = .ok (.aload_n 0, 1) := by decide +kernel
theorem d_M_runAll_133 : decode Y_M_runAll.2.1 133 = .ok (.getfield 247, 3) := by decide +kernel
theorem d_M_runAll_136 : decode Y_M_runAll.2.1 136 = .ok (.ifCond .le 10, 3) := by decide +kernel
theorem d_M_runAll_139 : decode Y_M_runAll.2.1 139 = .ok (.aload_n 0, 1) := by decide +kernel
theorem d_M_runAll_140 : decode Y_M_runAll.2.1 140 = .ok (.invokevirtual 289, 3) := by decide +kernel
theorem d_M_runAll_143 : decode Y_M_runAll.2.1 143 = .ok (.goto (-11), 3) := by decide +kernel
theorem d_M_runAll_146 : decode Y_M_runAll.2.1 146 = .ok (.iinc 3 1, 3) := by decide +kernel
theorem d_M_runAll_149 : decode Y_M_runAll.2.1 149 = .ok (.goto (-41), 3) := by decide +kernel
theorem d_M_runAll_152 : decode Y_M_runAll.2.1 152 = .ok (.return_, 1) := by decide +kernel
theorem m_M_runAll_0 {l : Launch} {D : DD} {d kc ks : Nat} {h : Hp} {Φ : Option AV → Hp → Prop} {x1 : Int64} (hM : MS h) (v : Ev l D Y_M_freshen d 0 0 0 [some (vr 100), none, none] [] h (kv (fun h1 => MS h1 ∧ (∀ h2 : Hp, h2 = sL h1 100 38 x1 → (∀ h3 : Hp, h3 = sI h2 100 39 (0 : Int) → (∀ h4 : Hp, h4 = sI h3 100 40 (0 : Int) → (∀ h5 : Hp, h5 = sI h4 100 41 (0 : Int) → (∀ h6 : Hp, h6 = sI h5 100 42 (-1 : Int) → (∀ h7 : Hp, h7 = sI h6 100 43 (1 : Int) → (∀ h8 : Hp, h8 = sI h7 100 47 (0 : Int) → (∀ h9 : Hp, h9 = sI h8 100 37 (0 : Int) → (Ev l D Y_M_runAll (d + 1) kc ks 46 [some (vr 100), some (vl x1), none, some (vi (0 : Int))] [] h9 Φ)))))))))))) : Ev l D Y_M_runAll (d + 1) kc ks 0 [some (vr 100), some (vl x1), none, none] [] h Φ := by
  refine a_aload_n d_M_runAll_0 rfl ?_
  refine b_callV (as := []) (b := 100) (st := []) (kd := 12) (kc1 := 0) (ks1 := 0) (kc2 := kc) (ks2 := ks) (d' := d) ml_M_217 rfl d_M_runAll_1 rfl rfl (Nat.le_of_ble_eq_true rfl) (by decide) rfl (Nat.le_refl _) (by omega) (by omega) (KNM_100 hM) ?_
  refine Ev.mono v ?_
  intro u h1 v
  obtain ⟨rfl, v⟩ := kv_el v
  obtain ⟨hm1, v⟩ := v
  change Ev l D Y_M_runAll _ _ _ 4 [some (vr 100), some (vl x1), none, none] [] _ _
  refine a_aload_n d_M_runAll_4 rfl ?_
  refine a_lload_n d_M_runAll_5 rfl ?_
  have v := v _ rfl
  refine a_putJ fl_M_239 d_M_runAll_6 (beq_iff_eq.mpr (KNM_100 hm1)) (by decide) ?_
  refine a_aload_n d_M_runAll_9 rfl ?_
  refine a_iconst d_M_runAll_10 ⟨by decide, by decide⟩ ?_
  have v := v _ rfl
  refine a_putI fl_M_256 d_M_runAll_11 (beq_iff_eq.mpr (KNM_100 hm1)) (by decide) ?_
  refine a_aload_n d_M_runAll_14 rfl ?_
  refine a_iconst d_M_runAll_15 ⟨by decide, by decide⟩ ?_
  have v := v _ rfl
  refine a_putI fl_M_253 d_M_runAll_16 (beq_iff_eq.mpr (KNM_100 hm1)) (by decide) ?_
  refine a_aload_n d_M_runAll_19 rfl ?_
  refine a_iconst d_M_runAll_20 ⟨by decide, by decide⟩ ?_
  have v := v _ rfl
  refine a_putI fl_M_259 d_M_runAll_21 (beq_iff_eq.mpr (KNM_100 hm1)) (by decide) ?_
  refine a_aload_n d_M_runAll_24 rfl ?_
  refine a_iconst d_M_runAll_25 ⟨by decide, by decide⟩ ?_
  have v := v _ rfl
  refine a_putI fl_M_262 d_M_runAll_26 (beq_iff_eq.mpr (KNM_100 hm1)) (by decide) ?_
  refine a_aload_n d_M_runAll_29 rfl ?_
  refine a_iconst d_M_runAll_30 ⟨by decide, by decide⟩ ?_
  have v := v _ rfl
  refine a_putZ fl_M_250 d_M_runAll_31 (beq_iff_eq.mpr (KNM_100 hm1)) (by decide) (Or.inr rfl) ?_
  refine a_aload_n d_M_runAll_34 rfl ?_
  refine a_iconst d_M_runAll_35 ⟨by decide, by decide⟩ ?_
  have v := v _ rfl
  refine a_putI fl_M_268 d_M_runAll_36 (beq_iff_eq.mpr (KNM_100 hm1)) (by decide) ?_
  refine a_aload_n d_M_runAll_39 rfl ?_
  refine a_iconst d_M_runAll_40 ⟨by decide, by decide⟩ ?_
  have v := v _ rfl
  refine a_putI fl_M_247 d_M_runAll_41 (beq_iff_eq.mpr (KNM_100 hm1)) (by decide) ?_
  refine a_iconst d_M_runAll_44 ⟨by decide, by decide⟩ ?_
  refine a_istore_n (L' := [some (vr 100), some (vl x1), none, some (vi (0 : Int))]) d_M_runAll_45 (Nat.le_of_ble_eq_true rfl) rfl rfl ?_
  exact v
theorem m_M_runAll_46 {l : Launch} {D : DD} {d kc ks : Nat} {h : Hp} {Φ : Option AV → Hp → Prop} {x1 : Int64} {x3 : Int} (hM : MS h) (v : (x3 ≥ (48 : Int) → (Ev l D Y_M_runAll (d + 1) kc ks 67 [some (vr 100), some (vl x1), none, some (vi (0 : Int))] [] h Φ)) ∧ (x3 < (48 : Int) → (0 ≤ x3 ∧ x3 < 48 ∧ (∀ h1 : Hp, h1 = sI h 145 (x3).toNat (0 : Int) → (Ev l D Y_M_runAll (d + 1) kc ks 46 [some (vr 100), some (vl x1), none, some (vi (wr (x3 + (1 : Int))))] [] h1 Φ))))) : Ev l D Y_M_runAll (d + 1) kc ks 46 [some (vr 100), some (vl x1), none, some (vi x3)] [] h Φ := by
  refine a_iload_n d_M_runAll_46 rfl ?_
  refine a_bipush d_M_runAll_47 ⟨by decide, by decide⟩ (by decide) ?_
  obtain ⟨vt, vf⟩ := v
  refine a_icmp_ge (tgt := 65) d_M_runAll_49 (by decide) (fun c => ?_) (fun c => ?_)
  · have v := vt (c); clear vt vf
    refine a_iconst d_M_runAll_65 ⟨by decide, by decide⟩ ?_
    refine a_istore_n (L' := [some (vr 100), some (vl x1), none, some (vi (0 : Int))]) d_M_runAll_66 (Nat.le_of_ble_eq_true rfl) rfl rfl ?_
    exact v
  · have v := vf (Int.not_le.mp c); clear vt vf
    refine a_aload_n d_M_runAll_52 rfl ?_
    refine a_getAe fl_M_104 d_M_runAll_53 (beq_iff_eq.mpr (KNM_100 hM)) (KRM_100_44 hM) ?_
    refine a_iload_n d_M_runAll_56 rfl ?_
    refine a_iconst d_M_runAll_57 ⟨by decide, by decide⟩ ?_
    obtain ⟨c3, c4, v⟩ := v
    have v := v _ rfl
    refine a_zast d_M_runAll_58 (KNM_145 hM) (by decide) c3 (lt_len (NNM_145 hM) c4) (Or.inl rfl) ?_
    refine a_iinc (L' := [some (vr 100), some (vl x1), none, some (vi (wr (x3 + (1 : Int))))]) d_M_runAll_59 rfl (Nat.le_of_ble_eq_true rfl) rfl rfl ?_
    refine a_goto (tgt := 46) d_M_runAll_62 (by decide) ?_
    exact v
theorem m_M_runAll_67 {l : Launch} {D : DD} {d kc ks : Nat} {h : Hp} {Φ : Option AV → Hp → Prop} {x1 : Int64} {x3 : Int} (hM : MS h) (v : (x3 ≥ (16 : Int) → (Ev l D Y_M_runAll (d + 1) kc ks 88 [some (vr 100), some (vl x1), none, some (vi (0 : Int))] [] h Φ)) ∧ (x3 < (16 : Int) → (0 ≤ x3 ∧ x3 < 16 ∧ (∀ h1 : Hp, h1 = sI h 146 (x3).toNat (0 : Int) → (Ev l D Y_M_runAll (d + 1) kc ks 67 [some (vr 100), some (vl x1), none, some (vi (wr (x3 + (1 : Int))))] [] h1 Φ))))) : Ev l D Y_M_runAll (d + 1) kc ks 67 [some (vr 100), some (vl x1), none, some (vi x3)] [] h Φ := by
  refine a_iload_n d_M_runAll_67 rfl ?_
  refine a_bipush d_M_runAll_68 ⟨by decide, by decide⟩ (by decide) ?_
  obtain ⟨vt, vf⟩ := v
  refine a_icmp_ge (tgt := 86) d_M_runAll_70 (by decide) (fun c => ?_) (fun c => ?_)
  · have v := vt (c); clear vt vf
    refine a_iconst d_M_runAll_86 ⟨by decide, by decide⟩ ?_
    refine a_istore_n (L' := [some (vr 100), some (vl x1), none, some (vi (0 : Int))]) d_M_runAll_87 (Nat.le_of_ble_eq_true rfl) rfl rfl ?_
    exact v
  · have v := vf (Int.not_le.mp c); clear vt vf
    refine a_aload_n d_M_runAll_73 rfl ?_
    refine a_getAe fl_M_107 d_M_runAll_74 (beq_iff_eq.mpr (KNM_100 hM)) (KRM_100_45 hM) ?_
    refine a_iload_n d_M_runAll_77 rfl ?_
    refine a_iconst d_M_runAll_78 ⟨by decide, by decide⟩ ?_
    obtain ⟨c3, c4, v⟩ := v
    have v := v _ rfl
    refine a_zast d_M_runAll_79 (KNM_146 hM) (by decide) c3 (lt_len (NNM_146 hM) c4) (Or.inl rfl) ?_
    refine a_iinc (L' := [some (vr 100), some (vl x1), none, some (vi (wr (x3 + (1 : Int))))]) d_M_runAll_80 rfl (Nat.le_of_ble_eq_true rfl) rfl rfl ?_
    refine a_goto (tgt := 67) d_M_runAll_83 (by decide) ?_
    exact v
theorem m_M_runAll_88 {l : Launch} {D : DD} {d kc ks : Nat} {h : Hp} {Φ : Option AV → Hp → Prop} {x1 : Int64} {x3 : Int} (hM : MS h) (v : (x3 ≥ (4 : Int) → (Ev l D Y_M_runAll (d + 1) kc ks 108 [some (vr 100), some (vl x1), none, some (vi (0 : Int))] [] h Φ)) ∧ (x3 < (4 : Int) → (0 ≤ x3 ∧ x3 < 4 ∧ (∀ h1 : Hp, h1 = sI h 150 (x3).toNat (0 : Int) → (Ev l D Y_M_runAll (d + 1) kc ks 88 [some (vr 100), some (vl x1), none, some (vi (wr (x3 + (1 : Int))))] [] h1 Φ))))) : Ev l D Y_M_runAll (d + 1) kc ks 88 [some (vr 100), some (vl x1), none, some (vi x3)] [] h Φ := by
  refine a_iload_n d_M_runAll_88 rfl ?_
  refine a_iconst d_M_runAll_89 ⟨by decide, by decide⟩ ?_
  obtain ⟨vt, vf⟩ := v
  refine a_icmp_ge (tgt := 106) d_M_runAll_90 (by decide) (fun c => ?_) (fun c => ?_)
  · have v := vt (c); clear vt vf
    refine a_iconst d_M_runAll_106 ⟨by decide, by decide⟩ ?_
    refine a_istore_n (L' := [some (vr 100), some (vl x1), none, some (vi (0 : Int))]) d_M_runAll_107 (Nat.le_of_ble_eq_true rfl) rfl rfl ?_
    exact v
  · have v := vf (Int.not_le.mp c); clear vt vf
    refine a_aload_n d_M_runAll_93 rfl ?_
    refine a_getAe fl_M_116 d_M_runAll_94 (beq_iff_eq.mpr (KNM_100 hM)) (KRM_100_49 hM) ?_
    refine a_iload_n d_M_runAll_97 rfl ?_
    refine a_iconst d_M_runAll_98 ⟨by decide, by decide⟩ ?_
    obtain ⟨c3, c4, v⟩ := v
    have v := v _ rfl
    refine a_iast d_M_runAll_99 (KNM_150 hM) (by decide) c3 (lt_len (NNM_150 hM) c4) ?_
    refine a_iinc (L' := [some (vr 100), some (vl x1), none, some (vi (wr (x3 + (1 : Int))))]) d_M_runAll_100 rfl (Nat.le_of_ble_eq_true rfl) rfl rfl ?_
    refine a_goto (tgt := 88) d_M_runAll_103 (by decide) ?_
    exact v
theorem m_M_runAll_108 {l : Launch} {D : DD} {d kc ks : Nat} {h : Hp} {Φ : Option AV → Hp → Prop} {x1 : Int64} {x3 : Int} (hM : MS h) (v : (x3 ≥ xI h 100 5 → (Φ none h)) ∧ (x3 < xI h 100 5 → (0 ≤ x3 ∧ x3 < 48 ∧ ((xI h 110 (x3).toNat = 0 → (Ev l D Y_M_runAll (d + 1) kc ks 108 [some (vr 100), some (vl x1), none, some (vi (wr (x3 + (1 : Int))))] [] h Φ)) ∧ (¬ xI h 110 (x3).toNat = 0 → (Ev l D Y_M_push d 0 0 0 [some (vr 100), some (vi (1 : Int)), some (vi x3), some (vi (-1 : Int))] [] h (kv (fun h1 => MS h1 ∧ (Ev l D Y_M_runAll (d + 1) kc ks 132 [some (vr 100), some (vl x1), none, some (vi x3)] [] h1 Φ))))))))) : Ev l D Y_M_runAll (d + 1) kc ks 108 [some (vr 100), some (vl x1), none, some (vi x3)] [] h Φ := by
  refine a_iload_n d_M_runAll_108 rfl ?_
  refine a_aload_n d_M_runAll_109 rfl ?_
  refine a_getI fl_M_131 d_M_runAll_110 (beq_iff_eq.mpr (KNM_100 hM)) ?_
  obtain ⟨vt, vf⟩ := v
  refine a_icmp_ge (tgt := 152) d_M_runAll_113 (by decide) (fun c => ?_) (fun c => ?_)
  · have v := vt (c); clear vt vf
    exact a_vret d_M_runAll_152 rfl v
  · have v := vf (Int.not_le.mp c); clear vt vf
    refine a_aload_n d_M_runAll_116 rfl ?_
    refine a_getAe fl_M_31 d_M_runAll_117 (beq_iff_eq.mpr (KNM_100 hM)) (KRM_100_9 hM) ?_
    refine a_iload_n d_M_runAll_120 rfl ?_
    obtain ⟨c2, c3, v⟩ := v
    refine a_zald d_M_runAll_121 (KNM_110 hM) c2 (lt_len (NNM_110 hM) c3) ?_
    obtain ⟨vt, vf⟩ := v
    refine a_if_eq (tgt := 146) d_M_runAll_122 (by decide) (fun c => ?_) (fun c => ?_)
    · have v := vt (c); clear vt vf
      refine a_iinc (L' := [some (vr 100), some (vl x1), none, some (vi (wr (x3 + (1 : Int))))]) d_M_runAll_146 rfl (Nat.le_of_ble_eq_true rfl) rfl rfl ?_
      refine a_goto (tgt := 108) d_M_runAll_149 (by decide) ?_
      exact v
    · have v := vf (c); clear vt vf
      refine a_aload_n d_M_runAll_125 rfl ?_
      refine a_iconst d_M_runAll_126 ⟨by decide, by decide⟩ ?_
      refine a_iload_n d_M_runAll_127 rfl ?_
      refine a_iconst d_M_runAll_128 ⟨by decide, by decide⟩ ?_
      refine b_callV (as := [vi (1 : Int), vi x3, vi (-1 : Int)]) (b := 100) (st := []) (kd := 12) (kc1 := 0) (ks1 := 0) (kc2 := kc) (ks2 := ks) (d' := d) ml_M_265 rfl d_M_runAll_129 rfl rfl (Nat.le_of_ble_eq_true rfl) (by decide) rfl (Nat.le_refl _) (by omega) (by omega) (KNM_100 hM) ?_
      refine Ev.mono v ?_
      intro u h1 v
      obtain ⟨rfl, v⟩ := kv_el v
      obtain ⟨hm1, v⟩ := v
      change Ev l D Y_M_runAll _ _ _ 132 [some (vr 100), some (vl x1), none, some (vi x3)] [] _ _
      exact v
theorem m_M_runAll_132 {l : Launch} {D : DD} {d kc ks : Nat} {h : Hp} {Φ : Option AV → Hp → Prop} {x1 : Int64} {x3 : Int} (hM : MS h) (v : (xI h 100 37 ≤ 0 → (Ev l D Y_M_runAll (d + 1) kc ks 108 [some (vr 100), some (vl x1), none, some (vi (wr (x3 + (1 : Int))))] [] h Φ)) ∧ (xI h 100 37 > 0 → (Ev l D Y_M_doNext d 0 0 0 [some (vr 100), none, none, none] [] h (kv (fun h1 => MS h1 ∧ (Ev l D Y_M_runAll (d + 1) kc ks 132 [some (vr 100), some (vl x1), none, some (vi x3)] [] h1 Φ)))))) : Ev l D Y_M_runAll (d + 1) kc ks 132 [some (vr 100), some (vl x1), none, some (vi x3)] [] h Φ := by
  refine a_aload_n d_M_runAll_132 rfl ?_
  refine a_getI fl_M_247 d_M_runAll_133 (beq_iff_eq.mpr (KNM_100 hM)) ?_
  obtain ⟨vt, vf⟩ := v
  refine a_if_le (tgt := 146) d_M_runAll_136 (by decide) (fun c => ?_) (fun c => ?_)
  · have v := vt (c); clear vt vf
    refine a_iinc (L' := [some (vr 100), some (vl x1), none, some (vi (wr (x3 + (1 : Int))))]) d_M_runAll_146 rfl (Nat.le_of_ble_eq_true rfl) rfl rfl ?_
    refine a_goto (tgt := 108) d_M_runAll_149 (by decide) ?_
    exact v
  · have v := vf (Int.not_le.mp c); clear vt vf
    refine a_aload_n d_M_runAll_139 rfl ?_
    refine b_callV (as := []) (b := 100) (st := []) (kd := 12) (kc1 := 0) (ks1 := 0) (kc2 := kc) (ks2 := ks) (d' := d) ml_M_289 rfl d_M_runAll_140 rfl rfl (Nat.le_of_ble_eq_true rfl) (by decide) rfl (Nat.le_refl _) (by omega) (by omega) (KNM_100 hM) ?_
    refine Ev.mono v ?_
    intro u h1 v
    obtain ⟨rfl, v⟩ := kv_el v
    obtain ⟨hm1, v⟩ := v
    change Ev l D Y_M_runAll _ _ _ 143 [some (vr 100), some (vl x1), none, some (vi x3)] [] _ _
    refine a_goto (tgt := 132) d_M_runAll_143 (by decide) ?_
    exact v
theorem d_M_run_0 : decode Y_M_run.2.1 0 = .ok (.iload_n 3, 1) := by decide +kernel
theorem d_M_run_1 : decode Y_M_run.2.1 1 = .ok (.iconst 0, 1) := by decide +kernel
theorem d_M_run_2 : decode Y_M_run.2.1 2 = .ok (.iconst 5, 1) := by decide +kernel
theorem d_M_run_3 : decode Y_M_run.2.1 3 = .ok (.invokestatic 127, 3) := by decide +kernel
theorem d_M_run_6 : decode Y_M_run.2.1 6 = .ok (.ifCond .ne 6, 3) := by decide +kernel
theorem d_M_run_9 : decode Y_M_run.2.1 9 = .ok (.bipush (-102), 2) := by decide +kernel
theorem d_M_run_11 : decode Y_M_run.2.1 11 = .ok (.ireturn, 1) := by decide +kernel
theorem d_M_run_12 : decode Y_M_run.2.1 12 = .ok (.aload_n 0, 1) := by decide +kernel
theorem d_M_run_13 : decode Y_M_run.2.1 13 = .ok (.lload_n 1, 1) := by decide +kernel
theorem d_M_run_14 : decode Y_M_run.2.1 14 = .ok (.invokevirtual 292, 3) := by decide +kernel
theorem d_M_run_17 : decode Y_M_run.2.1 17 = .ok (.iconst 0, 1) := by decide +kernel
theorem d_M_run_18 : decode Y_M_run.2.1 18 = .ok (.istore 4, 2) := by decide +kernel
theorem d_M_run_20 : decode Y_M_run.2.1 20 = .ok (.iconst 0, 1) := by decide +kernel
theorem d_M_run_21 : decode Y_M_run.2.1 21 = .ok (.istore 5, 2) := by decide +kernel
theorem d_M_run_23 : decode Y_M_run.2.1 23 = .ok (.iload 5, 2) := by decide +kernel
theorem d_M_run_25 : decode Y_M_run.2.1 25 = .ok (.aload_n 0, 1) := by decide +kernel
theorem d_M_run_26 : decode Y_M_run.2.1 26 = .ok (.getfield 131, 3) := by decide +kernel
theorem d_M_run_29 : decode Y_M_run.2.1 29 = .ok (.if_icmp .ge 29, 3) := by decide +kernel
theorem d_M_run_32 : decode Y_M_run.2.1 32 = .ok (.iload 4, 2) := by decide +kernel
theorem d_M_run_34 : decode Y_M_run.2.1 34 = .ok (.aload_n 0, 1) := by decide +kernel
theorem d_M_run_35 : decode Y_M_run.2.1 35 = .ok (.getfield 104, 3) := by decide +kernel
theorem d_M_run_38 : decode Y_M_run.2.1 38 = .ok (.iload 5, 2) := by decide +kernel
theorem d_M_run_40 : decode Y_M_run.2.1 40 = .ok (.baload, 1) := by decide +kernel
theorem d_M_run_41 : decode Y_M_run.2.1 41 = .ok (.ifCond .eq 7, 3) := by decide +kernel
theorem d_M_run_44 : decode Y_M_run.2.1 44 = .ok (.iconst 1, 1) := by decide +kernel
theorem d_M_run_45 : decode Y_M_run.2.1 45 = .ok (.goto 4, 3) := by decide +kernel
theorem d_M_run_48 : decode Y_M_run.2.1 48 = .ok (.iconst 0, 1) := by decide +kernel
theorem d_M_run_49 : decode Y_M_run.2.1 49 = .ok (.iadd, 1) := by decide +kernel
theorem d_M_run_50 : decode Y_M_run.2.1 50 = .ok (.istore 4, 2) := by decide +kernel
theorem d_M_run_52 : decode Y_M_run.2.1 52 = .ok (.iinc 5 1, 3) := by decide +kernel
theorem d_M_run_55 : decode Y_M_run.2.1 55 = .ok (.goto (-32), 3) := by decide +kernel
theorem d_M_run_58 : decode Y_M_run.2.1 58 = .ok (.iconst 0, 1) := by decide +kernel
theorem d_M_run_59 : decode Y_M_run.2.1 59 = .ok (.istore 5, 2) := by decide +kernel
theorem d_M_run_61 : decode Y_M_run.2.1 61 = .ok (.iconst 0, 1) := by decide +kernel
theorem d_M_run_62 : decode Y_M_run.2.1 62 = .ok (.istore 6, 2) := by decide +kernel
theorem d_M_run_64 : decode Y_M_run.2.1 64 = .ok (.iload 6, 2) := by decide +kernel
theorem d_M_run_66 : decode Y_M_run.2.1 66 = .ok (.aload_n 0, 1) := by decide +kernel
theorem d_M_run_67 : decode Y_M_run.2.1 67 = .ok (.getfield 123, 3) := by decide +kernel
theorem d_M_run_70 : decode Y_M_run.2.1 70 = .ok (.if_icmp .ge 29, 3) := by decide +kernel
theorem d_M_run_73 : decode Y_M_run.2.1 73 = .ok (.iload 5, 2) := by decide +kernel
theorem d_M_run_75 : decode Y_M_run.2.1 75 = .ok (.aload_n 0, 1) := by decide +kernel
theorem d_M_run_76 : decode Y_M_run.2.1 76 = .ok (.getfield 107, 3) := by decide +kernel
theorem d_M_run_79 : decode Y_M_run.2.1 79 = .ok (.iload 6, 2) := by decide +kernel
theorem d_M_run_81 : decode Y_M_run.2.1 81 = .ok (.baload, 1) := by decide +kernel
theorem d_M_run_82 : decode Y_M_run.2.1 82 = .ok (.ifCond .eq 7, 3) := by decide +kernel
theorem d_M_run_85 : decode Y_M_run.2.1 85 = .ok (.iconst 1, 1) := by decide +kernel
theorem d_M_run_86 : decode Y_M_run.2.1 86 = .ok (.goto 4, 3) := by decide +kernel
theorem d_M_run_89 : decode Y_M_run.2.1 89 = .ok (.iconst 0, 1) := by decide +kernel
theorem d_M_run_90 : decode Y_M_run.2.1 90 = .ok (.iadd, 1) := by decide +kernel
theorem d_M_run_91 : decode Y_M_run.2.1 91 = .ok (.istore 5, 2) := by decide +kernel
theorem d_M_run_93 : decode Y_M_run.2.1 93 = .ok (.iinc 6 1, 3) := by decide +kernel
theorem d_M_run_96 : decode Y_M_run.2.1 96 = .ok (.goto (-32), 3) := by decide +kernel
theorem d_M_run_99 : decode Y_M_run.2.1 99 = .ok (.iload_n 3, 1) := by decide +kernel
theorem d_M_run_100 : decode Y_M_run.2.1 100 = .ok (.ifCond .ne 10, 3) := by decide +kernel
theorem d_M_run_103 : decode Y_M_run.2.1 103 = .ok (.aload_n 0, 1) := by decide +kernel
theorem d_M_run_104 : decode Y_M_run.2.1 104 = .ok (.getfield 256, 3) := by decide +kernel
theorem d_M_run_107 : decode Y_M_run.2.1 107 = .ok (.goto 51, 3) := by decide +kernel
theorem d_M_run_110 : decode Y_M_run.2.1 110 = .ok (.iload_n 3, 1) := by decide +kernel
theorem d_M_run_111 : decode Y_M_run.2.1 111 = .ok (.iconst 1, 1) := by decide +kernel
theorem d_M_run_112 : decode Y_M_run.2.1 112 = .ok (.if_icmp .ne 8, 3) := by decide +kernel
theorem d_M_run_115 : decode Y_M_run.2.1 115 = .ok (.iload 4, 2) := by decide +kernel
theorem d_M_run_117 : decode Y_M_run.2.1 117 = .ok (.goto 41, 3) := by decide +kernel
theorem d_M_run_120 : decode Y_M_run.2.1 120 = .ok (.iload_n 3, 1) := by decide +kernel
theorem d_M_run_121 : decode Y_M_run.2.1 121 = .ok (.iconst 2, 1) := by decide +kernel
theorem d_M_run_122 : decode Y_M_run.2.1 122 = .ok (.if_icmp .ne 10, 3) := by decide +kernel
theorem d_M_run_125 : decode Y_M_run.2.1 125 = .ok (.aload_n 0, 1) := by decide +kernel
theorem d_M_run_126 : decode Y_M_run.2.1 126 = .ok (.getfield 268, 3) := by decide +kernel
theorem d_M_run_129 : decode Y_M_run.2.1 129 = .ok (.goto 29, 3) := by decide +kernel
theorem d_M_run_132 : decode Y_M_run.2.1 132 = .ok (.iload_n 3, 1) := by decide +kernel
theorem d_M_run_133 : decode Y_M_run.2.1 133 = .ok (.iconst 3, 1) := by decide +kernel
theorem d_M_run_134 : decode Y_M_run.2.1 134 = .ok (.if_icmp .ne 8, 3) := by decide +kernel
theorem d_M_run_137 : decode Y_M_run.2.1 137 = .ok (.iload 5, 2) := by decide +kernel
theorem d_M_run_139 : decode Y_M_run.2.1 139 = .ok (.goto 19, 3) := by decide +kernel
theorem d_M_run_142 : decode Y_M_run.2.1 142 = .ok (.iload_n 3, 1) := by decide +kernel
theorem d_M_run_143 : decode Y_M_run.2.1 143 = .ok (.iconst 4, 1) := by decide +kernel
theorem d_M_run_144 : decode Y_M_run.2.1 144 = .ok (.if_icmp .ne 10, 3) := by decide +kernel
theorem d_M_run_147 : decode Y_M_run.2.1 147 = .ok (.aload_n 0, 1) := by decide +kernel
theorem d_M_run_148 : decode Y_M_run.2.1 148 = .ok (.getfield 259, 3) := by decide +kernel
theorem d_M_run_151 : decode Y_M_run.2.1 151 = .ok (.goto 7, 3) := by decide +kernel
theorem d_M_run_154 : decode Y_M_run.2.1 154 = .ok (.aload_n 0, 1) := by decide +kernel
theorem d_M_run_155 : decode Y_M_run.2.1 155 = .ok (.getfield 262, 3) := by decide +kernel
theorem d_M_run_158 : decode Y_M_run.2.1 158 = .ok (.ireturn, 1) := by decide +kernel
theorem m_M_run_0 {l : Launch} {D : DD} {d kc ks : Nat} {h : Hp} {Φ : Option AV → Hp → Prop} {x1 : Int64} {x3 : Int} (hM : MS h) (v : Ev l D Y_M_in d 0 0 0 [some (vi x3), some (vi (0 : Int)), some (vi (5 : Int))] [] h (ki (fun r1 h1 => MS h1 ∧ ((¬ r1 = 0 → (Ev l D Y_M_runAll d 0 0 0 [some (vr 100), some (vl x1), none, none] [] h1 (kv (fun h2 => MS h2 ∧ (Ev l D Y_M_run (d + 1) kc ks 23 [some (vr 100), some (vl x1), none, some (vi x3), some (vi (0 : Int)), some (vi (0 : Int)), none] [] h2 Φ))))) ∧ (r1 = 0 → (Φ (some (vi (-102 : Int))) h1)))))) : Ev l D Y_M_run (d + 1) kc ks 0 [some (vr 100), some (vl x1), none, some (vi x3), none, none, none] [] h Φ := by
  refine a_iload_n d_M_run_0 rfl ?_
  refine a_iconst d_M_run_1 ⟨by decide, by decide⟩ ?_
  refine a_iconst d_M_run_2 ⟨by decide, by decide⟩ ?_
  refine b_callS (as := [vi x3, vi (0 : Int), vi (5 : Int)]) (st := []) (kc1 := 0) (ks1 := 0) (kc2 := kc) (ks2 := ks) (d' := d) ml_M_127 rfl d_M_run_3 rfl rfl (Nat.le_of_ble_eq_true rfl) rfl (Nat.le_refl _) (by omega) (by omega) ?_
  refine Ev.mono v ?_
  intro u h1 v
  obtain ⟨r1, rfl, v⟩ := ki_el v
  obtain ⟨hm1, v⟩ := v
  change Ev l D Y_M_run _ _ _ 6 [some (vr 100), some (vl x1), none, some (vi x3), none, none, none] [vi r1] _ _
  obtain ⟨vt, vf⟩ := v
  refine a_if_ne (tgt := 12) d_M_run_6 (by decide) (fun c => ?_) (fun c => ?_)
  · have v := vt (c); clear vt vf
    refine a_aload_n d_M_run_12 rfl ?_
    refine a_lload_n d_M_run_13 rfl ?_
    refine b_callV (as := [vl x1]) (b := 100) (st := []) (kd := 12) (kc1 := 0) (ks1 := 0) (kc2 := kc) (ks2 := ks) (d' := d) ml_M_292 rfl d_M_run_14 rfl rfl (Nat.le_of_ble_eq_true rfl) (by decide) rfl (Nat.le_refl _) (by omega) (by omega) (KNM_100 hm1) ?_
    refine Ev.mono v ?_
    intro u h2 v
    obtain ⟨rfl, v⟩ := kv_el v
    obtain ⟨hm2, v⟩ := v
    change Ev l D Y_M_run _ _ _ 17 [some (vr 100), some (vl x1), none, some (vi x3), none, none, none] [] _ _
    refine a_iconst d_M_run_17 ⟨by decide, by decide⟩ ?_
    refine a_istore (L' := [some (vr 100), some (vl x1), none, some (vi x3), some (vi (0 : Int)), none, none]) d_M_run_18 (Nat.le_of_ble_eq_true rfl) rfl rfl ?_
    refine a_iconst d_M_run_20 ⟨by decide, by decide⟩ ?_
    refine a_istore (L' := [some (vr 100), some (vl x1), none, some (vi x3), some (vi (0 : Int)), some (vi (0 : Int)), none]) d_M_run_21 (Nat.le_of_ble_eq_true rfl) rfl rfl ?_
    exact v
  · have v := vf (Classical.not_not.mp c); clear vt vf
    refine a_bipush d_M_run_9 ⟨by decide, by decide⟩ (by decide) ?_
    exact a_iret d_M_run_11 rfl v
theorem m_M_run_23 {l : Launch} {D : DD} {d kc ks : Nat} {h : Hp} {Φ : Option AV → Hp → Prop} {x1 : Int64} {x3 : Int} {x4 : Int} {x5 : Int} (hM : MS h) (v : (x5 ≥ xI h 100 5 → (Ev l D Y_M_run (d + 1) kc ks 64 [some (vr 100), some (vl x1), none, some (vi x3), some (vi x4), some (vi (0 : Int)), some (vi (0 : Int))] [] h Φ)) ∧ (x5 < xI h 100 5 → (0 ≤ x5 ∧ x5 < 48 ∧ ((xI h 145 (x5).toNat = 0 → (Ev l D Y_M_run (d + 1) kc ks 23 [some (vr 100), some (vl x1), none, some (vi x3), some (vi (wr (x4 + (0 : Int)))), some (vi (wr (x5 + (1 : Int)))), none] [] h Φ)) ∧ (¬ xI h 145 (x5).toNat = 0 → (Ev l D Y_M_run (d + 1) kc ks 23 [some (vr 100), some (vl x1), none, some (vi x3), some (vi (wr (x4 + (1 : Int)))), some (vi (wr (x5 + (1 : Int)))), none] [] h Φ)))))) : Ev l D Y_M_run (d + 1) kc ks 23 [some (vr 100), some (vl x1), none, some (vi x3), some (vi x4), some (vi x5), none] [] h Φ := by
  refine a_iload d_M_run_23 rfl ?_
  refine a_aload_n d_M_run_25 rfl ?_
  refine a_getI fl_M_131 d_M_run_26 (beq_iff_eq.mpr (KNM_100 hM)) ?_
  obtain ⟨vt, vf⟩ := v
  refine a_icmp_ge (tgt := 58) d_M_run_29 (by decide) (fun c => ?_) (fun c => ?_)
  · have v := vt (c); clear vt vf
    refine a_iconst d_M_run_58 ⟨by decide, by decide⟩ ?_
    refine a_istore (L' := [some (vr 100), some (vl x1), none, some (vi x3), some (vi x4), some (vi (0 : Int)), none]) d_M_run_59 (Nat.le_of_ble_eq_true rfl) rfl rfl ?_
    refine a_iconst d_M_run_61 ⟨by decide, by decide⟩ ?_
    refine a_istore (L' := [some (vr 100), some (vl x1), none, some (vi x3), some (vi x4), some (vi (0 : Int)), some (vi (0 : Int))]) d_M_run_62 (Nat.le_of_ble_eq_true rfl) rfl rfl ?_
    exact v
  · have v := vf (Int.not_le.mp c); clear vt vf
    refine a_iload d_M_run_32 rfl ?_
    refine a_aload_n d_M_run_34 rfl ?_
    refine a_getAe fl_M_104 d_M_run_35 (beq_iff_eq.mpr (KNM_100 hM)) (KRM_100_44 hM) ?_
    refine a_iload d_M_run_38 rfl ?_
    obtain ⟨c2, c3, v⟩ := v
    refine a_zald d_M_run_40 (KNM_145 hM) c2 (lt_len (NNM_145 hM) c3) ?_
    obtain ⟨vt, vf⟩ := v
    refine a_if_eq (tgt := 48) d_M_run_41 (by decide) (fun c => ?_) (fun c => ?_)
    · have v := vt (c); clear vt vf
      refine a_iconst d_M_run_48 ⟨by decide, by decide⟩ ?_
      refine a_iadd d_M_run_49 ?_
      refine a_istore (L' := [some (vr 100), some (vl x1), none, some (vi x3), some (vi (wr (x4 + (0 : Int)))), some (vi x5), none]) d_M_run_50 (Nat.le_of_ble_eq_true rfl) rfl rfl ?_
      refine a_iinc (L' := [some (vr 100), some (vl x1), none, some (vi x3), some (vi (wr (x4 + (0 : Int)))), some (vi (wr (x5 + (1 : Int)))), none]) d_M_run_52 rfl (Nat.le_of_ble_eq_true rfl) rfl rfl ?_
      refine a_goto (tgt := 23) d_M_run_55 (by decide) ?_
      exact v
    · have v := vf (c); clear vt vf
      refine a_iconst d_M_run_44 ⟨by decide, by decide⟩ ?_
      refine a_goto (tgt := 49) d_M_run_45 (by decide) ?_
      refine a_iadd d_M_run_49 ?_
      refine a_istore (L' := [some (vr 100), some (vl x1), none, some (vi x3), some (vi (wr (x4 + (1 : Int)))), some (vi x5), none]) d_M_run_50 (Nat.le_of_ble_eq_true rfl) rfl rfl ?_
      refine a_iinc (L' := [some (vr 100), some (vl x1), none, some (vi x3), some (vi (wr (x4 + (1 : Int)))), some (vi (wr (x5 + (1 : Int)))), none]) d_M_run_52 rfl (Nat.le_of_ble_eq_true rfl) rfl rfl ?_
      refine a_goto (tgt := 23) d_M_run_55 (by decide) ?_
      exact v
theorem m_M_run_64 {l : Launch} {D : DD} {d kc ks : Nat} {h : Hp} {Φ : Option AV → Hp → Prop} {x1 : Int64} {x3 : Int} {x4 : Int} {x5 : Int} {x6 : Int} (hM : MS h) (v : (x6 ≥ xI h 100 0 → ((¬ x3 = 0 → ((¬ x3 = (1 : Int) → ((¬ x3 = (2 : Int) → ((¬ x3 = (3 : Int) → ((¬ x3 = (4 : Int) → (Φ (some (vi (xI h 100 42))) h)) ∧ (x3 = (4 : Int) → (Φ (some (vi (xI h 100 41))) h)))) ∧ (x3 = (3 : Int) → (Φ (some (vi x5)) h)))) ∧ (x3 = (2 : Int) → (Φ (some (vi (xI h 100 47))) h)))) ∧ (x3 = (1 : Int) → (Φ (some (vi x4)) h)))) ∧ (x3 = 0 → (Φ (some (vi (xI h 100 39))) h)))) ∧ (x6 < xI h 100 0 → (0 ≤ x6 ∧ x6 < 16 ∧ ((xI h 146 (x6).toNat = 0 → (Ev l D Y_M_run (d + 1) kc ks 64 [some (vr 100), some (vl x1), none, some (vi x3), some (vi x4), some (vi (wr (x5 + (0 : Int)))), some (vi (wr (x6 + (1 : Int))))] [] h Φ)) ∧ (¬ xI h 146 (x6).toNat = 0 → (Ev l D Y_M_run (d + 1) kc ks 64 [some (vr 100), some (vl x1), none, some (vi x3), some (vi x4), some (vi (wr (x5 + (1 : Int)))), some (vi (wr (x6 + (1 : Int))))] [] h Φ)))))) : Ev l D Y_M_run (d + 1) kc ks 64 [some (vr 100), some (vl x1), none, some (vi x3), some (vi x4), some (vi x5), some (vi x6)] [] h Φ := by
  refine a_iload d_M_run_64 rfl ?_
  refine a_aload_n d_M_run_66 rfl ?_
  refine a_getI fl_M_123 d_M_run_67 (beq_iff_eq.mpr (KNM_100 hM)) ?_
  obtain ⟨vt, vf⟩ := v
  refine a_icmp_ge (tgt := 99) d_M_run_70 (by decide) (fun c => ?_) (fun c => ?_)
  · have v := vt (c); clear vt vf
    refine a_iload_n d_M_run_99 rfl ?_
    obtain ⟨vt, vf⟩ := v
    refine a_if_ne (tgt := 110) d_M_run_100 (by decide) (fun c => ?_) (fun c => ?_)
    · have v := vt (c); clear vt vf
      refine a_iload_n d_M_run_110 rfl ?_
      refine a_iconst d_M_run_111 ⟨by decide, by decide⟩ ?_
      obtain ⟨vt, vf⟩ := v
      refine a_icmp_ne (tgt := 120) d_M_run_112 (by decide) (fun c => ?_) (fun c => ?_)
      · have v := vt (c); clear vt vf
        refine a_iload_n d_M_run_120 rfl ?_
        refine a_iconst d_M_run_121 ⟨by decide, by decide⟩ ?_
        obtain ⟨vt, vf⟩ := v
        refine a_icmp_ne (tgt := 132) d_M_run_122 (by decide) (fun c => ?_) (fun c => ?_)
        · have v := vt (c); clear vt vf
          refine a_iload_n d_M_run_132 rfl ?_
          refine a_iconst d_M_run_133 ⟨by decide, by decide⟩ ?_
          obtain ⟨vt, vf⟩ := v
          refine a_icmp_ne (tgt := 142) d_M_run_134 (by decide) (fun c => ?_) (fun c => ?_)
          · have v := vt (c); clear vt vf
            refine a_iload_n d_M_run_142 rfl ?_
            refine a_iconst d_M_run_143 ⟨by decide, by decide⟩ ?_
            obtain ⟨vt, vf⟩ := v
            refine a_icmp_ne (tgt := 154) d_M_run_144 (by decide) (fun c => ?_) (fun c => ?_)
            · have v := vt (c); clear vt vf
              refine a_aload_n d_M_run_154 rfl ?_
              refine a_getI fl_M_262 d_M_run_155 (beq_iff_eq.mpr (KNM_100 hM)) ?_
              exact a_iret d_M_run_158 rfl v
            · have v := vf (Classical.not_not.mp c); clear vt vf
              refine a_aload_n d_M_run_147 rfl ?_
              refine a_getI fl_M_259 d_M_run_148 (beq_iff_eq.mpr (KNM_100 hM)) ?_
              refine a_goto (tgt := 158) d_M_run_151 (by decide) ?_
              exact a_iret d_M_run_158 rfl v
          · have v := vf (Classical.not_not.mp c); clear vt vf
            refine a_iload d_M_run_137 rfl ?_
            refine a_goto (tgt := 158) d_M_run_139 (by decide) ?_
            exact a_iret d_M_run_158 rfl v
        · have v := vf (Classical.not_not.mp c); clear vt vf
          refine a_aload_n d_M_run_125 rfl ?_
          refine a_getI fl_M_268 d_M_run_126 (beq_iff_eq.mpr (KNM_100 hM)) ?_
          refine a_goto (tgt := 158) d_M_run_129 (by decide) ?_
          exact a_iret d_M_run_158 rfl v
      · have v := vf (Classical.not_not.mp c); clear vt vf
        refine a_iload d_M_run_115 rfl ?_
        refine a_goto (tgt := 158) d_M_run_117 (by decide) ?_
        exact a_iret d_M_run_158 rfl v
    · have v := vf (Classical.not_not.mp c); clear vt vf
      refine a_aload_n d_M_run_103 rfl ?_
      refine a_getI fl_M_256 d_M_run_104 (beq_iff_eq.mpr (KNM_100 hM)) ?_
      refine a_goto (tgt := 158) d_M_run_107 (by decide) ?_
      exact a_iret d_M_run_158 rfl v
  · have v := vf (Int.not_le.mp c); clear vt vf
    refine a_iload d_M_run_73 rfl ?_
    refine a_aload_n d_M_run_75 rfl ?_
    refine a_getAe fl_M_107 d_M_run_76 (beq_iff_eq.mpr (KNM_100 hM)) (KRM_100_45 hM) ?_
    refine a_iload d_M_run_79 rfl ?_
    obtain ⟨c2, c3, v⟩ := v
    refine a_zald d_M_run_81 (KNM_146 hM) c2 (lt_len (NNM_146 hM) c3) ?_
    obtain ⟨vt, vf⟩ := v
    refine a_if_eq (tgt := 89) d_M_run_82 (by decide) (fun c => ?_) (fun c => ?_)
    · have v := vt (c); clear vt vf
      refine a_iconst d_M_run_89 ⟨by decide, by decide⟩ ?_
      refine a_iadd d_M_run_90 ?_
      refine a_istore (L' := [some (vr 100), some (vl x1), none, some (vi x3), some (vi x4), some (vi (wr (x5 + (0 : Int)))), some (vi x6)]) d_M_run_91 (Nat.le_of_ble_eq_true rfl) rfl rfl ?_
      refine a_iinc (L' := [some (vr 100), some (vl x1), none, some (vi x3), some (vi x4), some (vi (wr (x5 + (0 : Int)))), some (vi (wr (x6 + (1 : Int))))]) d_M_run_93 rfl (Nat.le_of_ble_eq_true rfl) rfl rfl ?_
      refine a_goto (tgt := 64) d_M_run_96 (by decide) ?_
      exact v
    · have v := vf (c); clear vt vf
      refine a_iconst d_M_run_85 ⟨by decide, by decide⟩ ?_
      refine a_goto (tgt := 90) d_M_run_86 (by decide) ?_
      refine a_iadd d_M_run_90 ?_
      refine a_istore (L' := [some (vr 100), some (vl x1), none, some (vi x3), some (vi x4), some (vi (wr (x5 + (1 : Int)))), some (vi x6)]) d_M_run_91 (Nat.le_of_ble_eq_true rfl) rfl rfl ?_
      refine a_iinc (L' := [some (vr 100), some (vl x1), none, some (vi x3), some (vi x4), some (vi (wr (x5 + (1 : Int)))), some (vi (wr (x6 + (1 : Int))))]) d_M_run_93 rfl (Nat.le_of_ble_eq_true rfl) rfl rfl ?_
      refine a_goto (tgt := 64) d_M_run_96 (by decide) ?_
      exact v
theorem d_M_holds_0 : decode Y_M_holds.2.1 0 = .ok (.aload_n 0, 1) := by decide +kernel
theorem d_M_holds_1 : decode Y_M_holds.2.1 1 = .ok (.lload_n 1, 1) := by decide +kernel
theorem d_M_holds_2 : decode Y_M_holds.2.1 2 = .ok (.invokevirtual 292, 3) := by decide +kernel
theorem d_M_holds_5 : decode Y_M_holds.2.1 5 = .ok (.aload_n 0, 1) := by decide +kernel
theorem d_M_holds_6 : decode Y_M_holds.2.1 6 = .ok (.getfield 250, 3) := by decide +kernel
theorem d_M_holds_9 : decode Y_M_holds.2.1 9 = .ok (.ireturn, 1) := by decide +kernel
theorem m_M_holds_0 {l : Launch} {D : DD} {d kc ks : Nat} {h : Hp} {Φ : Option AV → Hp → Prop} {x1 : Int64} (hM : MS h) (v : Ev l D Y_M_runAll d 0 0 0 [some (vr 100), some (vl x1), none, none] [] h (kv (fun h1 => MS h1 ∧ ((xI h1 100 43 = 0 ∨ xI h1 100 43 = 1) ∧ Φ (some (vi (xI h1 100 43))) h1)))) : Ev l D Y_M_holds (d + 1) kc ks 0 [some (vr 100), some (vl x1), none] [] h Φ := by
  refine a_aload_n d_M_holds_0 rfl ?_
  refine a_lload_n d_M_holds_1 rfl ?_
  refine b_callV (as := [vl x1]) (b := 100) (st := []) (kd := 12) (kc1 := 0) (ks1 := 0) (kc2 := kc) (ks2 := ks) (d' := d) ml_M_292 rfl d_M_holds_2 rfl rfl (Nat.le_of_ble_eq_true rfl) (by decide) rfl (Nat.le_refl _) (by omega) (by omega) (KNM_100 hM) ?_
  refine Ev.mono v ?_
  intro u h1 v
  obtain ⟨rfl, v⟩ := kv_el v
  obtain ⟨hm1, v⟩ := v
  change Ev l D Y_M_holds _ _ _ 5 [some (vr 100), some (vl x1), none] [] _ _
  refine a_aload_n d_M_holds_5 rfl ?_
  refine a_getZ fl_M_250 d_M_holds_6 (beq_iff_eq.mpr (KNM_100 hm1)) ?_
  exact a_zret d_M_holds_9 rfl v.1 v.2
