theorem d_Run_play_0 : decode Y_Run_play.2.1 0 = .ok (.aload_n 0, 1) := by decide +kernel
theorem d_Run_play_1 : decode Y_Run_play.2.1 1 = .ok (.aload_n 1, 1) := by decide +kernel
theorem d_Run_play_2 : decode Y_Run_play.2.1 2 = .ok (.putfield 34, 3) := by decide +kernel
theorem d_Run_play_5 : decode Y_Run_play.2.1 5 = .ok (.aload_n 0, 1) := by decide +kernel
theorem d_Run_play_6 : decode Y_Run_play.2.1 6 = .ok (.lload_n 2, 1) := by decide +kernel
theorem d_Run_play_7 : decode Y_Run_play.2.1 7 = .ok (.putfield 38, 3) := by decide +kernel
theorem d_Run_play_10 : decode Y_Run_play.2.1 10 = .ok (.aload_n 0, 1) := by decide +kernel
theorem d_Run_play_11 : decode Y_Run_play.2.1 11 = .ok (.iconst 0, 1) := by decide +kernel
theorem d_Run_play_12 : decode Y_Run_play.2.1 12 = .ok (.putfield 42, 3) := by decide +kernel
theorem d_Run_play_15 : decode Y_Run_play.2.1 15 = .ok (.aload_n 0, 1) := by decide +kernel
theorem d_Run_play_16 : decode Y_Run_play.2.1 16 = .ok (.getfield 17, 3) := by decide +kernel
theorem d_Run_play_19 : decode Y_Run_play.2.1 19 = .ok (.iconst 0, 1) := by decide +kernel
theorem d_Run_play_20 : decode Y_Run_play.2.1 20 = .ok (.invokestatic 46, 3) := by decide +kernel
theorem d_Run_play_23 : decode Y_Run_play.2.1 23 = .ok (.aload_n 0, 1) := by decide +kernel
theorem d_Run_play_24 : decode Y_Run_play.2.1 24 = .ok (.getfield 27, 3) := by decide +kernel
theorem d_Run_play_27 : decode Y_Run_play.2.1 27 = .ok (.iconst 0, 1) := by decide +kernel
theorem d_Run_play_28 : decode Y_Run_play.2.1 28 = .ok (.invokestatic 52, 3) := by decide +kernel
theorem d_Run_play_31 : decode Y_Run_play.2.1 31 = .ok (.aload_n 0, 1) := by decide +kernel
theorem d_Run_play_32 : decode Y_Run_play.2.1 32 = .ok (.getfield 31, 3) := by decide +kernel
theorem d_Run_play_35 : decode Y_Run_play.2.1 35 = .ok (.iconst 0, 1) := by decide +kernel
theorem d_Run_play_36 : decode Y_Run_play.2.1 36 = .ok (.invokestatic 46, 3) := by decide +kernel
theorem d_Run_play_39 : decode Y_Run_play.2.1 39 = .ok (.aload_n 0, 1) := by decide +kernel
theorem d_Run_play_40 : decode Y_Run_play.2.1 40 = .ok (.iconst 0, 1) := by decide +kernel
theorem d_Run_play_41 : decode Y_Run_play.2.1 41 = .ok (.putfield 55, 3) := by decide +kernel
theorem d_Run_play_44 : decode Y_Run_play.2.1 44 = .ok (.aload_n 0, 1) := by decide +kernel
theorem d_Run_play_45 : decode Y_Run_play.2.1 45 = .ok (.iconst 0, 1) := by decide +kernel
theorem d_Run_play_46 : decode Y_Run_play.2.1 46 = .ok (.putfield 58, 3) := by decide +kernel
theorem d_Run_play_49 : decode Y_Run_play.2.1 49 = .ok (.aload_n 0, 1) := by decide +kernel
theorem d_Run_play_50 : decode Y_Run_play.2.1 50 = .ok (.iconst 0, 1) := by decide +kernel
theorem d_Run_play_51 : decode Y_Run_play.2.1 51 = .ok (.putfield 61, 3) := by decide +kernel
theorem d_Run_play_54 : decode Y_Run_play.2.1 54 = .ok (.aload_n 0, 1) := by decide +kernel
theorem d_Run_play_55 : decode Y_Run_play.2.1 55 = .ok (.iconst (-1), 1) := by decide +kernel
theorem d_Run_play_56 : decode Y_Run_play.2.1 56 = .ok (.putfield 64, 3) := by decide +kernel
theorem d_Run_play_59 : decode Y_Run_play.2.1 59 = .ok (.aload_n 0, 1) := by decide +kernel
theorem d_Run_play_60 : decode Y_Run_play.2.1 60 = .ok (.iconst 1, 1) := by decide +kernel
theorem d_Run_play_61 : decode Y_Run_play.2.1 61 = .ok (.putfield 67, 3) := by decide +kernel
theorem d_Run_play_64 : decode Y_Run_play.2.1 64 = .ok (.iconst 0, 1) := by decide +kernel
theorem d_Run_play_65 : decode Y_Run_play.2.1 65 = .ok (.istore 4, 2) := by decide +kernel
theorem d_Run_play_67 : decode Y_Run_play.2.1 67 = .ok (.iload 4, 2) := by decide +kernel
theorem d_Run_play_69 : decode Y_Run_play.2.1 69 = .ok (.aload_n 0, 1) := by decide +kernel
theorem d_Run_play_70 : decode Y_Run_play.2.1 70 = .ok (.getfield 34, 3) := by decide +kernel
theorem d_Run_play_73 : decode Y_Run_play.2.1 73 = .ok (.getfield 71, 3) := by decide +kernel
theorem d_Run_play_76 : decode Y_Run_play.2.1 76 = .ok (.if_icmp .ge 40, 3) := by decide +kernel
theorem d_Run_play_79 : decode Y_Run_play.2.1 79 = .ok (.aload_n 0, 1) := by decide +kernel
theorem d_Run_play_80 : decode Y_Run_play.2.1 80 = .ok (.getfield 34, 3) := by decide +kernel
theorem d_Run_play_83 : decode Y_Run_play.2.1 83 = .ok (.getfield 74, 3) := by decide +kernel
theorem d_Run_play_86 : decode Y_Run_play.2.1 86 = .ok (.iload 4, 2) := by decide +kernel
theorem d_Run_play_88 : decode Y_Run_play.2.1 88 = .ok (.aaload, 1) := by decide +kernel
theorem d_Run_play_89 : decode Y_Run_play.2.1 89 = .ok (.getfield 77, 3) := by decide +kernel
theorem d_Run_play_92 : decode Y_Run_play.2.1 92 = .ok (.ifCond .eq 18, 3) := by decide +kernel
theorem d_Run_play_95 : decode Y_Run_play.2.1 95 = .ok (.aload_n 0, 1) := by decide +kernel
theorem d_Run_play_96 : decode Y_Run_play.2.1 96 = .ok (.aconst_null, 1) := by decide +kernel
theorem d_Run_play_97 : decode Y_Run_play.2.1 97 = .ok (.aload_n 0, 1) := by decide +kernel
theorem d_Run_play_98 : decode Y_Run_play.2.1 98 = .ok (.getfield 34, 3) := by decide +kernel
theorem d_Run_play_101 : decode Y_Run_play.2.1 101 = .ok (.getfield 74, 3) := by decide +kernel
theorem d_Run_play_104 : decode Y_Run_play.2.1 104 = .ok (.iload 4, 2) := by decide +kernel
theorem d_Run_play_106 : decode Y_Run_play.2.1 106 = .ok (.aaload, 1) := by decide +kernel
theorem d_Run_play_107 : decode Y_Run_play.2.1 107 = .ok (.invokevirtual 80, 3) := by decide +kernel
theorem d_Run_play_110 : decode Y_Run_play.2.1 110 = .ok (.iinc 4 1, 3) := by decide +kernel
theorem d_Run_play_113 : decode Y_Run_play.2.1 113 = .ok (.goto (-46), 3) := by decide +kernel
theorem d_Run_play_116 : decode Y_Run_play.2.1 116 = .ok (.return_, 1) := by decide +kernel
theorem g_Run_play_0 {l : Launch} {D : DD} {d kc ks : Nat} {h : Hp} {Φ : Option AV → Hp → Prop} {x2 : Int64} (hM : GS h) (v : (∀ h1 : Hp, h1 = sR h 80 0 20 → (GS h1 ∧ (∀ h2 : Hp, h2 = sL h1 80 1 x2 → (∀ h3 : Hp, h3 = sI h2 80 3 (0 : Int) → (Ev l D Y_Arr_fillZ d 0 0 0 [some (vr 82), some (vi (0 : Int)), none, none] [] h3 (kv (fun h4 => GS h4 ∧ (Ev l D Y_Arr_fillI d 0 0 0 [some (vr 84), some (vi (0 : Int)), none, none] [] h4 (kv (fun h5 => GS h5 ∧ (Ev l D Y_Arr_fillZ d 0 0 0 [some (vr 85), some (vi (0 : Int)), none, none] [] h5 (kv (fun h6 => GS h6 ∧ (∀ h7 : Hp, h7 = sI h6 80 8 (0 : Int) → (∀ h8 : Hp, h8 = sI h7 80 9 (0 : Int) → (∀ h9 : Hp, h9 = sI h8 80 10 (0 : Int) → (∀ h10 : Hp, h10 = sI h9 80 11 (-1 : Int) → (∀ h11 : Hp, h11 = sI h10 80 12 (1 : Int) → (Ev l D Y_Run_play (d + 1) kc ks 67 [some (vr 80), some (vr 20), some (vl x2), none, some (vi (0 : Int))] [] h11 Φ)))))))))))))))))))) : Ev l D Y_Run_play (d + 1) kc ks 0 [some (vr 80), some (vr 20), some (vl x2), none, none] [] h Φ := by
  refine a_aload_n d_Run_play_0 rfl ?_
  refine a_aload_n d_Run_play_1 rfl ?_
  have v := v _ rfl
  refine a_putR fl_Run_34 d_Run_play_2 (beq_iff_eq.mpr (KNG_80 hM)) (by decide) ?_
  obtain ⟨hm1, v⟩ := v
  refine a_aload_n d_Run_play_5 rfl ?_
  refine a_lload_n d_Run_play_6 rfl ?_
  have v := v _ rfl
  refine a_putJ fl_Run_38 d_Run_play_7 (beq_iff_eq.mpr (KNG_80 hm1)) (by decide) ?_
  refine a_aload_n d_Run_play_10 rfl ?_
  refine a_iconst d_Run_play_11 ⟨by decide, by decide⟩ ?_
  have v := v _ rfl
  refine a_putI fl_Run_42 d_Run_play_12 (beq_iff_eq.mpr (KNG_80 hm1)) (by decide) ?_
  refine a_aload_n d_Run_play_15 rfl ?_
  refine a_getAe fl_Run_17 d_Run_play_16 (beq_iff_eq.mpr (KNG_80 hm1)) (KRG_80_4 hm1) ?_
  refine a_iconst d_Run_play_19 ⟨by decide, by decide⟩ ?_
  refine b_callS (as := [vr 82, vi (0 : Int)]) (st := []) (kc1 := 0) (ks1 := 0) (kc2 := kc) (ks2 := ks) (d' := d) ml_Run_46 rfl d_Run_play_20 rfl rfl (Nat.le_of_ble_eq_true rfl) rfl (Nat.le_refl _) (by omega) (by omega) ?_
  refine Ev.mono v ?_
  intro u h4 v
  obtain ⟨rfl, v⟩ := kv_el v
  obtain ⟨hm2, v⟩ := v
  change Ev l D Y_Run_play _ _ _ 23 [some (vr 80), some (vr 20), some (vl x2), none, none] [] _ _
  refine a_aload_n d_Run_play_23 rfl ?_
  refine a_getAe fl_Run_27 d_Run_play_24 (beq_iff_eq.mpr (KNG_80 hm2)) (KRG_80_6 hm2) ?_
  refine a_iconst d_Run_play_27 ⟨by decide, by decide⟩ ?_
  refine b_callS (as := [vr 84, vi (0 : Int)]) (st := []) (kc1 := 0) (ks1 := 0) (kc2 := kc) (ks2 := ks) (d' := d) ml_Run_52 rfl d_Run_play_28 rfl rfl (Nat.le_of_ble_eq_true rfl) rfl (Nat.le_refl _) (by omega) (by omega) ?_
  refine Ev.mono v ?_
  intro u h5 v
  obtain ⟨rfl, v⟩ := kv_el v
  obtain ⟨hm3, v⟩ := v
  change Ev l D Y_Run_play _ _ _ 31 [some (vr 80), some (vr 20), some (vl x2), none, none] [] _ _
  refine a_aload_n d_Run_play_31 rfl ?_
  refine a_getAe fl_Run_31 d_Run_play_32 (beq_iff_eq.mpr (KNG_80 hm3)) (KRG_80_7 hm3) ?_
  refine a_iconst d_Run_play_35 ⟨by decide, by decide⟩ ?_
  refine b_callS (as := [vr 85, vi (0 : Int)]) (st := []) (kc1 := 0) (ks1 := 0) (kc2 := kc) (ks2 := ks) (d' := d) ml_Run_46 rfl d_Run_play_36 rfl rfl (Nat.le_of_ble_eq_true rfl) rfl (Nat.le_refl _) (by omega) (by omega) ?_
  refine Ev.mono v ?_
  intro u h6 v
  obtain ⟨rfl, v⟩ := kv_el v
  obtain ⟨hm4, v⟩ := v
  change Ev l D Y_Run_play _ _ _ 39 [some (vr 80), some (vr 20), some (vl x2), none, none] [] _ _
  refine a_aload_n d_Run_play_39 rfl ?_
  refine a_iconst d_Run_play_40 ⟨by decide, by decide⟩ ?_
  have v := v _ rfl
  refine a_putI fl_Run_55 d_Run_play_41 (beq_iff_eq.mpr (KNG_80 hm4)) (by decide) ?_
  refine a_aload_n d_Run_play_44 rfl ?_
  refine a_iconst d_Run_play_45 ⟨by decide, by decide⟩ ?_
  have v := v _ rfl
  refine a_putI fl_Run_58 d_Run_play_46 (beq_iff_eq.mpr (KNG_80 hm4)) (by decide) ?_
  refine a_aload_n d_Run_play_49 rfl ?_
  refine a_iconst d_Run_play_50 ⟨by decide, by decide⟩ ?_
  have v := v _ rfl
  refine a_putI fl_Run_61 d_Run_play_51 (beq_iff_eq.mpr (KNG_80 hm4)) (by decide) ?_
  refine a_aload_n d_Run_play_54 rfl ?_
  refine a_iconst d_Run_play_55 ⟨by decide, by decide⟩ ?_
  have v := v _ rfl
  refine a_putI fl_Run_64 d_Run_play_56 (beq_iff_eq.mpr (KNG_80 hm4)) (by decide) ?_
  refine a_aload_n d_Run_play_59 rfl ?_
  refine a_iconst d_Run_play_60 ⟨by decide, by decide⟩ ?_
  have v := v _ rfl
  refine a_putZ fl_Run_67 d_Run_play_61 (beq_iff_eq.mpr (KNG_80 hm4)) (by decide) (Or.inr rfl) ?_
  refine a_iconst d_Run_play_64 ⟨by decide, by decide⟩ ?_
  refine a_istore (L' := [some (vr 80), some (vr 20), some (vl x2), none, some (vi (0 : Int))]) d_Run_play_65 (Nat.le_of_ble_eq_true rfl) rfl rfl ?_
  exact v
theorem g_Run_play_67 {l : Launch} {D : DD} {d kc ks : Nat} {h : Hp} {Φ : Option AV → Hp → Prop} {x2 : Int64} {x4 : Int} (hM : GS h) (v : xK h (xR h 80 0) = 1 ∧ ((x4 ≥ xI h (xR h 80 0) 3 → (Φ none h)) ∧ (x4 < xI h (xR h 80 0) 3 → (xK h (xR h 80 0) = 1 ∧ ((22 ≤ xK h (xR h (xR h 80 0) 2) ∧ xK h (xR h (xR h 80 0) 2) ≤ 27) ∧ 0 ≤ x4 ∧ x4 < xN h (xR h (xR h 80 0) 2) ∧ (xK h (xR h (xR h (xR h 80 0) 2) (x4).toNat) = 4 ∧ ((xI h (xR h (xR h (xR h 80 0) 2) (x4).toNat) 6 = 0 → (Ev l D Y_Run_play (d + 1) kc ks 67 [some (vr 80), some (vr 20), some (vl x2), none, some (vi (wr (x4 + (1 : Int))))] [] h Φ)) ∧ (¬ xI h (xR h (xR h (xR h 80 0) 2) (x4).toNat) 6 = 0 → (xK h (xR h 80 0) = 1 ∧ ((22 ≤ xK h (xR h (xR h 80 0) 2) ∧ xK h (xR h (xR h 80 0) 2) ≤ 27) ∧ 0 ≤ x4 ∧ x4 < xN h (xR h (xR h 80 0) 2) ∧ (Ev l D Y_Run_run d 0 0 0 [some (vr 80), some (vr 0), some (vr (xR h (xR h (xR h 80 0) 2) (x4).toNat)), none] [] h (kv (fun h1 => GS h1 ∧ (Ev l D Y_Run_play (d + 1) kc ks 67 [some (vr 80), some (vr 20), some (vl x2), none, some (vi (wr (x4 + (1 : Int))))] [] h1 Φ)))))))))))))) : Ev l D Y_Run_play (d + 1) kc ks 67 [some (vr 80), some (vr 20), some (vl x2), none, some (vi x4)] [] h Φ := by
  refine a_iload d_Run_play_67 rfl ?_
  refine a_aload_n d_Run_play_69 rfl ?_
  refine a_getR fl_Run_34 d_Run_play_70 (beq_iff_eq.mpr (KNG_80 hM)) ?_
  obtain ⟨c1, v⟩ := v
  refine a_getIN fl_Run_71 d_Run_play_73 (beq_iff_eq.mpr c1) ?_
  obtain ⟨vt, vf⟩ := v
  refine a_icmp_ge (tgt := 116) d_Run_play_76 (by decide) (fun c => ?_) (fun c => ?_)
  · have v := vt (c); clear vt vf
    exact a_vret d_Run_play_116 rfl v
  · have v := vf (Int.not_le.mp c); clear vt vf
    refine a_aload_n d_Run_play_79 rfl ?_
    refine a_getR fl_Run_34 d_Run_play_80 (beq_iff_eq.mpr (KNG_80 hM)) ?_
    obtain ⟨c2, v⟩ := v
    refine a_getAN fl_Run_74 d_Run_play_83 (beq_iff_eq.mpr c2) ?_
    refine a_iload d_Run_play_86 rfl ?_
    obtain ⟨c3, c4, c5, v⟩ := v
    refine a_aald d_Run_play_88 c3 c4 c5 ?_
    obtain ⟨c6, v⟩ := v
    refine a_getZN fl_Run_77 d_Run_play_89 (beq_iff_eq.mpr c6) ?_
    obtain ⟨vt, vf⟩ := v
    refine a_if_eq (tgt := 110) d_Run_play_92 (by decide) (fun c => ?_) (fun c => ?_)
    · have v := vt (c); clear vt vf
      refine a_iinc (L' := [some (vr 80), some (vr 20), some (vl x2), none, some (vi (wr (x4 + (1 : Int))))]) d_Run_play_110 rfl (Nat.le_of_ble_eq_true rfl) rfl rfl ?_
      refine a_goto (tgt := 67) d_Run_play_113 (by decide) ?_
      exact v
    · have v := vf (c); clear vt vf
      refine a_aload_n d_Run_play_95 rfl ?_
      refine a_null d_Run_play_96 ?_
      refine a_aload_n d_Run_play_97 rfl ?_
      refine a_getR fl_Run_34 d_Run_play_98 (beq_iff_eq.mpr (KNG_80 hM)) ?_
      obtain ⟨c7, v⟩ := v
      refine a_getAN fl_Run_74 d_Run_play_101 (beq_iff_eq.mpr c7) ?_
      refine a_iload d_Run_play_104 rfl ?_
      obtain ⟨c8, c9, c10, v⟩ := v
      refine a_aald d_Run_play_106 c8 c9 c10 ?_
      refine b_callV (as := [vr 0, vr (xR h (xR h (xR h 80 0) 2) (x4).toNat)]) (b := 80) (st := []) (kd := 2) (kc1 := 0) (ks1 := 0) (kc2 := kc) (ks2 := ks) (d' := d) ml_Run_80 rfl d_Run_play_107 rfl rfl (Nat.le_of_ble_eq_true rfl) (by decide) rfl (Nat.le_refl _) (by omega) (by omega) (KNG_80 hM) ?_
      refine Ev.mono v ?_
      intro u h1 v
      obtain ⟨rfl, v⟩ := kv_el v
      obtain ⟨hm1, v⟩ := v
      change Ev l D Y_Run_play _ _ _ 110 [some (vr 80), some (vr 20), some (vl x2), none, some (vi x4)] [] _ _
      refine a_iinc (L' := [some (vr 80), some (vr 20), some (vl x2), none, some (vi (wr (x4 + (1 : Int))))]) d_Run_play_110 rfl (Nat.le_of_ble_eq_true rfl) rfl rfl ?_
      refine a_goto (tgt := 67) d_Run_play_113 (by decide) ?_
      exact v
theorem d_Run_draw_0 : decode Y_Run_draw.2.1 0 = .ok (.aload_n 0, 1) := by decide +kernel
theorem d_Run_draw_1 : decode Y_Run_draw.2.1 1 = .ok (.aload_n 0, 1) := by decide +kernel
theorem d_Run_draw_2 : decode Y_Run_draw.2.1 2 = .ok (.getfield 38, 3) := by decide +kernel
theorem d_Run_draw_5 : decode Y_Run_draw.2.1 5 = .ok (.ldc2_w 84, 3) := by decide +kernel
theorem d_Run_draw_8 : decode Y_Run_draw.2.1 8 = .ok (.lmul, 1) := by decide +kernel
theorem d_Run_draw_9 : decode Y_Run_draw.2.1 9 = .ok (.ldc2_w 86, 3) := by decide +kernel
theorem d_Run_draw_12 : decode Y_Run_draw.2.1 12 = .ok (.ladd, 1) := by decide +kernel
theorem d_Run_draw_13 : decode Y_Run_draw.2.1 13 = .ok (.putfield 38, 3) := by decide +kernel
theorem d_Run_draw_16 : decode Y_Run_draw.2.1 16 = .ok (.aload_n 0, 1) := by decide +kernel
theorem d_Run_draw_17 : decode Y_Run_draw.2.1 17 = .ok (.getfield 38, 3) := by decide +kernel
theorem d_Run_draw_20 : decode Y_Run_draw.2.1 20 = .ok (.bipush 33, 2) := by decide +kernel
theorem d_Run_draw_22 : decode Y_Run_draw.2.1 22 = .ok (.lushr, 1) := by decide +kernel
theorem d_Run_draw_23 : decode Y_Run_draw.2.1 23 = .ok (.iload_n 1, 1) := by decide +kernel
theorem d_Run_draw_24 : decode Y_Run_draw.2.1 24 = .ok (.i2l, 1) := by decide +kernel
theorem d_Run_draw_25 : decode Y_Run_draw.2.1 25 = .ok (.lrem, 1) := by decide +kernel
theorem d_Run_draw_26 : decode Y_Run_draw.2.1 26 = .ok (.l2i, 1) := by decide +kernel
theorem d_Run_draw_27 : decode Y_Run_draw.2.1 27 = .ok (.ireturn, 1) := by decide +kernel
theorem g_Run_draw_0 {l : Launch} {D : DD} {d kc ks : Nat} {h : Hp} {Φ : Option AV → Hp → Prop} {x1 : Int} (hM : RS h) (v : (∀ h1 : Hp, h1 = sL h 80 1 (((xL h 80 1) * (6364136223846793005 : Int64)) + (1442695040888963407 : Int64)) → (¬ ((Int32.ofInt x1).toInt64) = 0 ∧ (Φ (some (vi (((((xL h1 80 1).toUInt64 >>> ((Int32.ofInt (33 : Int)).toInt64.toUInt64 &&& Int64.toUInt64 63)).toInt64) - (((xL h1 80 1).toUInt64 >>> ((Int32.ofInt (33 : Int)).toInt64.toUInt64 &&& Int64.toUInt64 63)).toInt64) / ((Int32.ofInt x1).toInt64) * ((Int32.ofInt x1).toInt64)).toInt32.toInt))) h1)))) : Ev l D Y_Run_draw d kc ks 0 [some (vr 80), some (vi x1)] [] h Φ := by
  refine a_aload_n d_Run_draw_0 rfl ?_
  refine a_aload_n d_Run_draw_1 rfl ?_
  refine a_getJ fl_Run_38 d_Run_draw_2 (beq_iff_eq.mpr (KNR_80 hM)) ?_
  refine a_ldc2 d_Run_draw_5 lc_Run_84 ?_
  refine a_lmul d_Run_draw_8 ?_
  refine a_ldc2 d_Run_draw_9 lc_Run_86 ?_
  refine a_ladd d_Run_draw_12 ?_
  have v := v _ rfl
  refine a_putJ fl_Run_38 d_Run_draw_13 (beq_iff_eq.mpr (KNR_80 hM)) (by decide) ?_
  refine a_aload_n d_Run_draw_16 rfl ?_
  refine a_getJ fl_Run_38 d_Run_draw_17 (beq_iff_eq.mpr (KNR_80 hM)) ?_
  refine a_bipush d_Run_draw_20 ⟨by decide, by decide⟩ (by decide) ?_
  refine a_lushr d_Run_draw_22 ?_
  refine a_iload_n d_Run_draw_23 rfl ?_
  refine a_i2l d_Run_draw_24 ?_
  obtain ⟨c3, v⟩ := v
  refine a_lrem d_Run_draw_25 c3 ?_
  refine a_l2i d_Run_draw_26 ?_
  exact a_iret d_Run_draw_27 rfl v
theorem d_Run_drawT_0 : decode Y_Run_drawT.2.1 0 = .ok (.iconst 0, 1) := by decide +kernel
theorem d_Run_drawT_1 : decode Y_Run_drawT.2.1 1 = .ok (.istore_n 2, 1) := by decide +kernel
theorem d_Run_drawT_2 : decode Y_Run_drawT.2.1 2 = .ok (.iconst 0, 1) := by decide +kernel
theorem d_Run_drawT_3 : decode Y_Run_drawT.2.1 3 = .ok (.istore_n 3, 1) := by decide +kernel
theorem d_Run_drawT_4 : decode Y_Run_drawT.2.1 4 = .ok (.iload_n 3, 1) := by decide +kernel
theorem d_Run_drawT_5 : decode Y_Run_drawT.2.1 5 = .ok (.aload_n 0, 1) := by decide +kernel
theorem d_Run_drawT_6 : decode Y_Run_drawT.2.1 6 = .ok (.getfield 42, 3) := by decide +kernel
theorem d_Run_drawT_9 : decode Y_Run_drawT.2.1 9 = .ok (.if_icmp .ge 30, 3) := by decide +kernel
theorem d_Run_drawT_12 : decode Y_Run_drawT.2.1 12 = .ok (.iload_n 2, 1) := by decide +kernel
theorem d_Run_drawT_13 : decode Y_Run_drawT.2.1 13 = .ok (.aload_n 0, 1) := by decide +kernel
theorem d_Run_drawT_14 : decode Y_Run_drawT.2.1 14 = .ok (.getfield 11, 3) := by decide +kernel
theorem d_Run_drawT_17 : decode Y_Run_drawT.2.1 17 = .ok (.iload_n 3, 1) := by decide +kernel
theorem d_Run_drawT_18 : decode Y_Run_drawT.2.1 18 = .ok (.aaload, 1) := by decide +kernel
theorem d_Run_drawT_19 : decode Y_Run_drawT.2.1 19 = .ok (.aload_n 1, 1) := by decide +kernel
theorem d_Run_drawT_20 : decode Y_Run_drawT.2.1 20 = .ok (.invokevirtual 88, 3) := by decide +kernel
theorem d_Run_drawT_23 : decode Y_Run_drawT.2.1 23 = .ok (.ifCond .eq 7, 3) := by decide +kernel
theorem d_Run_drawT_26 : decode Y_Run_drawT.2.1 26 = .ok (.iconst 1, 1) := by decide +kernel
theorem d_Run_drawT_27 : decode Y_Run_drawT.2.1 27 = .ok (.goto 4, 3) := by decide +kernel
theorem d_Run_drawT_30 : decode Y_Run_drawT.2.1 30 = .ok (.iconst 0, 1) := by decide +kernel
theorem d_Run_drawT_31 : decode Y_Run_drawT.2.1 31 = .ok (.iadd, 1) := by decide +kernel
theorem d_Run_drawT_32 : decode Y_Run_drawT.2.1 32 = .ok (.istore_n 2, 1) := by decide +kernel
theorem d_Run_drawT_33 : decode Y_Run_drawT.2.1 33 = .ok (.iinc 3 1, 3) := by decide +kernel
theorem d_Run_drawT_36 : decode Y_Run_drawT.2.1 36 = .ok (.goto (-32), 3) := by decide +kernel
theorem d_Run_drawT_39 : decode Y_Run_drawT.2.1 39 = .ok (.iload_n 2, 1) := by decide +kernel
theorem d_Run_drawT_40 : decode Y_Run_drawT.2.1 40 = .ok (.ifCond .ne 5, 3) := by decide +kernel
theorem d_Run_drawT_43 : decode Y_Run_drawT.2.1 43 = .ok (.aconst_null, 1) := by decide +kernel
theorem d_Run_drawT_44 : decode Y_Run_drawT.2.1 44 = .ok (.areturn, 1) := by decide +kernel
theorem d_Run_drawT_45 : decode Y_Run_drawT.2.1 45 = .ok (.aload_n 0, 1) := by decide +kernel
theorem d_Run_drawT_46 : decode Y_Run_drawT.2.1 46 = .ok (.iload_n 2, 1) := by decide +kernel
theorem d_Run_drawT_47 : decode Y_Run_drawT.2.1 47 = .ok (.invokevirtual 92, 3) := by decide +kernel
theorem d_Run_drawT_50 : decode Y_Run_drawT.2.1 50 = .ok (.istore_n 3, 1) := by decide +kernel
theorem d_Run_drawT_51 : decode Y_Run_drawT.2.1 51 = .ok (.iconst (-1), 1) := by decide +kernel
theorem d_Run_drawT_52 : decode Y_Run_drawT.2.1 52 = .ok (.istore 4, 2) := by decide +kernel
theorem d_Run_drawT_54 : decode Y_Run_drawT.2.1 54 = .ok (.iload_n 3, 1) := by decide +kernel
theorem d_Run_drawT_55 : decode Y_Run_drawT.2.1 55 = .ok (.ifCond .lt 31, 3) := by decide +kernel
theorem d_Run_drawT_58 : decode Y_Run_drawT.2.1 58 = .ok (.iinc 4 1, 3) := by decide +kernel
theorem d_Run_drawT_61 : decode Y_Run_drawT.2.1 61 = .ok (.iload_n 3, 1) := by decide +kernel
theorem d_Run_drawT_62 : decode Y_Run_drawT.2.1 62 = .ok (.aload_n 0, 1) := by decide +kernel
theorem d_Run_drawT_63 : decode Y_Run_drawT.2.1 63 = .ok (.getfield 11, 3) := by decide +kernel
theorem d_Run_drawT_66 : decode Y_Run_drawT.2.1 66 = .ok (.iload 4, 2) := by decide +kernel
theorem d_Run_drawT_68 : decode Y_Run_drawT.2.1 68 = .ok (.aaload, 1) := by decide +kernel
theorem d_Run_drawT_69 : decode Y_Run_drawT.2.1 69 = .ok (.aload_n 1, 1) := by decide +kernel
theorem d_Run_drawT_70 : decode Y_Run_drawT.2.1 70 = .ok (.invokevirtual 88, 3) := by decide +kernel
theorem d_Run_drawT_73 : decode Y_Run_drawT.2.1 73 = .ok (.ifCond .eq 7, 3) := by decide +kernel
theorem d_Run_drawT_76 : decode Y_Run_drawT.2.1 76 = .ok (.iconst 1, 1) := by decide +kernel
theorem d_Run_drawT_77 : decode Y_Run_drawT.2.1 77 = .ok (.goto 4, 3) := by decide +kernel
theorem d_Run_drawT_80 : decode Y_Run_drawT.2.1 80 = .ok (.iconst 0, 1) := by decide +kernel
theorem d_Run_drawT_81 : decode Y_Run_drawT.2.1 81 = .ok (.isub, 1) := by decide +kernel
theorem d_Run_drawT_82 : decode Y_Run_drawT.2.1 82 = .ok (.istore_n 3, 1) := by decide +kernel
theorem d_Run_drawT_83 : decode Y_Run_drawT.2.1 83 = .ok (.goto (-29), 3) := by decide +kernel
theorem d_Run_drawT_86 : decode Y_Run_drawT.2.1 86 = .ok (.aload_n 0, 1) := by decide +kernel
theorem d_Run_drawT_87 : decode Y_Run_drawT.2.1 87 = .ok (.getfield 11, 3) := by decide +kernel
theorem d_Run_drawT_90 : decode Y_Run_drawT.2.1 90 = .ok (.iload 4, 2) := by decide +kernel
theorem d_Run_drawT_92 : decode Y_Run_drawT.2.1 92 = .ok (.aaload, 1) := by decide +kernel
theorem d_Run_drawT_93 : decode Y_Run_drawT.2.1 93 = .ok (.areturn, 1) := by decide +kernel
theorem g_Run_drawT_0 {l : Launch} {D : DD} {d kc ks : Nat} {h : Hp} {Φ : Option AV → Hp → Prop} {x1 : Nat} (hM : RS h) (v : Ev l D Y_Run_drawT (d + 1) kc ks 4 [some (vr 80), some (vr x1), some (vi (0 : Int)), some (vi (0 : Int)), none] [] h Φ) : Ev l D Y_Run_drawT (d + 1) kc ks 0 [some (vr 80), some (vr x1), none, none, none] [] h Φ := by
  refine a_iconst d_Run_drawT_0 ⟨by decide, by decide⟩ ?_
  refine a_istore_n (L' := [some (vr 80), some (vr x1), some (vi (0 : Int)), none, none]) d_Run_drawT_1 (Nat.le_of_ble_eq_true rfl) rfl rfl ?_
  refine a_iconst d_Run_drawT_2 ⟨by decide, by decide⟩ ?_
  refine a_istore_n (L' := [some (vr 80), some (vr x1), some (vi (0 : Int)), some (vi (0 : Int)), none]) d_Run_drawT_3 (Nat.le_of_ble_eq_true rfl) rfl rfl ?_
  exact v
theorem g_Run_drawT_4 {l : Launch} {D : DD} {d kc ks : Nat} {h : Hp} {Φ : Option AV → Hp → Prop} {x1 : Nat} {x2 : Int} {x3 : Int} (hM : RS h) (v : (x3 ≥ xI h 80 3 → ((¬ x2 = 0 → (Ev l D Y_Run_draw d 0 0 0 [some (vr 80), some (vi x2)] [] h (ki (fun r1 h1 => RS h1 ∧ (Ev l D Y_Run_drawT (d + 1) kc ks 54 [some (vr 80), some (vr x1), some (vi x2), some (vi r1), some (vi (-1 : Int))] [] h1 Φ))))) ∧ (x2 = 0 → (Φ (some (vr 0)) h)))) ∧ (x3 < xI h 80 3 → (0 ≤ x3 ∧ x3 < 20 ∧ (xK h (xR h 81 (x3).toNat) = 3 ∧ Ev l D Y_Type_isUnder d 0 0 0 [some (vr (xR h 81 (x3).toNat)), some (vr x1)] [] h (ki (fun r2 h2 => RS h2 ∧ ((r2 = 0 → (Ev l D Y_Run_drawT (d + 1) kc ks 4 [some (vr 80), some (vr x1), some (vi (wr (x2 + (0 : Int)))), some (vi (wr (x3 + (1 : Int)))), none] [] h2 Φ)) ∧ (¬ r2 = 0 → (Ev l D Y_Run_drawT (d + 1) kc ks 4 [some (vr 80), some (vr x1), some (vi (wr (x2 + (1 : Int)))), some (vi (wr (x3 + (1 : Int)))), none] [] h2 Φ))))))))) : Ev l D Y_Run_drawT (d + 1) kc ks 4 [some (vr 80), some (vr x1), some (vi x2), some (vi x3), none] [] h Φ := by
  refine a_iload_n d_Run_drawT_4 rfl ?_
  refine a_aload_n d_Run_drawT_5 rfl ?_
  refine a_getI fl_Run_42 d_Run_drawT_6 (beq_iff_eq.mpr (KNR_80 hM)) ?_
  obtain ⟨vt, vf⟩ := v
  refine a_icmp_ge (tgt := 39) d_Run_drawT_9 (by decide) (fun c => ?_) (fun c => ?_)
  · have v := vt (c); clear vt vf
    refine a_iload_n d_Run_drawT_39 rfl ?_
    obtain ⟨vt, vf⟩ := v
    refine a_if_ne (tgt := 45) d_Run_drawT_40 (by decide) (fun c => ?_) (fun c => ?_)
    · have v := vt (c); clear vt vf
      refine a_aload_n d_Run_drawT_45 rfl ?_
      refine a_iload_n d_Run_drawT_46 rfl ?_
      refine b_callV (as := [vi x2]) (b := 80) (st := []) (kd := 2) (kc1 := 0) (ks1 := 0) (kc2 := kc) (ks2 := ks) (d' := d) ml_Run_92 rfl d_Run_drawT_47 rfl rfl (Nat.le_of_ble_eq_true rfl) (by decide) rfl (Nat.le_refl _) (by omega) (by omega) (KNR_80 hM) ?_
      refine Ev.mono v ?_
      intro u h1 v
      obtain ⟨r1, rfl, v⟩ := ki_el v
      obtain ⟨hm1, v⟩ := v
      change Ev l D Y_Run_drawT _ _ _ 50 [some (vr 80), some (vr x1), some (vi x2), some (vi x3), none] [vi r1] _ _
      refine a_istore_n (L' := [some (vr 80), some (vr x1), some (vi x2), some (vi r1), none]) d_Run_drawT_50 (Nat.le_of_ble_eq_true rfl) rfl rfl ?_
      refine a_iconst d_Run_drawT_51 ⟨by decide, by decide⟩ ?_
      refine a_istore (L' := [some (vr 80), some (vr x1), some (vi x2), some (vi r1), some (vi (-1 : Int))]) d_Run_drawT_52 (Nat.le_of_ble_eq_true rfl) rfl rfl ?_
      exact v
    · have v := vf (Classical.not_not.mp c); clear vt vf
      refine a_null d_Run_drawT_43 ?_
      exact a_aret d_Run_drawT_44 rfl (Or.inl ⟨_, rfl⟩) v
  · have v := vf (Int.not_le.mp c); clear vt vf
    refine a_iload_n d_Run_drawT_12 rfl ?_
    refine a_aload_n d_Run_drawT_13 rfl ?_
    refine a_getAe fl_Run_11 d_Run_drawT_14 (beq_iff_eq.mpr (KNR_80 hM)) (KRR_80_2 hM) ?_
    refine a_iload_n d_Run_drawT_17 rfl ?_
    obtain ⟨c3, c4, v⟩ := v
    refine a_aald d_Run_drawT_18 ⟨by rw [KNR_81 hM]; decide, by rw [KNR_81 hM]; decide⟩ c3 (lt_len (NNR_81 hM) c4) ?_
    refine a_aload_n d_Run_drawT_19 rfl ?_
    obtain ⟨c5, v⟩ := v
    refine b_callV (as := [vr x1]) (b := (xR h 81 (x3).toNat)) (st := [vi x2]) (kd := 3) (kc1 := 0) (ks1 := 0) (kc2 := kc) (ks2 := ks) (d' := d) ml_Run_88 rfl d_Run_drawT_20 rfl rfl (Nat.le_of_ble_eq_true rfl) (by decide) rfl (Nat.le_refl _) (by omega) (by omega) c5 ?_
    refine Ev.mono v ?_
    intro u h2 v
    obtain ⟨r2, rfl, v⟩ := ki_el v
    obtain ⟨hm2, v⟩ := v
    change Ev l D Y_Run_drawT _ _ _ 23 [some (vr 80), some (vr x1), some (vi x2), some (vi x3), none] [vi r2, vi x2] _ _
    obtain ⟨vt, vf⟩ := v
    refine a_if_eq (tgt := 30) d_Run_drawT_23 (by decide) (fun c => ?_) (fun c => ?_)
    · have v := vt (c); clear vt vf
      refine a_iconst d_Run_drawT_30 ⟨by decide, by decide⟩ ?_
      refine a_iadd d_Run_drawT_31 ?_
      refine a_istore_n (L' := [some (vr 80), some (vr x1), some (vi (wr (x2 + (0 : Int)))), some (vi x3), none]) d_Run_drawT_32 (Nat.le_of_ble_eq_true rfl) rfl rfl ?_
      refine a_iinc (L' := [some (vr 80), some (vr x1), some (vi (wr (x2 + (0 : Int)))), some (vi (wr (x3 + (1 : Int)))), none]) d_Run_drawT_33 rfl (Nat.le_of_ble_eq_true rfl) rfl rfl ?_
      refine a_goto (tgt := 4) d_Run_drawT_36 (by decide) ?_
      exact v
    · have v := vf (c); clear vt vf
      refine a_iconst d_Run_drawT_26 ⟨by decide, by decide⟩ ?_
      refine a_goto (tgt := 31) d_Run_drawT_27 (by decide) ?_
      refine a_iadd d_Run_drawT_31 ?_
      refine a_istore_n (L' := [some (vr 80), some (vr x1), some (vi (wr (x2 + (1 : Int)))), some (vi x3), none]) d_Run_drawT_32 (Nat.le_of_ble_eq_true rfl) rfl rfl ?_
      refine a_iinc (L' := [some (vr 80), some (vr x1), some (vi (wr (x2 + (1 : Int)))), some (vi (wr (x3 + (1 : Int)))), none]) d_Run_drawT_33 rfl (Nat.le_of_ble_eq_true rfl) rfl rfl ?_
      refine a_goto (tgt := 4) d_Run_drawT_36 (by decide) ?_
      exact v
theorem g_Run_drawT_54 {l : Launch} {D : DD} {d kc ks : Nat} {h : Hp} {Φ : Option AV → Hp → Prop} {x1 : Nat} {x2 : Int} {x3 : Int} {x4 : Int} (hM : RS h) (v : (x3 < 0 → (0 ≤ x4 ∧ x4 < 20 ∧ (Φ (some (vr (xR h 81 (x4).toNat))) h))) ∧ (x3 ≥ 0 → (0 ≤ wr (x4 + (1 : Int)) ∧ wr (x4 + (1 : Int)) < 20 ∧ (xK h (xR h 81 (wr (x4 + (1 : Int))).toNat) = 3 ∧ Ev l D Y_Type_isUnder d 0 0 0 [some (vr (xR h 81 (wr (x4 + (1 : Int))).toNat)), some (vr x1)] [] h (ki (fun r1 h1 => RS h1 ∧ ((r1 = 0 → (Ev l D Y_Run_drawT (d + 1) kc ks 54 [some (vr 80), some (vr x1), some (vi x2), some (vi (wr (x3 - (0 : Int)))), some (vi (wr (x4 + (1 : Int))))] [] h1 Φ)) ∧ (¬ r1 = 0 → (Ev l D Y_Run_drawT (d + 1) kc ks 54 [some (vr 80), some (vr x1), some (vi x2), some (vi (wr (x3 - (1 : Int)))), some (vi (wr (x4 + (1 : Int))))] [] h1 Φ))))))))) : Ev l D Y_Run_drawT (d + 1) kc ks 54 [some (vr 80), some (vr x1), some (vi x2), some (vi x3), some (vi x4)] [] h Φ := by
  refine a_iload_n d_Run_drawT_54 rfl ?_
  obtain ⟨vt, vf⟩ := v
  refine a_if_lt (tgt := 86) d_Run_drawT_55 (by decide) (fun c => ?_) (fun c => ?_)
  · have v := vt (c); clear vt vf
    refine a_aload_n d_Run_drawT_86 rfl ?_
    refine a_getAe fl_Run_11 d_Run_drawT_87 (beq_iff_eq.mpr (KNR_80 hM)) (KRR_80_2 hM) ?_
    refine a_iload d_Run_drawT_90 rfl ?_
    obtain ⟨c2, c3, v⟩ := v
    refine a_aald d_Run_drawT_92 ⟨by rw [KNR_81 hM]; decide, by rw [KNR_81 hM]; decide⟩ c2 (lt_len (NNR_81 hM) c3) ?_
    exact a_aret d_Run_drawT_93 rfl (Or.inl ⟨_, rfl⟩) v
  · have v := vf (Int.not_lt.mp c); clear vt vf
    refine a_iinc (L' := [some (vr 80), some (vr x1), some (vi x2), some (vi x3), some (vi (wr (x4 + (1 : Int))))]) d_Run_drawT_58 rfl (Nat.le_of_ble_eq_true rfl) rfl rfl ?_
    refine a_iload_n d_Run_drawT_61 rfl ?_
    refine a_aload_n d_Run_drawT_62 rfl ?_
    refine a_getAe fl_Run_11 d_Run_drawT_63 (beq_iff_eq.mpr (KNR_80 hM)) (KRR_80_2 hM) ?_
    refine a_iload d_Run_drawT_66 rfl ?_
    obtain ⟨c5, c6, v⟩ := v
    refine a_aald d_Run_drawT_68 ⟨by rw [KNR_81 hM]; decide, by rw [KNR_81 hM]; decide⟩ c5 (lt_len (NNR_81 hM) c6) ?_
    refine a_aload_n d_Run_drawT_69 rfl ?_
    obtain ⟨c7, v⟩ := v
    refine b_callV (as := [vr x1]) (b := (xR h 81 (wr (x4 + (1 : Int))).toNat)) (st := [vi x3]) (kd := 3) (kc1 := 0) (ks1 := 0) (kc2 := kc) (ks2 := ks) (d' := d) ml_Run_88 rfl d_Run_drawT_70 rfl rfl (Nat.le_of_ble_eq_true rfl) (by decide) rfl (Nat.le_refl _) (by omega) (by omega) c7 ?_
    refine Ev.mono v ?_
    intro u h1 v
    obtain ⟨r1, rfl, v⟩ := ki_el v
    obtain ⟨hm1, v⟩ := v
    change Ev l D Y_Run_drawT _ _ _ 73 [some (vr 80), some (vr x1), some (vi x2), some (vi x3), some (vi (wr (x4 + (1 : Int))))] [vi r1, vi x3] _ _
    obtain ⟨vt, vf⟩ := v
    refine a_if_eq (tgt := 80) d_Run_drawT_73 (by decide) (fun c => ?_) (fun c => ?_)
    · have v := vt (c); clear vt vf
      refine a_iconst d_Run_drawT_80 ⟨by decide, by decide⟩ ?_
      refine a_isub d_Run_drawT_81 ?_
      refine a_istore_n (L' := [some (vr 80), some (vr x1), some (vi x2), some (vi (wr (x3 - (0 : Int)))), some (vi (wr (x4 + (1 : Int))))]) d_Run_drawT_82 (Nat.le_of_ble_eq_true rfl) rfl rfl ?_
      refine a_goto (tgt := 54) d_Run_drawT_83 (by decide) ?_
      exact v
    · have v := vf (c); clear vt vf
      refine a_iconst d_Run_drawT_76 ⟨by decide, by decide⟩ ?_
      refine a_goto (tgt := 81) d_Run_drawT_77 (by decide) ?_
      refine a_isub d_Run_drawT_81 ?_
      refine a_istore_n (L' := [some (vr 80), some (vr x1), some (vi x2), some (vi (wr (x3 - (1 : Int)))), some (vi (wr (x4 + (1 : Int))))]) d_Run_drawT_82 (Nat.le_of_ble_eq_true rfl) rfl rfl ?_
      refine a_goto (tgt := 54) d_Run_drawT_83 (by decide) ?_
      exact v
theorem d_Run_make_0 : decode Y_Run_make.2.1 0 = .ok (.aload_n 0, 1) := by decide +kernel
theorem d_Run_make_1 : decode Y_Run_make.2.1 1 = .ok (.dup, 1) := by decide +kernel
theorem d_Run_make_2 : decode Y_Run_make.2.1 2 = .ok (.getfield 67, 3) := by decide +kernel
theorem d_Run_make_5 : decode Y_Run_make.2.1 5 = .ok (.aload_n 0, 1) := by decide +kernel
theorem d_Run_make_6 : decode Y_Run_make.2.1 6 = .ok (.getfield 34, 3) := by decide +kernel
theorem d_Run_make_9 : decode Y_Run_make.2.1 9 = .ok (.getfield 96, 3) := by decide +kernel
theorem d_Run_make_12 : decode Y_Run_make.2.1 12 = .ok (.aload_n 1, 1) := by decide +kernel
theorem d_Run_make_13 : decode Y_Run_make.2.1 13 = .ok (.getfield 99, 3) := by decide +kernel
theorem d_Run_make_16 : decode Y_Run_make.2.1 16 = .ok (.baload, 1) := by decide +kernel
theorem d_Run_make_17 : decode Y_Run_make.2.1 17 = .ok (.iand, 1) := by decide +kernel
theorem d_Run_make_18 : decode Y_Run_make.2.1 18 = .ok (.putfield 67, 3) := by decide +kernel
theorem d_Run_make_21 : decode Y_Run_make.2.1 21 = .ok (.aload_n 0, 1) := by decide +kernel
theorem d_Run_make_22 : decode Y_Run_make.2.1 22 = .ok (.getfield 42, 3) := by decide +kernel
theorem d_Run_make_25 : decode Y_Run_make.2.1 25 = .ok (.bipush 20, 2) := by decide +kernel
theorem d_Run_make_27 : decode Y_Run_make.2.1 27 = .ok (.if_icmp .ge 20, 3) := by decide +kernel
theorem d_Run_make_30 : decode Y_Run_make.2.1 30 = .ok (.aload_n 0, 1) := by decide +kernel
theorem d_Run_make_31 : decode Y_Run_make.2.1 31 = .ok (.getfield 11, 3) := by decide +kernel
theorem d_Run_make_34 : decode Y_Run_make.2.1 34 = .ok (.aload_n 0, 1) := by decide +kernel
theorem d_Run_make_35 : decode Y_Run_make.2.1 35 = .ok (.dup, 1) := by decide +kernel
theorem d_Run_make_36 : decode Y_Run_make.2.1 36 = .ok (.getfield 42, 3) := by decide +kernel
theorem d_Run_make_39 : decode Y_Run_make.2.1 39 = .ok (.dup_x1, 1) := by decide +kernel
theorem d_Run_make_40 : decode Y_Run_make.2.1 40 = .ok (.iconst 1, 1) := by decide +kernel
theorem d_Run_make_41 : decode Y_Run_make.2.1 41 = .ok (.iadd, 1) := by decide +kernel
theorem d_Run_make_42 : decode Y_Run_make.2.1 42 = .ok (.putfield 42, 3) := by decide +kernel
theorem d_Run_make_45 : decode Y_Run_make.2.1 45 = .ok (.aload_n 1, 1) := by decide +kernel
theorem d_Run_make_46 : decode Y_Run_make.2.1 46 = .ok (.aastore, 1) := by decide +kernel
theorem d_Run_make_47 : decode Y_Run_make.2.1 47 = .ok (.return_, 1) := by decide +kernel
theorem g_Run_make_0 {l : Launch} {D : DD} {d kc ks : Nat} {h : Hp} {Φ : Option AV → Hp → Prop} {x1 : Nat} (hM : RS h) (v : xK h x1 = 3 ∧ (0 ≤ xI h x1 0 ∧ xI h x1 0 < 16 ∧ ((iandV (xI h 80 12) (xI h 23 (xI h x1 0).toNat) = 0 ∨ iandV (xI h 80 12) (xI h 23 (xI h x1 0).toNat) = 1) ∧ (∀ h1 : Hp, h1 = sI h 80 12 (iandV (xI h 80 12) (xI h 23 (xI h x1 0).toNat)) → ((xI h1 80 3 ≥ (20 : Int) → (Φ none h1)) ∧ (xI h1 80 3 < (20 : Int) → (∀ h2 : Hp, h2 = sI h1 80 3 (wr ((xI h1 80 3) + (1 : Int))) → (sto (xK h2 81) (xK h2 x1) = true ∧ 0 ≤ xI h1 80 3 ∧ xI h1 80 3 < 20 ∧ (∀ h3 : Hp, h3 = sR h2 81 (xI h1 80 3).toNat x1 → (RS h3 ∧ (Φ none h3))))))))))) : Ev l D Y_Run_make d kc ks 0 [some (vr 80), some (vr x1)] [] h Φ := by
  refine a_aload_n d_Run_make_0 rfl ?_
  refine a_dup d_Run_make_1 rfl ?_
  refine a_getZ fl_Run_67 d_Run_make_2 (beq_iff_eq.mpr (KNR_80 hM)) ?_
  refine a_aload_n d_Run_make_5 rfl ?_
  refine a_getRe fl_Run_34 d_Run_make_6 (beq_iff_eq.mpr (KNR_80 hM)) (KRR_80_0 hM) ?_
  refine a_getAeN fl_Run_96 d_Run_make_9 (beq_iff_eq.mpr (KNR_20 hM)) (KRR_20_9 hM) ?_
  refine a_aload_n d_Run_make_12 rfl ?_
  obtain ⟨c1, v⟩ := v
  refine a_getIN fl_Run_99 d_Run_make_13 (beq_iff_eq.mpr c1) ?_
  obtain ⟨c3, c4, v⟩ := v
  refine a_zald d_Run_make_16 (KNR_23 hM) c3 (lt_len (NNR_23 hM) c4) ?_
  refine a_iand d_Run_make_17 ?_
  obtain ⟨c7, v⟩ := v
  have v := v _ rfl
  refine a_putZ fl_Run_67 d_Run_make_18 (beq_iff_eq.mpr (KNR_80 hM)) (by decide) c7 ?_
  refine a_aload_n d_Run_make_21 rfl ?_
  refine a_getI fl_Run_42 d_Run_make_22 (beq_iff_eq.mpr (KNR_80 hM)) ?_
  refine a_bipush d_Run_make_25 ⟨by decide, by decide⟩ (by decide) ?_
  obtain ⟨vt, vf⟩ := v
  refine a_icmp_ge (tgt := 47) d_Run_make_27 (by decide) (fun c => ?_) (fun c => ?_)
  · have v := vt (c); clear vt vf
    exact a_vret d_Run_make_47 rfl v
  · have v := vf (Int.not_le.mp c); clear vt vf
    refine a_aload_n d_Run_make_30 rfl ?_
    refine a_getAe fl_Run_11 d_Run_make_31 (beq_iff_eq.mpr (KNR_80 hM)) (KRR_80_2 hM) ?_
    refine a_aload_n d_Run_make_34 rfl ?_
    refine a_dup d_Run_make_35 rfl ?_
    refine a_getI fl_Run_42 d_Run_make_36 (beq_iff_eq.mpr (KNR_80 hM)) ?_
    refine a_dup_x1 d_Run_make_39 rfl rfl ?_
    refine a_iconst d_Run_make_40 ⟨by decide, by decide⟩ ?_
    refine a_iadd d_Run_make_41 ?_
    have v := v _ rfl
    refine a_putI fl_Run_42 d_Run_make_42 (beq_iff_eq.mpr (KNR_80 hM)) (by decide) ?_
    refine a_aload_n d_Run_make_45 rfl ?_
    obtain ⟨c10, c12, c13, v⟩ := v
    have v := v _ rfl
    refine a_aast d_Run_make_46 c10 (by decide) c12 (lt_len (NNR_81 hM) c13) ?_
    obtain ⟨hm1, v⟩ := v
    exact a_vret d_Run_make_47 rfl v
theorem d_Run_put_0 : decode Y_Run_put.2.1 0 = .ok (.iconst 0, 1) := by decide +kernel
theorem d_Run_put_1 : decode Y_Run_put.2.1 1 = .ok (.istore_n 3, 1) := by decide +kernel
theorem d_Run_put_2 : decode Y_Run_put.2.1 2 = .ok (.iconst 0, 1) := by decide +kernel
theorem d_Run_put_3 : decode Y_Run_put.2.1 3 = .ok (.istore 4, 2) := by decide +kernel
theorem d_Run_put_5 : decode Y_Run_put.2.1 5 = .ok (.iload 4, 2) := by decide +kernel
theorem d_Run_put_7 : decode Y_Run_put.2.1 7 = .ok (.aload_n 0, 1) := by decide +kernel
theorem d_Run_put_8 : decode Y_Run_put.2.1 8 = .ok (.getfield 27, 3) := by decide +kernel
theorem d_Run_put_11 : decode Y_Run_put.2.1 11 = .ok (.iload_n 1, 1) := by decide +kernel
theorem d_Run_put_12 : decode Y_Run_put.2.1 12 = .ok (.iaload, 1) := by decide +kernel
theorem d_Run_put_13 : decode Y_Run_put.2.1 13 = .ok (.if_icmp .ge 33, 3) := by decide +kernel
theorem d_Run_put_16 : decode Y_Run_put.2.1 16 = .ok (.iload_n 3, 1) := by decide +kernel
theorem d_Run_put_17 : decode Y_Run_put.2.1 17 = .ok (.aload_n 0, 1) := by decide +kernel
theorem d_Run_put_18 : decode Y_Run_put.2.1 18 = .ok (.getfield 23, 3) := by decide +kernel
theorem d_Run_put_21 : decode Y_Run_put.2.1 21 = .ok (.iload_n 1, 1) := by decide +kernel
theorem d_Run_put_22 : decode Y_Run_put.2.1 22 = .ok (.bipush 48, 2) := by decide +kernel
theorem d_Run_put_24 : decode Y_Run_put.2.1 24 = .ok (.imul, 1) := by decide +kernel
theorem d_Run_put_25 : decode Y_Run_put.2.1 25 = .ok (.iload 4, 2) := by decide +kernel
theorem d_Run_put_27 : decode Y_Run_put.2.1 27 = .ok (.iadd, 1) := by decide +kernel
theorem d_Run_put_28 : decode Y_Run_put.2.1 28 = .ok (.aaload, 1) := by decide +kernel
theorem d_Run_put_29 : decode Y_Run_put.2.1 29 = .ok (.aload_n 2, 1) := by decide +kernel
theorem d_Run_put_30 : decode Y_Run_put.2.1 30 = .ok (.if_acmp .ne 7, 3) := by decide +kernel
theorem d_Run_put_33 : decode Y_Run_put.2.1 33 = .ok (.iconst 1, 1) := by decide +kernel
theorem d_Run_put_34 : decode Y_Run_put.2.1 34 = .ok (.goto 4, 3) := by decide +kernel
theorem d_Run_put_37 : decode Y_Run_put.2.1 37 = .ok (.iconst 0, 1) := by decide +kernel
theorem d_Run_put_38 : decode Y_Run_put.2.1 38 = .ok (.ior, 1) := by decide +kernel
theorem d_Run_put_39 : decode Y_Run_put.2.1 39 = .ok (.istore_n 3, 1) := by decide +kernel
theorem d_Run_put_40 : decode Y_Run_put.2.1 40 = .ok (.iinc 4 1, 3) := by decide +kernel
theorem d_Run_put_43 : decode Y_Run_put.2.1 43 = .ok (.goto (-38), 3) := by decide +kernel
theorem d_Run_put_46 : decode Y_Run_put.2.1 46 = .ok (.iload_n 3, 1) := by decide +kernel
theorem d_Run_put_47 : decode Y_Run_put.2.1 47 = .ok (.ifCond .ne 25, 3) := by decide +kernel
theorem d_Run_put_50 : decode Y_Run_put.2.1 50 = .ok (.aload_n 0, 1) := by decide +kernel
theorem d_Run_put_51 : decode Y_Run_put.2.1 51 = .ok (.getfield 23, 3) := by decide +kernel
theorem d_Run_put_54 : decode Y_Run_put.2.1 54 = .ok (.iload_n 1, 1) := by decide +kernel
theorem d_Run_put_55 : decode Y_Run_put.2.1 55 = .ok (.bipush 48, 2) := by decide +kernel
theorem d_Run_put_57 : decode Y_Run_put.2.1 57 = .ok (.imul, 1) := by decide +kernel
theorem d_Run_put_58 : decode Y_Run_put.2.1 58 = .ok (.aload_n 0, 1) := by decide +kernel
theorem d_Run_put_59 : decode Y_Run_put.2.1 59 = .ok (.getfield 27, 3) := by decide +kernel
theorem d_Run_put_62 : decode Y_Run_put.2.1 62 = .ok (.iload_n 1, 1) := by decide +kernel
theorem d_Run_put_63 : decode Y_Run_put.2.1 63 = .ok (.dup2, 1) := by decide +kernel
theorem d_Run_put_64 : decode Y_Run_put.2.1 64 = .ok (.iaload, 1) := by decide +kernel
theorem d_Run_put_65 : decode Y_Run_put.2.1 65 = .ok (.dup_x2, 1) := by decide +kernel
theorem d_Run_put_66 : decode Y_Run_put.2.1 66 = .ok (.iconst 1, 1) := by decide +kernel
theorem d_Run_put_67 : decode Y_Run_put.2.1 67 = .ok (.iadd, 1) := by decide +kernel
theorem d_Run_put_68 : decode Y_Run_put.2.1 68 = .ok (.iastore, 1) := by decide +kernel
theorem d_Run_put_69 : decode Y_Run_put.2.1 69 = .ok (.iadd, 1) := by decide +kernel
theorem d_Run_put_70 : decode Y_Run_put.2.1 70 = .ok (.aload_n 2, 1) := by decide +kernel
theorem d_Run_put_71 : decode Y_Run_put.2.1 71 = .ok (.aastore, 1) := by decide +kernel
theorem d_Run_put_72 : decode Y_Run_put.2.1 72 = .ok (.return_, 1) := by decide +kernel
theorem g_Run_put_0 {l : Launch} {D : DD} {d kc ks : Nat} {h : Hp} {Φ : Option AV → Hp → Prop} {x1 : Int} {x2 : Nat} (hM : RS h) (v : Ev l D Y_Run_put d kc ks 5 [some (vr 80), some (vi x1), some (vr x2), some (vi (0 : Int)), some (vi (0 : Int))] [] h Φ) : Ev l D Y_Run_put d kc ks 0 [some (vr 80), some (vi x1), some (vr x2), none, none] [] h Φ := by
  refine a_iconst d_Run_put_0 ⟨by decide, by decide⟩ ?_
  refine a_istore_n (L' := [some (vr 80), some (vi x1), some (vr x2), some (vi (0 : Int)), none]) d_Run_put_1 (Nat.le_of_ble_eq_true rfl) rfl rfl ?_
  refine a_iconst d_Run_put_2 ⟨by decide, by decide⟩ ?_
  refine a_istore (L' := [some (vr 80), some (vi x1), some (vr x2), some (vi (0 : Int)), some (vi (0 : Int))]) d_Run_put_3 (Nat.le_of_ble_eq_true rfl) rfl rfl ?_
  exact v
theorem g_Run_put_5 {l : Launch} {D : DD} {d kc ks : Nat} {h : Hp} {Φ : Option AV → Hp → Prop} {x1 : Int} {x2 : Nat} {x3 : Int} {x4 : Int} (hM : RS h) (v : 0 ≤ x1 ∧ x1 < 4 ∧ ((x4 ≥ xI h 84 (x1).toNat → ((¬ x3 = 0 → (Φ none h)) ∧ (x3 = 0 → (0 ≤ x1 ∧ x1 < 4 ∧ (0 ≤ x1 ∧ x1 < 4 ∧ (∀ h1 : Hp, h1 = sI h 84 (x1).toNat (wr ((xI h 84 (x1).toNat) + (1 : Int))) → (sto (xK h1 83) (xK h1 x2) = true ∧ 0 ≤ wr ((wr (x1 * (48 : Int))) + (xI h 84 (x1).toNat)) ∧ wr ((wr (x1 * (48 : Int))) + (xI h 84 (x1).toNat)) < 192 ∧ (∀ h2 : Hp, h2 = sR h1 83 (wr ((wr (x1 * (48 : Int))) + (xI h 84 (x1).toNat))).toNat x2 → (RS h2 ∧ (Φ none h2)))))))))) ∧ (x4 < xI h 84 (x1).toNat → (0 ≤ wr ((wr (x1 * (48 : Int))) + x4) ∧ wr ((wr (x1 * (48 : Int))) + x4) < 192 ∧ ((¬ xR h 83 (wr ((wr (x1 * (48 : Int))) + x4)).toNat = x2 → (Ev l D Y_Run_put d kc ks 5 [some (vr 80), some (vi x1), some (vr x2), some (vi (iorV x3 (0 : Int))), some (vi (wr (x4 + (1 : Int))))] [] h Φ)) ∧ (xR h 83 (wr ((wr (x1 * (48 : Int))) + x4)).toNat = x2 → (Ev l D Y_Run_put d kc ks 5 [some (vr 80), some (vi x1), some (vr x2), some (vi (iorV x3 (1 : Int))), some (vi (wr (x4 + (1 : Int))))] [] h Φ))))))) : Ev l D Y_Run_put d kc ks 5 [some (vr 80), some (vi x1), some (vr x2), some (vi x3), some (vi x4)] [] h Φ := by
  refine a_iload d_Run_put_5 rfl ?_
  refine a_aload_n d_Run_put_7 rfl ?_
  refine a_getAe fl_Run_27 d_Run_put_8 (beq_iff_eq.mpr (KNR_80 hM)) (KRR_80_6 hM) ?_
  refine a_iload_n d_Run_put_11 rfl ?_
  obtain ⟨c2, c3, v⟩ := v
  refine a_iald d_Run_put_12 (Or.inl (KNR_84 hM)) c2 (lt_len (NNR_84 hM) c3) ?_
  obtain ⟨vt, vf⟩ := v
  refine a_icmp_ge (tgt := 46) d_Run_put_13 (by decide) (fun c => ?_) (fun c => ?_)
  · have v := vt (c); clear vt vf
    refine a_iload_n d_Run_put_46 rfl ?_
    obtain ⟨vt, vf⟩ := v
    refine a_if_ne (tgt := 72) d_Run_put_47 (by decide) (fun c => ?_) (fun c => ?_)
    · have v := vt (c); clear vt vf
      exact a_vret d_Run_put_72 rfl v
    · have v := vf (Classical.not_not.mp c); clear vt vf
      refine a_aload_n d_Run_put_50 rfl ?_
      refine a_getAe fl_Run_23 d_Run_put_51 (beq_iff_eq.mpr (KNR_80 hM)) (KRR_80_5 hM) ?_
      refine a_iload_n d_Run_put_54 rfl ?_
      refine a_bipush d_Run_put_55 ⟨by decide, by decide⟩ (by decide) ?_
      refine a_imul d_Run_put_57 ?_
      refine a_aload_n d_Run_put_58 rfl ?_
      refine a_getAe fl_Run_27 d_Run_put_59 (beq_iff_eq.mpr (KNR_80 hM)) (KRR_80_6 hM) ?_
      refine a_iload_n d_Run_put_62 rfl ?_
      refine a_dup2 d_Run_put_63 rfl rfl ?_
      obtain ⟨c5, c6, v⟩ := v
      refine a_iald d_Run_put_64 (Or.inl (KNR_84 hM)) c5 (lt_len (NNR_84 hM) c6) ?_
      refine a_dup_x2 d_Run_put_65 rfl rfl rfl ?_
      refine a_iconst d_Run_put_66 ⟨by decide, by decide⟩ ?_
      refine a_iadd d_Run_put_67 ?_
      obtain ⟨c9, c10, v⟩ := v
      have v := v _ rfl
      refine a_iast d_Run_put_68 (KNR_84 hM) (by decide) c9 (lt_len (NNR_84 hM) c10) ?_
      refine a_iadd d_Run_put_69 ?_
      refine a_aload_n d_Run_put_70 rfl ?_
      obtain ⟨c11, c13, c14, v⟩ := v
      have v := v _ rfl
      refine a_aast d_Run_put_71 c11 (by decide) c13 (lt_len (NNR_83 hM) c14) ?_
      obtain ⟨hm1, v⟩ := v
      exact a_vret d_Run_put_72 rfl v
  · have v := vf (Int.not_le.mp c); clear vt vf
    refine a_iload_n d_Run_put_16 rfl ?_
    refine a_aload_n d_Run_put_17 rfl ?_
    refine a_getAe fl_Run_23 d_Run_put_18 (beq_iff_eq.mpr (KNR_80 hM)) (KRR_80_5 hM) ?_
    refine a_iload_n d_Run_put_21 rfl ?_
    refine a_bipush d_Run_put_22 ⟨by decide, by decide⟩ (by decide) ?_
    refine a_imul d_Run_put_24 ?_
    refine a_iload d_Run_put_25 rfl ?_
    refine a_iadd d_Run_put_27 ?_
    obtain ⟨c16, c17, v⟩ := v
    refine a_aald d_Run_put_28 ⟨by rw [KNR_83 hM]; decide, by rw [KNR_83 hM]; decide⟩ c16 (lt_len (NNR_83 hM) c17) ?_
    refine a_aload_n d_Run_put_29 rfl ?_
    obtain ⟨vt, vf⟩ := v
    refine a_acmp_ne (tgt := 37) d_Run_put_30 (by decide) (fun c => ?_) (fun c => ?_)
    · have v := vt (c); clear vt vf
      refine a_iconst d_Run_put_37 ⟨by decide, by decide⟩ ?_
      refine a_ior d_Run_put_38 ?_
      refine a_istore_n (L' := [some (vr 80), some (vi x1), some (vr x2), some (vi (iorV x3 (0 : Int))), some (vi x4)]) d_Run_put_39 (Nat.le_of_ble_eq_true rfl) rfl rfl ?_
      refine a_iinc (L' := [some (vr 80), some (vi x1), some (vr x2), some (vi (iorV x3 (0 : Int))), some (vi (wr (x4 + (1 : Int))))]) d_Run_put_40 rfl (Nat.le_of_ble_eq_true rfl) rfl rfl ?_
      refine a_goto (tgt := 5) d_Run_put_43 (by decide) ?_
      exact v
    · have v := vf (c); clear vt vf
      refine a_iconst d_Run_put_33 ⟨by decide, by decide⟩ ?_
      refine a_goto (tgt := 38) d_Run_put_34 (by decide) ?_
      refine a_ior d_Run_put_38 ?_
      refine a_istore_n (L' := [some (vr 80), some (vi x1), some (vr x2), some (vi (iorV x3 (1 : Int))), some (vi x4)]) d_Run_put_39 (Nat.le_of_ble_eq_true rfl) rfl rfl ?_
      refine a_iinc (L' := [some (vr 80), some (vi x1), some (vr x2), some (vi (iorV x3 (1 : Int))), some (vi (wr (x4 + (1 : Int))))]) d_Run_put_40 rfl (Nat.le_of_ble_eq_true rfl) rfl rfl ?_
      refine a_goto (tgt := 5) d_Run_put_43 (by decide) ?_
      exact v
theorem d_Run_begin_0 : decode Y_Run_begin.2.1 0 = .ok (.aload_n 0, 1) := by decide +kernel
theorem d_Run_begin_1 : decode Y_Run_begin.2.1 1 = .ok (.getfield 17, 3) := by decide +kernel
theorem d_Run_begin_4 : decode Y_Run_begin.2.1 4 = .ok (.aload_n 2, 1) := by decide +kernel
theorem d_Run_begin_5 : decode Y_Run_begin.2.1 5 = .ok (.getfield 99, 3) := by decide +kernel
theorem d_Run_begin_8 : decode Y_Run_begin.2.1 8 = .ok (.baload, 1) := by decide +kernel
theorem d_Run_begin_9 : decode Y_Run_begin.2.1 9 = .ok (.ifCond .eq 4, 3) := by decide +kernel
theorem d_Run_begin_12 : decode Y_Run_begin.2.1 12 = .ok (.return_, 1) := by decide +kernel
theorem d_Run_begin_13 : decode Y_Run_begin.2.1 13 = .ok (.aload_n 0, 1) := by decide +kernel
theorem d_Run_begin_14 : decode Y_Run_begin.2.1 14 = .ok (.getfield 17, 3) := by decide +kernel
theorem d_Run_begin_17 : decode Y_Run_begin.2.1 17 = .ok (.aload_n 2, 1) := by decide +kernel
theorem d_Run_begin_18 : decode Y_Run_begin.2.1 18 = .ok (.getfield 99, 3) := by decide +kernel
theorem d_Run_begin_21 : decode Y_Run_begin.2.1 21 = .ok (.iconst 1, 1) := by decide +kernel
theorem d_Run_begin_22 : decode Y_Run_begin.2.1 22 = .ok (.bastore, 1) := by decide +kernel
theorem d_Run_begin_23 : decode Y_Run_begin.2.1 23 = .ok (.aload_n 0, 1) := by decide +kernel
theorem d_Run_begin_24 : decode Y_Run_begin.2.1 24 = .ok (.dup, 1) := by decide +kernel
theorem d_Run_begin_25 : decode Y_Run_begin.2.1 25 = .ok (.getfield 67, 3) := by decide +kernel
theorem d_Run_begin_28 : decode Y_Run_begin.2.1 28 = .ok (.aload_n 0, 1) := by decide +kernel
theorem d_Run_begin_29 : decode Y_Run_begin.2.1 29 = .ok (.getfield 34, 3) := by decide +kernel
theorem d_Run_begin_32 : decode Y_Run_begin.2.1 32 = .ok (.getfield 102, 3) := by decide +kernel
theorem d_Run_begin_35 : decode Y_Run_begin.2.1 35 = .ok (.aload_n 2, 1) := by decide +kernel
theorem d_Run_begin_36 : decode Y_Run_begin.2.1 36 = .ok (.getfield 99, 3) := by decide +kernel
theorem d_Run_begin_39 : decode Y_Run_begin.2.1 39 = .ok (.baload, 1) := by decide +kernel
theorem d_Run_begin_40 : decode Y_Run_begin.2.1 40 = .ok (.iand, 1) := by decide +kernel
theorem d_Run_begin_41 : decode Y_Run_begin.2.1 41 = .ok (.putfield 67, 3) := by decide +kernel
theorem d_Run_begin_44 : decode Y_Run_begin.2.1 44 = .ok (.aload_n 2, 1) := by decide +kernel
theorem d_Run_begin_45 : decode Y_Run_begin.2.1 45 = .ok (.invokevirtual 103, 3) := by decide +kernel
theorem d_Run_begin_48 : decode Y_Run_begin.2.1 48 = .ok (.ifCond .eq 81, 3) := by decide +kernel
theorem d_Run_begin_51 : decode Y_Run_begin.2.1 51 = .ok (.aload_n 2, 1) := by decide +kernel
theorem d_Run_begin_52 : decode Y_Run_begin.2.1 52 = .ok (.getfield 107, 3) := by decide +kernel
theorem d_Run_begin_55 : decode Y_Run_begin.2.1 55 = .ok (.ifnull 12, 3) := by decide +kernel
theorem d_Run_begin_58 : decode Y_Run_begin.2.1 58 = .ok (.aload_n 0, 1) := by decide +kernel
theorem d_Run_begin_59 : decode Y_Run_begin.2.1 59 = .ok (.aload_n 1, 1) := by decide +kernel
theorem d_Run_begin_60 : decode Y_Run_begin.2.1 60 = .ok (.aload_n 2, 1) := by decide +kernel
theorem d_Run_begin_61 : decode Y_Run_begin.2.1 61 = .ok (.getfield 107, 3) := by decide +kernel
theorem d_Run_begin_64 : decode Y_Run_begin.2.1 64 = .ok (.invokevirtual 111, 3) := by decide +kernel
theorem d_Run_begin_67 : decode Y_Run_begin.2.1 67 = .ok (.iconst 0, 1) := by decide +kernel
theorem d_Run_begin_68 : decode Y_Run_begin.2.1 68 = .ok (.istore_n 3, 1) := by decide +kernel
theorem d_Run_begin_69 : decode Y_Run_begin.2.1 69 = .ok (.iload_n 3, 1) := by decide +kernel
theorem d_Run_begin_70 : decode Y_Run_begin.2.1 70 = .ok (.aload_n 0, 1) := by decide +kernel
theorem d_Run_begin_71 : decode Y_Run_begin.2.1 71 = .ok (.getfield 34, 3) := by decide +kernel
theorem d_Run_begin_74 : decode Y_Run_begin.2.1 74 = .ok (.getfield 115, 3) := by decide +kernel
theorem d_Run_begin_77 : decode Y_Run_begin.2.1 77 = .ok (.if_icmp .ge 52, 3) := by decide +kernel
theorem d_Run_begin_80 : decode Y_Run_begin.2.1 80 = .ok (.aload_n 0, 1) := by decide +kernel
theorem d_Run_begin_81 : decode Y_Run_begin.2.1 81 = .ok (.getfield 34, 3) := by decide +kernel
theorem d_Run_begin_84 : decode Y_Run_begin.2.1 84 = .ok (.getfield 118, 3) := by decide +kernel
theorem d_Run_begin_87 : decode Y_Run_begin.2.1 87 = .ok (.iload_n 3, 1) := by decide +kernel
theorem d_Run_begin_88 : decode Y_Run_begin.2.1 88 = .ok (.aaload, 1) := by decide +kernel
theorem d_Run_begin_89 : decode Y_Run_begin.2.1 89 = .ok (.astore 4, 2) := by decide +kernel
theorem d_Run_begin_91 : decode Y_Run_begin.2.1 91 = .ok (.aload 4, 2) := by decide +kernel
theorem d_Run_begin_93 : decode Y_Run_begin.2.1 93 = .ok (.invokevirtual 103, 3) := by decide +kernel
theorem d_Run_begin_96 : decode Y_Run_begin.2.1 96 = .ok (.ifCond .ne 27, 3) := by decide +kernel
theorem d_Run_begin_99 : decode Y_Run_begin.2.1 99 = .ok (.aload_n 2, 1) := by decide +kernel
theorem d_Run_begin_100 : decode Y_Run_begin.2.1 100 = .ok (.aload 4, 2) := by decide +kernel
theorem d_Run_begin_102 : decode Y_Run_begin.2.1 102 = .ok (.invokevirtual 88, 3) := by decide +kernel
theorem d_Run_begin_105 : decode Y_Run_begin.2.1 105 = .ok (.ifCond .eq 18, 3) := by decide +kernel
theorem d_Run_begin_108 : decode Y_Run_begin.2.1 108 = .ok (.aload 4, 2) := by decide +kernel
theorem d_Run_begin_110 : decode Y_Run_begin.2.1 110 = .ok (.invokevirtual 121, 3) := by decide +kernel
theorem d_Run_begin_113 : decode Y_Run_begin.2.1 113 = .ok (.ifCond .eq 10, 3) := by decide +kernel
theorem d_Run_begin_116 : decode Y_Run_begin.2.1 116 = .ok (.aload_n 0, 1) := by decide +kernel
theorem d_Run_begin_117 : decode Y_Run_begin.2.1 117 = .ok (.aload_n 1, 1) := by decide +kernel
theorem d_Run_begin_118 : decode Y_Run_begin.2.1 118 = .ok (.aload 4, 2) := by decide +kernel
theorem d_Run_begin_120 : decode Y_Run_begin.2.1 120 = .ok (.invokevirtual 111, 3) := by decide +kernel
theorem d_Run_begin_123 : decode Y_Run_begin.2.1 123 = .ok (.iinc 3 1, 3) := by decide +kernel
theorem d_Run_begin_126 : decode Y_Run_begin.2.1 126 = .ok (.goto (-57), 3) := by decide +kernel
theorem d_Run_begin_129 : decode Y_Run_begin.2.1 129 = .ok (.aload_n 2, 1) := by decide +kernel
theorem d_Run_begin_130 : decode Y_Run_begin.2.1 130 = .ok (.getfield 124, 3) := by decide +kernel
theorem d_Run_begin_133 : decode Y_Run_begin.2.1 133 = .ok (.ifnull 12, 3) := by decide +kernel
theorem d_Run_begin_136 : decode Y_Run_begin.2.1 136 = .ok (.aload_n 0, 1) := by decide +kernel
theorem d_Run_begin_137 : decode Y_Run_begin.2.1 137 = .ok (.aload_n 1, 1) := by decide +kernel
theorem d_Run_begin_138 : decode Y_Run_begin.2.1 138 = .ok (.aload_n 2, 1) := by decide +kernel
theorem d_Run_begin_139 : decode Y_Run_begin.2.1 139 = .ok (.getfield 124, 3) := by decide +kernel
theorem d_Run_begin_142 : decode Y_Run_begin.2.1 142 = .ok (.invokevirtual 80, 3) := by decide +kernel
theorem d_Run_begin_145 : decode Y_Run_begin.2.1 145 = .ok (.return_, 1) := by decide +kernel
theorem g_Run_begin_0 {l : Launch} {D : DD} {d kc ks : Nat} {h : Hp} {Φ : Option AV → Hp → Prop} {x1 : Nat} {x2 : Nat} (hM : RS h) (v : xK h x2 = 3 ∧ (0 ≤ xI h x2 0 ∧ xI h x2 0 < 16 ∧ ((xI h 82 (xI h x2 0).toNat = 0 → (xK h x2 = 3 ∧ (0 ≤ xI h x2 0 ∧ xI h x2 0 < 16 ∧ (∀ h1 : Hp, h1 = sI h 82 (xI h x2 0).toNat (1 : Int) → (xK h1 x2 = 3 ∧ (0 ≤ xI h1 x2 0 ∧ xI h1 x2 0 < 16 ∧ ((iandV (xI h1 80 12) (xI h1 24 (xI h1 x2 0).toNat) = 0 ∨ iandV (xI h1 80 12) (xI h1 24 (xI h1 x2 0).toNat) = 1) ∧ (∀ h2 : Hp, h2 = sI h1 80 12 (iandV (xI h1 80 12) (xI h1 24 (xI h1 x2 0).toNat)) → (xK h2 x2 = 3 ∧ Ev l D Y_Type_isClass d 0 0 0 [some (vr x2)] [] h2 (ki (fun r1 h3 => RS h3 ∧ ((r1 = 0 → (xK h3 x2 = 3 ∧ ((xR h3 x2 7 = 0 → (Φ none h3)) ∧ (¬ xR h3 x2 7 = 0 → (xK h3 x2 = 3 ∧ (Ev l D Y_Run_run d 0 0 0 [some (vr 80), some (vr x1), some (vr (xR h3 x2 7)), none] [] h3 (kv (fun h4 => RS h4 ∧ (Φ none h4))))))))) ∧ (¬ r1 = 0 → (xK h3 x2 = 3 ∧ ((xR h3 x2 2 = 0 → (Ev l D Y_Run_begin (d + 1) kc ks 69 [some (vr 80), some (vr x1), some (vr x2), some (vi (0 : Int)), none] [] h3 Φ)) ∧ (¬ xR h3 x2 2 = 0 → (xK h3 x2 = 3 ∧ (Ev l D Y_Run_begin d 0 0 0 [some (vr 80), some (vr x1), some (vr (xR h3 x2 2)), none, none] [] h3 (kv (fun h5 => RS h5 ∧ (Ev l D Y_Run_begin (d + 1) kc ks 69 [some (vr 80), some (vr x1), some (vr x2), some (vi (0 : Int)), none] [] h5 Φ))))))))))))))))))))) ∧ (¬ xI h 82 (xI h x2 0).toNat = 0 → (Φ none h))))) : Ev l D Y_Run_begin (d + 1) kc ks 0 [some (vr 80), some (vr x1), some (vr x2), none, none] [] h Φ := by
  refine a_aload_n d_Run_begin_0 rfl ?_
  refine a_getAe fl_Run_17 d_Run_begin_1 (beq_iff_eq.mpr (KNR_80 hM)) (KRR_80_4 hM) ?_
  refine a_aload_n d_Run_begin_4 rfl ?_
  obtain ⟨c1, v⟩ := v
  refine a_getIN fl_Run_99 d_Run_begin_5 (beq_iff_eq.mpr c1) ?_
  obtain ⟨c3, c4, v⟩ := v
  refine a_zald d_Run_begin_8 (KNR_82 hM) c3 (lt_len (NNR_82 hM) c4) ?_
  obtain ⟨vt, vf⟩ := v
  refine a_if_eq (tgt := 13) d_Run_begin_9 (by decide) (fun c => ?_) (fun c => ?_)
  · have v := vt (c); clear vt vf
    refine a_aload_n d_Run_begin_13 rfl ?_
    refine a_getAe fl_Run_17 d_Run_begin_14 (beq_iff_eq.mpr (KNR_80 hM)) (KRR_80_4 hM) ?_
    refine a_aload_n d_Run_begin_17 rfl ?_
    obtain ⟨c5, v⟩ := v
    refine a_getIN fl_Run_99 d_Run_begin_18 (beq_iff_eq.mpr c5) ?_
    refine a_iconst d_Run_begin_21 ⟨by decide, by decide⟩ ?_
    obtain ⟨c8, c9, v⟩ := v
    have v := v _ rfl
    refine a_zast d_Run_begin_22 (KNR_82 hM) (by decide) c8 (lt_len (NNR_82 hM) c9) (Or.inr rfl) ?_
    refine a_aload_n d_Run_begin_23 rfl ?_
    refine a_dup d_Run_begin_24 rfl ?_
    refine a_getZ fl_Run_67 d_Run_begin_25 (beq_iff_eq.mpr (KNR_80 hM)) ?_
    refine a_aload_n d_Run_begin_28 rfl ?_
    refine a_getRe fl_Run_34 d_Run_begin_29 (beq_iff_eq.mpr (KNR_80 hM)) (KRR_80_0 hM) ?_
    refine a_getAeN fl_Run_102 d_Run_begin_32 (beq_iff_eq.mpr (KNR_20 hM)) (KRR_20_10 hM) ?_
    refine a_aload_n d_Run_begin_35 rfl ?_
    obtain ⟨c10, v⟩ := v
    refine a_getIN fl_Run_99 d_Run_begin_36 (beq_iff_eq.mpr c10) ?_
    obtain ⟨c12, c13, v⟩ := v
    refine a_zald d_Run_begin_39 (KNR_24 hM) c12 (lt_len (NNR_24 hM) c13) ?_
    refine a_iand d_Run_begin_40 ?_
    obtain ⟨c16, v⟩ := v
    have v := v _ rfl
    refine a_putZ fl_Run_67 d_Run_begin_41 (beq_iff_eq.mpr (KNR_80 hM)) (by decide) c16 ?_
    refine a_aload_n d_Run_begin_44 rfl ?_
    obtain ⟨c23, v⟩ := v
    refine b_callV (as := []) (b := x2) (st := []) (kd := 3) (kc1 := 0) (ks1 := 0) (kc2 := kc) (ks2 := ks) (d' := d) ml_Run_103 rfl d_Run_begin_45 rfl rfl (Nat.le_of_ble_eq_true rfl) (by decide) rfl (Nat.le_refl _) (by omega) (by omega) c23 ?_
    refine Ev.mono v ?_
    intro u h3 v
    obtain ⟨r1, rfl, v⟩ := ki_el v
    obtain ⟨hm1, v⟩ := v
    change Ev l D Y_Run_begin _ _ _ 48 [some (vr 80), some (vr x1), some (vr x2), none, none] [vi r1] _ _
    obtain ⟨vt, vf⟩ := v
    refine a_if_eq (tgt := 129) d_Run_begin_48 (by decide) (fun c => ?_) (fun c => ?_)
    · have v := vt (c); clear vt vf
      refine a_aload_n d_Run_begin_129 rfl ?_
      obtain ⟨c17, v⟩ := v
      refine a_getRN fl_Run_124 d_Run_begin_130 (beq_iff_eq.mpr c17) ?_
      obtain ⟨vt, vf⟩ := v
      refine a_ifnull (tgt := 145) d_Run_begin_133 (by decide) (fun c => ?_) (fun c => ?_)
      · have v := vt (c); clear vt vf
        exact a_vret d_Run_begin_145 rfl v
      · have v := vf (c); clear vt vf
        refine a_aload_n d_Run_begin_136 rfl ?_
        refine a_aload_n d_Run_begin_137 rfl ?_
        refine a_aload_n d_Run_begin_138 rfl ?_
        obtain ⟨c18, v⟩ := v
        refine a_getRN fl_Run_124 d_Run_begin_139 (beq_iff_eq.mpr c18) ?_
        refine b_callV (as := [vr x1, vr (xR h3 x2 7)]) (b := 80) (st := []) (kd := 2) (kc1 := 0) (ks1 := 0) (kc2 := kc) (ks2 := ks) (d' := d) ml_Run_80 rfl d_Run_begin_142 rfl rfl (Nat.le_of_ble_eq_true rfl) (by decide) rfl (Nat.le_refl _) (by omega) (by omega) (KNR_80 hm1) ?_
        refine Ev.mono v ?_
        intro u h4 v
        obtain ⟨rfl, v⟩ := kv_el v
        obtain ⟨hm2, v⟩ := v
        change Ev l D Y_Run_begin _ _ _ 145 [some (vr 80), some (vr x1), some (vr x2), none, none] [] _ _
        exact a_vret d_Run_begin_145 rfl v
    · have v := vf (c); clear vt vf
      refine a_aload_n d_Run_begin_51 rfl ?_
      obtain ⟨c20, v⟩ := v
      refine a_getRN fl_Run_107 d_Run_begin_52 (beq_iff_eq.mpr c20) ?_
      obtain ⟨vt, vf⟩ := v
      refine a_ifnull (tgt := 67) d_Run_begin_55 (by decide) (fun c => ?_) (fun c => ?_)
      · have v := vt (c); clear vt vf
        refine a_iconst d_Run_begin_67 ⟨by decide, by decide⟩ ?_
        refine a_istore_n (L' := [some (vr 80), some (vr x1), some (vr x2), some (vi (0 : Int)), none]) d_Run_begin_68 (Nat.le_of_ble_eq_true rfl) rfl rfl ?_
        exact v
      · have v := vf (c); clear vt vf
        refine a_aload_n d_Run_begin_58 rfl ?_
        refine a_aload_n d_Run_begin_59 rfl ?_
        refine a_aload_n d_Run_begin_60 rfl ?_
        obtain ⟨c21, v⟩ := v
        refine a_getRN fl_Run_107 d_Run_begin_61 (beq_iff_eq.mpr c21) ?_
        refine b_callV (as := [vr x1, vr (xR h3 x2 2)]) (b := 80) (st := []) (kd := 2) (kc1 := 0) (ks1 := 0) (kc2 := kc) (ks2 := ks) (d' := d) ml_Run_111 rfl d_Run_begin_64 rfl rfl (Nat.le_of_ble_eq_true rfl) (by decide) rfl (Nat.le_refl _) (by omega) (by omega) (KNR_80 hm1) ?_
        refine Ev.mono v ?_
        intro u h5 v
        obtain ⟨rfl, v⟩ := kv_el v
        obtain ⟨hm3, v⟩ := v
        change Ev l D Y_Run_begin _ _ _ 67 [some (vr 80), some (vr x1), some (vr x2), none, none] [] _ _
        refine a_iconst d_Run_begin_67 ⟨by decide, by decide⟩ ?_
        refine a_istore_n (L' := [some (vr 80), some (vr x1), some (vr x2), some (vi (0 : Int)), none]) d_Run_begin_68 (Nat.le_of_ble_eq_true rfl) rfl rfl ?_
        exact v
  · have v := vf (c); clear vt vf
    exact a_vret d_Run_begin_12 rfl v
theorem g_Run_begin_69 {l : Launch} {D : DD} {d kc ks : Nat} {h : Hp} {Φ : Option AV → Hp → Prop} {x1 : Nat} {x2 : Nat} {x3 : Int} (hM : RS h) (v : (x3 ≥ xI h 20 1 → (xK h x2 = 3 ∧ ((xR h x2 7 = 0 → (Φ none h)) ∧ (¬ xR h x2 7 = 0 → (xK h x2 = 3 ∧ (Ev l D Y_Run_run d 0 0 0 [some (vr 80), some (vr x1), some (vr (xR h x2 7)), none] [] h (kv (fun h1 => RS h1 ∧ (Φ none h1))))))))) ∧ (x3 < xI h 20 1 → (0 ≤ x3 ∧ x3 < 16 ∧ (xK h (xR h 21 (x3).toNat) = 3 ∧ Ev l D Y_Type_isClass d 0 0 0 [some (vr (xR h 21 (x3).toNat))] [] h (ki (fun r1 h2 => RS h2 ∧ ((¬ r1 = 0 → (Ev l D Y_Run_begin (d + 1) kc ks 69 [some (vr 80), some (vr x1), some (vr x2), some (vi (wr (x3 + (1 : Int)))), none] [] h2 Φ)) ∧ (r1 = 0 → (xK h2 x2 = 3 ∧ Ev l D Y_Type_isUnder d 0 0 0 [some (vr x2), some (vr (xR h 21 (x3).toNat))] [] h2 (ki (fun r2 h3 => RS h3 ∧ ((r2 = 0 → (Ev l D Y_Run_begin (d + 1) kc ks 69 [some (vr 80), some (vr x1), some (vr x2), some (vi (wr (x3 + (1 : Int)))), none] [] h3 Φ)) ∧ (¬ r2 = 0 → (xK h3 (xR h 21 (x3).toNat) = 3 ∧ Ev l D Y_Type_hasPlain d 0 0 0 [some (vr (xR h 21 (x3).toNat)), none, none, none, none, none] [] h3 (ki (fun r3 h4 => RS h4 ∧ ((r3 = 0 → (Ev l D Y_Run_begin (d + 1) kc ks 69 [some (vr 80), some (vr x1), some (vr x2), some (vi (wr (x3 + (1 : Int)))), none] [] h4 Φ)) ∧ (¬ r3 = 0 → (Ev l D Y_Run_begin d 0 0 0 [some (vr 80), some (vr x1), some (vr (xR h 21 (x3).toNat)), none, none] [] h4 (kv (fun h5 => RS h5 ∧ (Ev l D Y_Run_begin (d + 1) kc ks 69 [some (vr 80), some (vr x1), some (vr x2), some (vi (wr (x3 + (1 : Int)))), none] [] h5 Φ)))))))))))))))))))))) : Ev l D Y_Run_begin (d + 1) kc ks 69 [some (vr 80), some (vr x1), some (vr x2), some (vi x3), none] [] h Φ := by
  refine a_iload_n d_Run_begin_69 rfl ?_
  refine a_aload_n d_Run_begin_70 rfl ?_
  refine a_getRe fl_Run_34 d_Run_begin_71 (beq_iff_eq.mpr (KNR_80 hM)) (KRR_80_0 hM) ?_
  refine a_getIN fl_Run_115 d_Run_begin_74 (beq_iff_eq.mpr (KNR_20 hM)) ?_
  obtain ⟨vt, vf⟩ := v
  refine a_icmp_ge (tgt := 129) d_Run_begin_77 (by decide) (fun c => ?_) (fun c => ?_)
  · have v := vt (c); clear vt vf
    refine a_aload_n d_Run_begin_129 rfl ?_
    obtain ⟨c1, v⟩ := v
    refine a_getRN fl_Run_124 d_Run_begin_130 (beq_iff_eq.mpr c1) ?_
    obtain ⟨vt, vf⟩ := v
    refine a_ifnull (tgt := 145) d_Run_begin_133 (by decide) (fun c => ?_) (fun c => ?_)
    · have v := vt (c); clear vt vf
      exact a_vret d_Run_begin_145 rfl v
    · have v := vf (c); clear vt vf
      refine a_aload_n d_Run_begin_136 rfl ?_
      refine a_aload_n d_Run_begin_137 rfl ?_
      refine a_aload_n d_Run_begin_138 rfl ?_
      obtain ⟨c2, v⟩ := v
      refine a_getRN fl_Run_124 d_Run_begin_139 (beq_iff_eq.mpr c2) ?_
      refine b_callV (as := [vr x1, vr (xR h x2 7)]) (b := 80) (st := []) (kd := 2) (kc1 := 0) (ks1 := 0) (kc2 := kc) (ks2 := ks) (d' := d) ml_Run_80 rfl d_Run_begin_142 rfl rfl (Nat.le_of_ble_eq_true rfl) (by decide) rfl (Nat.le_refl _) (by omega) (by omega) (KNR_80 hM) ?_
      refine Ev.mono v ?_
      intro u h1 v
      obtain ⟨rfl, v⟩ := kv_el v
      obtain ⟨hm1, v⟩ := v
      change Ev l D Y_Run_begin _ _ _ 145 [some (vr 80), some (vr x1), some (vr x2), some (vi x3), none] [] _ _
      exact a_vret d_Run_begin_145 rfl v
  · have v := vf (Int.not_le.mp c); clear vt vf
    refine a_aload_n d_Run_begin_80 rfl ?_
    refine a_getRe fl_Run_34 d_Run_begin_81 (beq_iff_eq.mpr (KNR_80 hM)) (KRR_80_0 hM) ?_
    refine a_getAeN fl_Run_118 d_Run_begin_84 (beq_iff_eq.mpr (KNR_20 hM)) (KRR_20_0 hM) ?_
    refine a_iload_n d_Run_begin_87 rfl ?_
    obtain ⟨c5, c6, v⟩ := v
    refine a_aald d_Run_begin_88 ⟨by rw [KNR_21 hM]; decide, by rw [KNR_21 hM]; decide⟩ c5 (lt_len (NNR_21 hM) c6) ?_
    refine a_astore (L' := [some (vr 80), some (vr x1), some (vr x2), some (vi x3), some (vr (xR h 21 (x3).toNat))]) d_Run_begin_89 (Nat.le_of_ble_eq_true rfl) rfl rfl ?_
    refine a_aload d_Run_begin_91 rfl ?_
    obtain ⟨c10, v⟩ := v
    refine b_callV (as := []) (b := (xR h 21 (x3).toNat)) (st := []) (kd := 3) (kc1 := 0) (ks1 := 0) (kc2 := kc) (ks2 := ks) (d' := d) ml_Run_103 rfl d_Run_begin_93 rfl rfl (Nat.le_of_ble_eq_true rfl) (by decide) rfl (Nat.le_refl _) (by omega) (by omega) c10 ?_
    refine Ev.mono v ?_
    intro u h2 v
    obtain ⟨r1, rfl, v⟩ := ki_el v
    obtain ⟨hm2, v⟩ := v
    change Ev l D Y_Run_begin _ _ _ 96 [some (vr 80), some (vr x1), some (vr x2), some (vi x3), some (vr (xR h 21 (x3).toNat))] [vi r1] _ _
    obtain ⟨vt, vf⟩ := v
    refine a_if_ne (tgt := 123) d_Run_begin_96 (by decide) (fun c => ?_) (fun c => ?_)
    · have v := vt (c); clear vt vf
      refine a_iinc (L' := [some (vr 80), some (vr x1), some (vr x2), some (vi (wr (x3 + (1 : Int)))), some (vr (xR h 21 (x3).toNat))]) d_Run_begin_123 rfl (Nat.le_of_ble_eq_true rfl) rfl rfl ?_
      refine a_goto (tgt := 69) d_Run_begin_126 (by decide) ?_
      exact Ev.weak v ⟨rfl, rfl, rfl, rfl, trivial⟩
    · have v := vf (Classical.not_not.mp c); clear vt vf
      refine a_aload_n d_Run_begin_99 rfl ?_
      refine a_aload d_Run_begin_100 rfl ?_
      obtain ⟨c9, v⟩ := v
      refine b_callV (as := [vr (xR h 21 (x3).toNat)]) (b := x2) (st := []) (kd := 3) (kc1 := 0) (ks1 := 0) (kc2 := kc) (ks2 := ks) (d' := d) ml_Run_88 rfl d_Run_begin_102 rfl rfl (Nat.le_of_ble_eq_true rfl) (by decide) rfl (Nat.le_refl _) (by omega) (by omega) c9 ?_
      refine Ev.mono v ?_
      intro u h3 v
      obtain ⟨r2, rfl, v⟩ := ki_el v
      obtain ⟨hm3, v⟩ := v
      change Ev l D Y_Run_begin _ _ _ 105 [some (vr 80), some (vr x1), some (vr x2), some (vi x3), some (vr (xR h 21 (x3).toNat))] [vi r2] _ _
      obtain ⟨vt, vf⟩ := v
      refine a_if_eq (tgt := 123) d_Run_begin_105 (by decide) (fun c => ?_) (fun c => ?_)
      · have v := vt (c); clear vt vf
        refine a_iinc (L' := [some (vr 80), some (vr x1), some (vr x2), some (vi (wr (x3 + (1 : Int)))), some (vr (xR h 21 (x3).toNat))]) d_Run_begin_123 rfl (Nat.le_of_ble_eq_true rfl) rfl rfl ?_
        refine a_goto (tgt := 69) d_Run_begin_126 (by decide) ?_
        exact Ev.weak v ⟨rfl, rfl, rfl, rfl, trivial⟩
      · have v := vf (c); clear vt vf
        refine a_aload d_Run_begin_108 rfl ?_
        obtain ⟨c8, v⟩ := v
        refine b_callV (as := []) (b := (xR h 21 (x3).toNat)) (st := []) (kd := 3) (kc1 := 0) (ks1 := 0) (kc2 := kc) (ks2 := ks) (d' := d) ml_Run_121 rfl d_Run_begin_110 rfl rfl (Nat.le_of_ble_eq_true rfl) (by decide) rfl (Nat.le_refl _) (by omega) (by omega) c8 ?_
        refine Ev.mono v ?_
        intro u h4 v
        obtain ⟨r3, rfl, v⟩ := ki_el v
        obtain ⟨hm4, v⟩ := v
        change Ev l D Y_Run_begin _ _ _ 113 [some (vr 80), some (vr x1), some (vr x2), some (vi x3), some (vr (xR h 21 (x3).toNat))] [vi r3] _ _
        obtain ⟨vt, vf⟩ := v
        refine a_if_eq (tgt := 123) d_Run_begin_113 (by decide) (fun c => ?_) (fun c => ?_)
        · have v := vt (c); clear vt vf
          refine a_iinc (L' := [some (vr 80), some (vr x1), some (vr x2), some (vi (wr (x3 + (1 : Int)))), some (vr (xR h 21 (x3).toNat))]) d_Run_begin_123 rfl (Nat.le_of_ble_eq_true rfl) rfl rfl ?_
          refine a_goto (tgt := 69) d_Run_begin_126 (by decide) ?_
          exact Ev.weak v ⟨rfl, rfl, rfl, rfl, trivial⟩
        · have v := vf (c); clear vt vf
          refine a_aload_n d_Run_begin_116 rfl ?_
          refine a_aload_n d_Run_begin_117 rfl ?_
          refine a_aload d_Run_begin_118 rfl ?_
          refine b_callV (as := [vr x1, vr (xR h 21 (x3).toNat)]) (b := 80) (st := []) (kd := 2) (kc1 := 0) (ks1 := 0) (kc2 := kc) (ks2 := ks) (d' := d) ml_Run_111 rfl d_Run_begin_120 rfl rfl (Nat.le_of_ble_eq_true rfl) (by decide) rfl (Nat.le_refl _) (by omega) (by omega) (KNR_80 hm4) ?_
          refine Ev.mono v ?_
          intro u h5 v
          obtain ⟨rfl, v⟩ := kv_el v
          obtain ⟨hm5, v⟩ := v
          change Ev l D Y_Run_begin _ _ _ 123 [some (vr 80), some (vr x1), some (vr x2), some (vi x3), some (vr (xR h 21 (x3).toNat))] [] _ _
          refine a_iinc (L' := [some (vr 80), some (vr x1), some (vr x2), some (vi (wr (x3 + (1 : Int)))), some (vr (xR h 21 (x3).toNat))]) d_Run_begin_123 rfl (Nat.le_of_ble_eq_true rfl) rfl rfl ?_
          refine a_goto (tgt := 69) d_Run_begin_126 (by decide) ?_
          exact Ev.weak v ⟨rfl, rfl, rfl, rfl, trivial⟩
theorem d_Run_run_0 : decode Y_Run_run.2.1 0 = .ok (.aload_n 0, 1) := by decide +kernel
theorem d_Run_run_1 : decode Y_Run_run.2.1 1 = .ok (.dup, 1) := by decide +kernel
theorem d_Run_run_2 : decode Y_Run_run.2.1 2 = .ok (.getfield 67, 3) := by decide +kernel
theorem d_Run_run_5 : decode Y_Run_run.2.1 5 = .ok (.aload_n 2, 1) := by decide +kernel
theorem d_Run_run_6 : decode Y_Run_run.2.1 6 = .ok (.getfield 128, 3) := by decide +kernel
theorem d_Run_run_9 : decode Y_Run_run.2.1 9 = .ok (.ifCond .eq 23, 3) := by decide +kernel
theorem d_Run_run_12 : decode Y_Run_run.2.1 12 = .ok (.aload_n 1, 1) := by decide +kernel
theorem d_Run_run_13 : decode Y_Run_run.2.1 13 = .ok (.ifnull 15, 3) := by decide +kernel
theorem d_Run_run_16 : decode Y_Run_run.2.1 16 = .ok (.aload_n 1, 1) := by decide +kernel
theorem d_Run_run_17 : decode Y_Run_run.2.1 17 = .ok (.getfield 131, 3) := by decide +kernel
theorem d_Run_run_20 : decode Y_Run_run.2.1 20 = .ok (.aload_n 2, 1) := by decide +kernel
theorem d_Run_run_21 : decode Y_Run_run.2.1 21 = .ok (.getfield 136, 3) := by decide +kernel
theorem d_Run_run_24 : decode Y_Run_run.2.1 24 = .ok (.baload, 1) := by decide +kernel
theorem d_Run_run_25 : decode Y_Run_run.2.1 25 = .ok (.ifCond .eq 7, 3) := by decide +kernel
theorem d_Run_run_28 : decode Y_Run_run.2.1 28 = .ok (.iconst 1, 1) := by decide +kernel
theorem d_Run_run_29 : decode Y_Run_run.2.1 29 = .ok (.goto 4, 3) := by decide +kernel
theorem d_Run_run_32 : decode Y_Run_run.2.1 32 = .ok (.iconst 0, 1) := by decide +kernel
theorem d_Run_run_33 : decode Y_Run_run.2.1 33 = .ok (.iand, 1) := by decide +kernel
theorem d_Run_run_34 : decode Y_Run_run.2.1 34 = .ok (.putfield 67, 3) := by decide +kernel
theorem d_Run_run_37 : decode Y_Run_run.2.1 37 = .ok (.aload_n 0, 1) := by decide +kernel
theorem d_Run_run_38 : decode Y_Run_run.2.1 38 = .ok (.getfield 55, 3) := by decide +kernel
theorem d_Run_run_41 : decode Y_Run_run.2.1 41 = .ok (.bipush 12, 2) := by decide +kernel
theorem d_Run_run_43 : decode Y_Run_run.2.1 43 = .ok (.if_icmp .eq 13, 3) := by decide +kernel
theorem d_Run_run_46 : decode Y_Run_run.2.1 46 = .ok (.aload_n 0, 1) := by decide +kernel
theorem d_Run_run_47 : decode Y_Run_run.2.1 47 = .ok (.getfield 58, 3) := by decide +kernel
theorem d_Run_run_50 : decode Y_Run_run.2.1 50 = .ok (.sipush 300, 3) := by decide +kernel
theorem d_Run_run_53 : decode Y_Run_run.2.1 53 = .ok (.if_icmp .ne 14, 3) := by decide +kernel
theorem d_Run_run_56 : decode Y_Run_run.2.1 56 = .ok (.aload_n 0, 1) := by decide +kernel
theorem d_Run_run_57 : decode Y_Run_run.2.1 57 = .ok (.dup, 1) := by decide +kernel
theorem d_Run_run_58 : decode Y_Run_run.2.1 58 = .ok (.getfield 61, 3) := by decide +kernel
theorem d_Run_run_61 : decode Y_Run_run.2.1 61 = .ok (.iconst 1, 1) := by decide +kernel
theorem d_Run_run_62 : decode Y_Run_run.2.1 62 = .ok (.iadd, 1) := by decide +kernel
theorem d_Run_run_63 : decode Y_Run_run.2.1 63 = .ok (.putfield 61, 3) := by decide +kernel
theorem d_Run_run_66 : decode Y_Run_run.2.1 66 = .ok (.return_, 1) := by decide +kernel
theorem d_Run_run_67 : decode Y_Run_run.2.1 67 = .ok (.aload_n 0, 1) := by decide +kernel
theorem d_Run_run_68 : decode Y_Run_run.2.1 68 = .ok (.dup, 1) := by decide +kernel
theorem d_Run_run_69 : decode Y_Run_run.2.1 69 = .ok (.getfield 55, 3) := by decide +kernel
theorem d_Run_run_72 : decode Y_Run_run.2.1 72 = .ok (.iconst 1, 1) := by decide +kernel
theorem d_Run_run_73 : decode Y_Run_run.2.1 73 = .ok (.iadd, 1) := by decide +kernel
theorem d_Run_run_74 : decode Y_Run_run.2.1 74 = .ok (.putfield 55, 3) := by decide +kernel
theorem d_Run_run_77 : decode Y_Run_run.2.1 77 = .ok (.aload_n 0, 1) := by decide +kernel
theorem d_Run_run_78 : decode Y_Run_run.2.1 78 = .ok (.dup, 1) := by decide +kernel
theorem d_Run_run_79 : decode Y_Run_run.2.1 79 = .ok (.getfield 58, 3) := by decide +kernel
theorem d_Run_run_82 : decode Y_Run_run.2.1 82 = .ok (.iconst 1, 1) := by decide +kernel
theorem d_Run_run_83 : decode Y_Run_run.2.1 83 = .ok (.iadd, 1) := by decide +kernel
theorem d_Run_run_84 : decode Y_Run_run.2.1 84 = .ok (.putfield 58, 3) := by decide +kernel
theorem d_Run_run_87 : decode Y_Run_run.2.1 87 = .ok (.aload_n 0, 1) := by decide +kernel
theorem d_Run_run_88 : decode Y_Run_run.2.1 88 = .ok (.getfield 31, 3) := by decide +kernel
theorem d_Run_run_91 : decode Y_Run_run.2.1 91 = .ok (.aload_n 2, 1) := by decide +kernel
theorem d_Run_run_92 : decode Y_Run_run.2.1 92 = .ok (.getfield 136, 3) := by decide +kernel
theorem d_Run_run_95 : decode Y_Run_run.2.1 95 = .ok (.iconst 1, 1) := by decide +kernel
theorem d_Run_run_96 : decode Y_Run_run.2.1 96 = .ok (.bastore, 1) := by decide +kernel
theorem d_Run_run_97 : decode Y_Run_run.2.1 97 = .ok (.aload_n 0, 1) := by decide +kernel
theorem d_Run_run_98 : decode Y_Run_run.2.1 98 = .ok (.aload_n 2, 1) := by decide +kernel
theorem d_Run_run_99 : decode Y_Run_run.2.1 99 = .ok (.getfield 136, 3) := by decide +kernel
theorem d_Run_run_102 : decode Y_Run_run.2.1 102 = .ok (.putfield 64, 3) := by decide +kernel
theorem d_Run_run_105 : decode Y_Run_run.2.1 105 = .ok (.iconst 0, 1) := by decide +kernel
theorem d_Run_run_106 : decode Y_Run_run.2.1 106 = .ok (.istore_n 3, 1) := by decide +kernel
theorem d_Run_run_107 : decode Y_Run_run.2.1 107 = .ok (.iload_n 3, 1) := by decide +kernel
theorem d_Run_run_108 : decode Y_Run_run.2.1 108 = .ok (.aload_n 2, 1) := by decide +kernel
theorem d_Run_run_109 : decode Y_Run_run.2.1 109 = .ok (.getfield 137, 3) := by decide +kernel
theorem d_Run_run_112 : decode Y_Run_run.2.1 112 = .ok (.if_icmp .ge 31, 3) := by decide +kernel
theorem d_Run_run_115 : decode Y_Run_run.2.1 115 = .ok (.aload_n 0, 1) := by decide +kernel
theorem d_Run_run_116 : decode Y_Run_run.2.1 116 = .ok (.iconst 4, 1) := by decide +kernel
theorem d_Run_run_117 : decode Y_Run_run.2.1 117 = .ok (.invokevirtual 92, 3) := by decide +kernel
theorem d_Run_run_120 : decode Y_Run_run.2.1 120 = .ok (.ifCond .eq 17, 3) := by decide +kernel
theorem d_Run_run_123 : decode Y_Run_run.2.1 123 = .ok (.aload_n 2, 1) := by decide +kernel
theorem d_Run_run_124 : decode Y_Run_run.2.1 124 = .ok (.getfield 140, 3) := by decide +kernel
theorem d_Run_run_127 : decode Y_Run_run.2.1 127 = .ok (.iload_n 3, 1) := by decide +kernel
theorem d_Run_run_128 : decode Y_Run_run.2.1 128 = .ok (.aaload, 1) := by decide +kernel
theorem d_Run_run_129 : decode Y_Run_run.2.1 129 = .ok (.aload_n 0, 1) := by decide +kernel
theorem d_Run_run_130 : decode Y_Run_run.2.1 130 = .ok (.getfield 34, 3) := by decide +kernel
theorem d_Run_run_133 : decode Y_Run_run.2.1 133 = .ok (.aload_n 0, 1) := by decide +kernel
theorem d_Run_run_134 : decode Y_Run_run.2.1 134 = .ok (.invokevirtual 144, 3) := by decide +kernel
theorem d_Run_run_137 : decode Y_Run_run.2.1 137 = .ok (.iinc 3 1, 3) := by decide +kernel
theorem d_Run_run_140 : decode Y_Run_run.2.1 140 = .ok (.goto (-33), 3) := by decide +kernel
theorem d_Run_run_143 : decode Y_Run_run.2.1 143 = .ok (.aload_n 0, 1) := by decide +kernel
theorem d_Run_run_144 : decode Y_Run_run.2.1 144 = .ok (.dup, 1) := by decide +kernel
theorem d_Run_run_145 : decode Y_Run_run.2.1 145 = .ok (.getfield 55, 3) := by decide +kernel
theorem d_Run_run_148 : decode Y_Run_run.2.1 148 = .ok (.iconst 1, 1) := by decide +kernel
theorem d_Run_run_149 : decode Y_Run_run.2.1 149 = .ok (.isub, 1) := by decide +kernel
theorem d_Run_run_150 : decode Y_Run_run.2.1 150 = .ok (.putfield 55, 3) := by decide +kernel
theorem d_Run_run_153 : decode Y_Run_run.2.1 153 = .ok (.return_, 1) := by decide +kernel
theorem g_Run_run_0 {l : Launch} {D : DD} {d kc ks : Nat} {h : Hp} {Φ : Option AV → Hp → Prop} {x1 : Nat} {x2 : Nat} (hM : RS h) (v : xK h x2 = 4 ∧ ((xI h x2 7 = 0 → (Ev l D Y_Run_run (d + 1) kc ks 33 [some (vr 80), some (vr x1), some (vr x2), none] [vi (0 : Int), vi (xI h 80 12), vr 80] h Φ)) ∧ (¬ xI h x2 7 = 0 → ((x1 = 0 → (Ev l D Y_Run_run (d + 1) kc ks 33 [some (vr 80), some (vr x1), some (vr x2), none] [vi (1 : Int), vi (xI h 80 12), vr 80] h Φ)) ∧ (¬ x1 = 0 → (opk (xK h x1) = true ∧ (xK h x2 = 4 ∧ (xK h (xR h x1 2) = 21 ∧ 0 ≤ xI h x2 0 ∧ xI h x2 0 < xN h (xR h x1 2) ∧ ((xI h (xR h x1 2) (xI h x2 0).toNat = 0 → (Ev l D Y_Run_run (d + 1) kc ks 33 [some (vr 80), some (vr x1), some (vr x2), none] [vi (0 : Int), vi (xI h 80 12), vr 80] h Φ)) ∧ (¬ xI h (xR h x1 2) (xI h x2 0).toNat = 0 → (Ev l D Y_Run_run (d + 1) kc ks 33 [some (vr 80), some (vr x1), some (vr x2), none] [vi (1 : Int), vi (xI h 80 12), vr 80] h Φ))))))))))) : Ev l D Y_Run_run (d + 1) kc ks 0 [some (vr 80), some (vr x1), some (vr x2), none] [] h Φ := by
  refine a_aload_n d_Run_run_0 rfl ?_
  refine a_dup d_Run_run_1 rfl ?_
  refine a_getZ fl_Run_67 d_Run_run_2 (beq_iff_eq.mpr (KNR_80 hM)) ?_
  refine a_aload_n d_Run_run_5 rfl ?_
  obtain ⟨c1, v⟩ := v
  refine a_getZN fl_Run_128 d_Run_run_6 (beq_iff_eq.mpr c1) ?_
  obtain ⟨vt, vf⟩ := v
  refine a_if_eq (tgt := 32) d_Run_run_9 (by decide) (fun c => ?_) (fun c => ?_)
  · have v := vt (c); clear vt vf
    refine a_iconst d_Run_run_32 ⟨by decide, by decide⟩ ?_
    exact v
  · have v := vf (c); clear vt vf
    refine a_aload_n d_Run_run_12 rfl ?_
    obtain ⟨vt, vf⟩ := v
    refine a_ifnull (tgt := 28) d_Run_run_13 (by decide) (fun c => ?_) (fun c => ?_)
    · have v := vt (c); clear vt vf
      refine a_iconst d_Run_run_28 ⟨by decide, by decide⟩ ?_
      refine a_goto (tgt := 33) d_Run_run_29 (by decide) ?_
      exact v
    · have v := vf (c); clear vt vf
      refine a_aload_n d_Run_run_16 rfl ?_
      obtain ⟨c2, v⟩ := v
      refine a_getA fl_Run_131 d_Run_run_17 c2 ?_
      refine a_aload_n d_Run_run_20 rfl ?_
      obtain ⟨c3, v⟩ := v
      refine a_getIN fl_Run_136 d_Run_run_21 (beq_iff_eq.mpr c3) ?_
      obtain ⟨c4, c5, c6, v⟩ := v
      refine a_zald d_Run_run_24 c4 c5 c6 ?_
      obtain ⟨vt, vf⟩ := v
      refine a_if_eq (tgt := 32) d_Run_run_25 (by decide) (fun c => ?_) (fun c => ?_)
      · have v := vt (c); clear vt vf
        refine a_iconst d_Run_run_32 ⟨by decide, by decide⟩ ?_
        exact v
      · have v := vf (c); clear vt vf
        refine a_iconst d_Run_run_28 ⟨by decide, by decide⟩ ?_
        refine a_goto (tgt := 33) d_Run_run_29 (by decide) ?_
        exact v
theorem g_Run_run_33 {l : Launch} {D : DD} {d kc ks : Nat} {h : Hp} {Φ : Option AV → Hp → Prop} {x1 : Nat} {x2 : Nat} {y0 : Int} {y1 : Int} (hM : RS h) (v : (iandV y1 y0 = 0 ∨ iandV y1 y0 = 1) ∧ (∀ h1 : Hp, h1 = sI h 80 12 (iandV y1 y0) → ((xI h1 80 8 = (12 : Int) → (Ev l D Y_Run_run (d + 1) kc ks 56 [some (vr 80), some (vr x1), some (vr x2), none] [] h1 Φ)) ∧ (¬ xI h1 80 8 = (12 : Int) → ((¬ xI h1 80 9 = (300 : Int) → (∀ h2 : Hp, h2 = sI h1 80 8 (wr ((xI h1 80 8) + (1 : Int))) → (∀ h3 : Hp, h3 = sI h2 80 9 (wr ((xI h2 80 9) + (1 : Int))) → (xK h3 x2 = 4 ∧ (0 ≤ xI h3 x2 0 ∧ xI h3 x2 0 < 48 ∧ (∀ h4 : Hp, h4 = sI h3 85 (xI h3 x2 0).toNat (1 : Int) → (xK h4 x2 = 4 ∧ (∀ h5 : Hp, h5 = sI h4 80 11 (xI h4 x2 0) → (Ev l D Y_Run_run (d + 1) kc ks 107 [some (vr 80), some (vr x1), some (vr x2), some (vi (0 : Int))] [] h5 Φ))))))))) ∧ (xI h1 80 9 = (300 : Int) → (Ev l D Y_Run_run (d + 1) kc ks 56 [some (vr 80), some (vr x1), some (vr x2), none] [] h1 Φ))))))) : Ev l D Y_Run_run (d + 1) kc ks 33 [some (vr 80), some (vr x1), some (vr x2), none] [vi y0, vi y1, vr 80] h Φ := by
  refine a_iand d_Run_run_33 ?_
  obtain ⟨c3, v⟩ := v
  have v := v _ rfl
  refine a_putZ fl_Run_67 d_Run_run_34 (beq_iff_eq.mpr (KNR_80 hM)) (by decide) c3 ?_
  refine a_aload_n d_Run_run_37 rfl ?_
  refine a_getI fl_Run_55 d_Run_run_38 (beq_iff_eq.mpr (KNR_80 hM)) ?_
  refine a_bipush d_Run_run_41 ⟨by decide, by decide⟩ (by decide) ?_
  obtain ⟨vt, vf⟩ := v
  refine a_icmp_eq (tgt := 56) d_Run_run_43 (by decide) (fun c => ?_) (fun c => ?_)
  · have v := vt (c); clear vt vf
    exact v
  · have v := vf (c); clear vt vf
    refine a_aload_n d_Run_run_46 rfl ?_
    refine a_getI fl_Run_58 d_Run_run_47 (beq_iff_eq.mpr (KNR_80 hM)) ?_
    refine a_sipush d_Run_run_50 ⟨by decide, by decide⟩ (by decide) ?_
    obtain ⟨vt, vf⟩ := v
    refine a_icmp_ne (tgt := 67) d_Run_run_53 (by decide) (fun c => ?_) (fun c => ?_)
    · have v := vt (c); clear vt vf
      refine a_aload_n d_Run_run_67 rfl ?_
      refine a_dup d_Run_run_68 rfl ?_
      refine a_getI fl_Run_55 d_Run_run_69 (beq_iff_eq.mpr (KNR_80 hM)) ?_
      refine a_iconst d_Run_run_72 ⟨by decide, by decide⟩ ?_
      refine a_iadd d_Run_run_73 ?_
      have v := v _ rfl
      refine a_putI fl_Run_55 d_Run_run_74 (beq_iff_eq.mpr (KNR_80 hM)) (by decide) ?_
      refine a_aload_n d_Run_run_77 rfl ?_
      refine a_dup d_Run_run_78 rfl ?_
      refine a_getI fl_Run_58 d_Run_run_79 (beq_iff_eq.mpr (KNR_80 hM)) ?_
      refine a_iconst d_Run_run_82 ⟨by decide, by decide⟩ ?_
      refine a_iadd d_Run_run_83 ?_
      have v := v _ rfl
      refine a_putI fl_Run_58 d_Run_run_84 (beq_iff_eq.mpr (KNR_80 hM)) (by decide) ?_
      refine a_aload_n d_Run_run_87 rfl ?_
      refine a_getAe fl_Run_31 d_Run_run_88 (beq_iff_eq.mpr (KNR_80 hM)) (KRR_80_7 hM) ?_
      refine a_aload_n d_Run_run_91 rfl ?_
      obtain ⟨c8, v⟩ := v
      refine a_getIN fl_Run_136 d_Run_run_92 (beq_iff_eq.mpr c8) ?_
      refine a_iconst d_Run_run_95 ⟨by decide, by decide⟩ ?_
      obtain ⟨c11, c12, v⟩ := v
      have v := v _ rfl
      refine a_zast d_Run_run_96 (KNR_85 hM) (by decide) c11 (lt_len (NNR_85 hM) c12) (Or.inr rfl) ?_
      refine a_aload_n d_Run_run_97 rfl ?_
      refine a_aload_n d_Run_run_98 rfl ?_
      obtain ⟨c13, v⟩ := v
      refine a_getIN fl_Run_136 d_Run_run_99 (beq_iff_eq.mpr c13) ?_
      have v := v _ rfl
      refine a_putI fl_Run_64 d_Run_run_102 (beq_iff_eq.mpr (KNR_80 hM)) (by decide) ?_
      refine a_iconst d_Run_run_105 ⟨by decide, by decide⟩ ?_
      refine a_istore_n (L' := [some (vr 80), some (vr x1), some (vr x2), some (vi (0 : Int))]) d_Run_run_106 (Nat.le_of_ble_eq_true rfl) rfl rfl ?_
      exact v
    · have v := vf (Classical.not_not.mp c); clear vt vf
      exact v
theorem g_Run_run_56 {l : Launch} {D : DD} {d kc ks : Nat} {h : Hp} {Φ : Option AV → Hp → Prop} {x1 : Nat} {x2 : Nat} (hM : RS h) (v : (∀ h1 : Hp, h1 = sI h 80 10 (wr ((xI h 80 10) + (1 : Int))) → (Φ none h1))) : Ev l D Y_Run_run (d + 1) kc ks 56 [some (vr 80), some (vr x1), some (vr x2), none] [] h Φ := by
  refine a_aload_n d_Run_run_56 rfl ?_
  refine a_dup d_Run_run_57 rfl ?_
  refine a_getI fl_Run_61 d_Run_run_58 (beq_iff_eq.mpr (KNR_80 hM)) ?_
  refine a_iconst d_Run_run_61 ⟨by decide, by decide⟩ ?_
  refine a_iadd d_Run_run_62 ?_
  have v := v _ rfl
  refine a_putI fl_Run_61 d_Run_run_63 (beq_iff_eq.mpr (KNR_80 hM)) (by decide) ?_
  exact a_vret d_Run_run_66 rfl v
theorem g_Run_run_107 {l : Launch} {D : DD} {d kc ks : Nat} {h : Hp} {Φ : Option AV → Hp → Prop} {x1 : Nat} {x2 : Nat} {x3 : Int} (hM : RS h) (v : xK h x2 = 4 ∧ ((x3 ≥ xI h x2 5 → (∀ h1 : Hp, h1 = sI h 80 8 (wr ((xI h 80 8) - (1 : Int))) → (Φ none h1))) ∧ (x3 < xI h x2 5 → (Ev l D Y_Run_draw d 0 0 0 [some (vr 80), some (vi (4 : Int))] [] h (ki (fun r1 h2 => RS h2 ∧ ((r1 = 0 → (Ev l D Y_Run_run (d + 1) kc ks 107 [some (vr 80), some (vr x1), some (vr x2), some (vi (wr (x3 + (1 : Int))))] [] h2 Φ)) ∧ (¬ r1 = 0 → (xK h2 x2 = 4 ∧ ((22 ≤ xK h2 (xR h2 x2 4) ∧ xK h2 (xR h2 x2 4) ≤ 27) ∧ 0 ≤ x3 ∧ x3 < xN h2 (xR h2 x2 4) ∧ (opk (xK h2 (xR h2 (xR h2 x2 4) (x3).toNat)) = true ∧ Ev l D (mt_Op_act_Y (xK h2 (xR h2 (xR h2 x2 4) (x3).toNat))) d 0 0 0 (enL (mt_Op_act_Y (xK h2 (xR h2 (xR h2 x2 4) (x3).toNat))).2.2.1 [vr (xR h2 (xR h2 x2 4) (x3).toNat), vr 20, vr 80]) [] h2 (kv (fun h3 => RS h3 ∧ (Ev l D Y_Run_run (d + 1) kc ks 107 [some (vr 80), some (vr x1), some (vr x2), some (vi (wr (x3 + (1 : Int))))] [] h3 Φ)))))))))))))) : Ev l D Y_Run_run (d + 1) kc ks 107 [some (vr 80), some (vr x1), some (vr x2), some (vi x3)] [] h Φ := by
  refine a_iload_n d_Run_run_107 rfl ?_
  refine a_aload_n d_Run_run_108 rfl ?_
  obtain ⟨c1, v⟩ := v
  refine a_getIN fl_Run_137 d_Run_run_109 (beq_iff_eq.mpr c1) ?_
  obtain ⟨vt, vf⟩ := v
  refine a_icmp_ge (tgt := 143) d_Run_run_112 (by decide) (fun c => ?_) (fun c => ?_)
  · have v := vt (c); clear vt vf
    refine a_aload_n d_Run_run_143 rfl ?_
    refine a_dup d_Run_run_144 rfl ?_
    refine a_getI fl_Run_55 d_Run_run_145 (beq_iff_eq.mpr (KNR_80 hM)) ?_
    refine a_iconst d_Run_run_148 ⟨by decide, by decide⟩ ?_
    refine a_isub d_Run_run_149 ?_
    have v := v _ rfl
    refine a_putI fl_Run_55 d_Run_run_150 (beq_iff_eq.mpr (KNR_80 hM)) (by decide) ?_
    exact a_vret d_Run_run_153 rfl v
  · have v := vf (Int.not_le.mp c); clear vt vf
    refine a_aload_n d_Run_run_115 rfl ?_
    refine a_iconst d_Run_run_116 ⟨by decide, by decide⟩ ?_
    refine b_callV (as := [vi (4 : Int)]) (b := 80) (st := []) (kd := 2) (kc1 := 0) (ks1 := 0) (kc2 := kc) (ks2 := ks) (d' := d) ml_Run_92 rfl d_Run_run_117 rfl rfl (Nat.le_of_ble_eq_true rfl) (by decide) rfl (Nat.le_refl _) (by omega) (by omega) (KNR_80 hM) ?_
    refine Ev.mono v ?_
    intro u h2 v
    obtain ⟨r1, rfl, v⟩ := ki_el v
    obtain ⟨hm1, v⟩ := v
    change Ev l D Y_Run_run _ _ _ 120 [some (vr 80), some (vr x1), some (vr x2), some (vi x3)] [vi r1] _ _
    obtain ⟨vt, vf⟩ := v
    refine a_if_eq (tgt := 137) d_Run_run_120 (by decide) (fun c => ?_) (fun c => ?_)
    · have v := vt (c); clear vt vf
      refine a_iinc (L' := [some (vr 80), some (vr x1), some (vr x2), some (vi (wr (x3 + (1 : Int))))]) d_Run_run_137 rfl (Nat.le_of_ble_eq_true rfl) rfl rfl ?_
      refine a_goto (tgt := 107) d_Run_run_140 (by decide) ?_
      exact v
    · have v := vf (c); clear vt vf
      refine a_aload_n d_Run_run_123 rfl ?_
      obtain ⟨c4, v⟩ := v
      refine a_getAN fl_Run_140 d_Run_run_124 (beq_iff_eq.mpr c4) ?_
      refine a_iload_n d_Run_run_127 rfl ?_
      obtain ⟨c5, c6, c7, v⟩ := v
      refine a_aald d_Run_run_128 c5 c6 c7 ?_
      refine a_aload_n d_Run_run_129 rfl ?_
      refine a_getRe fl_Run_34 d_Run_run_130 (beq_iff_eq.mpr (KNR_80 hm1)) (KRR_80_0 hm1) ?_
      refine a_aload_n d_Run_run_133 rfl ?_
      obtain ⟨c8, v⟩ := v
      refine b_callU (as := [vr 20, vr 80]) (b := (xR h2 (xR h2 x2 4) (x3).toNat)) (st := []) (kc1 := 0) (ks1 := 0) (kc2 := kc) (ks2 := ks) (d' := d) ml_Run_144 mt_Op_act rfl d_Run_run_134 rfl rfl (fun kd hq => by rcases opk_cases hq with rfl | rfl | rfl | rfl | rfl | rfl | rfl <;> exact Nat.le_of_ble_eq_true rfl) (Nat.le_refl _) (by omega) (by omega) c8 ?_
      refine Ev.mono v ?_
      intro u h3 v
      obtain ⟨rfl, v⟩ := kv_el v
      obtain ⟨hm2, v⟩ := v
      change Ev l D Y_Run_run _ _ _ 137 [some (vr 80), some (vr x1), some (vr x2), some (vi x3)] [] _ _
      refine a_iinc (L' := [some (vr 80), some (vr x1), some (vr x2), some (vi (wr (x3 + (1 : Int))))]) d_Run_run_137 rfl (Nat.le_of_ble_eq_true rfl) rfl rfl ?_
      refine a_goto (tgt := 107) d_Run_run_140 (by decide) ?_
      exact v
theorem d_Any_act_0 : decode Y_Any_act.2.1 0 = .ok (.iconst 0, 1) := by decide +kernel
theorem d_Any_act_1 : decode Y_Any_act.2.1 1 = .ok (.istore_n 3, 1) := by decide +kernel
theorem d_Any_act_2 : decode Y_Any_act.2.1 2 = .ok (.iconst 0, 1) := by decide +kernel
theorem d_Any_act_3 : decode Y_Any_act.2.1 3 = .ok (.istore 4, 2) := by decide +kernel
theorem d_Any_act_5 : decode Y_Any_act.2.1 5 = .ok (.iload 4, 2) := by decide +kernel
theorem d_Any_act_7 : decode Y_Any_act.2.1 7 = .ok (.aload_n 1, 1) := by decide +kernel
theorem d_Any_act_8 : decode Y_Any_act.2.1 8 = .ok (.getfield 26, 3) := by decide +kernel
theorem d_Any_act_11 : decode Y_Any_act.2.1 11 = .ok (.if_icmp .ge 31, 3) := by decide +kernel
theorem d_Any_act_14 : decode Y_Any_act.2.1 14 = .ok (.iload_n 3, 1) := by decide +kernel
theorem d_Any_act_15 : decode Y_Any_act.2.1 15 = .ok (.aload_n 0, 1) := by decide +kernel
theorem d_Any_act_16 : decode Y_Any_act.2.1 16 = .ok (.aload_n 1, 1) := by decide +kernel
theorem d_Any_act_17 : decode Y_Any_act.2.1 17 = .ok (.getfield 31, 3) := by decide +kernel
theorem d_Any_act_20 : decode Y_Any_act.2.1 20 = .ok (.iload 4, 2) := by decide +kernel
theorem d_Any_act_22 : decode Y_Any_act.2.1 22 = .ok (.aaload, 1) := by decide +kernel
theorem d_Any_act_23 : decode Y_Any_act.2.1 23 = .ok (.invokevirtual 35, 3) := by decide +kernel
theorem d_Any_act_26 : decode Y_Any_act.2.1 26 = .ok (.ifCond .eq 7, 3) := by decide +kernel
theorem d_Any_act_29 : decode Y_Any_act.2.1 29 = .ok (.iconst 1, 1) := by decide +kernel
theorem d_Any_act_30 : decode Y_Any_act.2.1 30 = .ok (.goto 4, 3) := by decide +kernel
theorem d_Any_act_33 : decode Y_Any_act.2.1 33 = .ok (.iconst 0, 1) := by decide +kernel
theorem d_Any_act_34 : decode Y_Any_act.2.1 34 = .ok (.iadd, 1) := by decide +kernel
theorem d_Any_act_35 : decode Y_Any_act.2.1 35 = .ok (.istore_n 3, 1) := by decide +kernel
theorem d_Any_act_36 : decode Y_Any_act.2.1 36 = .ok (.iinc 4 1, 3) := by decide +kernel
theorem d_Any_act_39 : decode Y_Any_act.2.1 39 = .ok (.goto (-34), 3) := by decide +kernel
theorem d_Any_act_42 : decode Y_Any_act.2.1 42 = .ok (.iload_n 3, 1) := by decide +kernel
theorem d_Any_act_43 : decode Y_Any_act.2.1 43 = .ok (.ifCond .ne 4, 3) := by decide +kernel
theorem d_Any_act_46 : decode Y_Any_act.2.1 46 = .ok (.return_, 1) := by decide +kernel
theorem d_Any_act_47 : decode Y_Any_act.2.1 47 = .ok (.aload_n 2, 1) := by decide +kernel
theorem d_Any_act_48 : decode Y_Any_act.2.1 48 = .ok (.iload_n 3, 1) := by decide +kernel
theorem d_Any_act_49 : decode Y_Any_act.2.1 49 = .ok (.invokevirtual 43, 3) := by decide +kernel
theorem d_Any_act_52 : decode Y_Any_act.2.1 52 = .ok (.istore 4, 2) := by decide +kernel
theorem d_Any_act_54 : decode Y_Any_act.2.1 54 = .ok (.iconst (-1), 1) := by decide +kernel
theorem d_Any_act_55 : decode Y_Any_act.2.1 55 = .ok (.istore 5, 2) := by decide +kernel
theorem d_Any_act_57 : decode Y_Any_act.2.1 57 = .ok (.iload 4, 2) := by decide +kernel
theorem d_Any_act_59 : decode Y_Any_act.2.1 59 = .ok (.ifCond .lt 33, 3) := by decide +kernel
theorem d_Any_act_62 : decode Y_Any_act.2.1 62 = .ok (.iinc 5 1, 3) := by decide +kernel
theorem d_Any_act_65 : decode Y_Any_act.2.1 65 = .ok (.iload 4, 2) := by decide +kernel
theorem d_Any_act_67 : decode Y_Any_act.2.1 67 = .ok (.aload_n 0, 1) := by decide +kernel
theorem d_Any_act_68 : decode Y_Any_act.2.1 68 = .ok (.aload_n 1, 1) := by decide +kernel
theorem d_Any_act_69 : decode Y_Any_act.2.1 69 = .ok (.getfield 31, 3) := by decide +kernel
theorem d_Any_act_72 : decode Y_Any_act.2.1 72 = .ok (.iload 5, 2) := by decide +kernel
theorem d_Any_act_74 : decode Y_Any_act.2.1 74 = .ok (.aaload, 1) := by decide +kernel
theorem d_Any_act_75 : decode Y_Any_act.2.1 75 = .ok (.invokevirtual 35, 3) := by decide +kernel
theorem d_Any_act_78 : decode Y_Any_act.2.1 78 = .ok (.ifCond .eq 7, 3) := by decide +kernel
theorem d_Any_act_81 : decode Y_Any_act.2.1 81 = .ok (.iconst 1, 1) := by decide +kernel
theorem d_Any_act_82 : decode Y_Any_act.2.1 82 = .ok (.goto 4, 3) := by decide +kernel
theorem d_Any_act_85 : decode Y_Any_act.2.1 85 = .ok (.iconst 0, 1) := by decide +kernel
theorem d_Any_act_86 : decode Y_Any_act.2.1 86 = .ok (.isub, 1) := by decide +kernel
theorem d_Any_act_87 : decode Y_Any_act.2.1 87 = .ok (.istore 4, 2) := by decide +kernel
theorem d_Any_act_89 : decode Y_Any_act.2.1 89 = .ok (.goto (-32), 3) := by decide +kernel
theorem d_Any_act_92 : decode Y_Any_act.2.1 92 = .ok (.aload_n 2, 1) := by decide +kernel
theorem d_Any_act_93 : decode Y_Any_act.2.1 93 = .ok (.aload_n 0, 1) := by decide +kernel
theorem d_Any_act_94 : decode Y_Any_act.2.1 94 = .ok (.aload_n 1, 1) := by decide +kernel
theorem d_Any_act_95 : decode Y_Any_act.2.1 95 = .ok (.getfield 31, 3) := by decide +kernel
theorem d_Any_act_98 : decode Y_Any_act.2.1 98 = .ok (.iload 5, 2) := by decide +kernel
theorem d_Any_act_100 : decode Y_Any_act.2.1 100 = .ok (.aaload, 1) := by decide +kernel
theorem d_Any_act_101 : decode Y_Any_act.2.1 101 = .ok (.invokevirtual 49, 3) := by decide +kernel
theorem d_Any_act_104 : decode Y_Any_act.2.1 104 = .ok (.return_, 1) := by decide +kernel
theorem g_Any_act_0 {l : Launch} {D : DD} {d kc ks : Nat} {h : Hp} {Φ : Option AV → Hp → Prop} {x0 : Nat} (hM : RS h) (v : Ev l D Y_Any_act (d + 1) kc ks 5 [some (vr x0), some (vr 20), some (vr 80), some (vi (0 : Int)), some (vi (0 : Int)), none] [] h Φ) : Ev l D Y_Any_act (d + 1) kc ks 0 [some (vr x0), some (vr 20), some (vr 80), none, none, none] [] h Φ := by
  refine a_iconst d_Any_act_0 ⟨by decide, by decide⟩ ?_
  refine a_istore_n (L' := [some (vr x0), some (vr 20), some (vr 80), some (vi (0 : Int)), none, none]) d_Any_act_1 (Nat.le_of_ble_eq_true rfl) rfl rfl ?_
  refine a_iconst d_Any_act_2 ⟨by decide, by decide⟩ ?_
  refine a_istore (L' := [some (vr x0), some (vr 20), some (vr 80), some (vi (0 : Int)), some (vi (0 : Int)), none]) d_Any_act_3 (Nat.le_of_ble_eq_true rfl) rfl rfl ?_
  exact v
theorem g_Any_act_5 {l : Launch} {D : DD} {d kc ks : Nat} {h : Hp} {Φ : Option AV → Hp → Prop} {x0 : Nat} {x3 : Int} {x4 : Int} (hM : RS h) (v : (x4 ≥ xI h 20 3 → ((¬ x3 = 0 → (Ev l D Y_Run_draw d 0 0 0 [some (vr 80), some (vi x3)] [] h (ki (fun r1 h1 => RS h1 ∧ (Ev l D Y_Any_act (d + 1) kc ks 57 [some (vr x0), some (vr 20), some (vr 80), some (vi x3), some (vi r1), some (vi (-1 : Int))] [] h1 Φ))))) ∧ (x3 = 0 → (Φ none h)))) ∧ (x4 < xI h 20 3 → (0 ≤ x4 ∧ x4 < 48 ∧ (xK h x0 = 11 ∧ Ev l D Y_Any_tells d 0 0 0 [some (vr x0), some (vr (xR h 22 (x4).toNat))] [] h (ki (fun r2 h2 => RS h2 ∧ ((r2 = 0 → (Ev l D Y_Any_act (d + 1) kc ks 5 [some (vr x0), some (vr 20), some (vr 80), some (vi (wr (x3 + (0 : Int)))), some (vi (wr (x4 + (1 : Int)))), none] [] h2 Φ)) ∧ (¬ r2 = 0 → (Ev l D Y_Any_act (d + 1) kc ks 5 [some (vr x0), some (vr 20), some (vr 80), some (vi (wr (x3 + (1 : Int)))), some (vi (wr (x4 + (1 : Int)))), none] [] h2 Φ))))))))) : Ev l D Y_Any_act (d + 1) kc ks 5 [some (vr x0), some (vr 20), some (vr 80), some (vi x3), some (vi x4), none] [] h Φ := by
  refine a_iload d_Any_act_5 rfl ?_
  refine a_aload_n d_Any_act_7 rfl ?_
  refine a_getIN fl_Any_26 d_Any_act_8 (beq_iff_eq.mpr (KNR_20 hM)) ?_
  obtain ⟨vt, vf⟩ := v
  refine a_icmp_ge (tgt := 42) d_Any_act_11 (by decide) (fun c => ?_) (fun c => ?_)
  · have v := vt (c); clear vt vf
    refine a_iload_n d_Any_act_42 rfl ?_
    obtain ⟨vt, vf⟩ := v
    refine a_if_ne (tgt := 47) d_Any_act_43 (by decide) (fun c => ?_) (fun c => ?_)
    · have v := vt (c); clear vt vf
      refine a_aload_n d_Any_act_47 rfl ?_
      refine a_iload_n d_Any_act_48 rfl ?_
      refine b_callV (as := [vi x3]) (b := 80) (st := []) (kd := 2) (kc1 := 0) (ks1 := 0) (kc2 := kc) (ks2 := ks) (d' := d) ml_Any_43 rfl d_Any_act_49 rfl rfl (Nat.le_of_ble_eq_true rfl) (by decide) rfl (Nat.le_refl _) (by omega) (by omega) (KNR_80 hM) ?_
      refine Ev.mono v ?_
      intro u h1 v
      obtain ⟨r1, rfl, v⟩ := ki_el v
      obtain ⟨hm1, v⟩ := v
      change Ev l D Y_Any_act _ _ _ 52 [some (vr x0), some (vr 20), some (vr 80), some (vi x3), some (vi x4), none] [vi r1] _ _
      refine a_istore (L' := [some (vr x0), some (vr 20), some (vr 80), some (vi x3), some (vi r1), none]) d_Any_act_52 (Nat.le_of_ble_eq_true rfl) rfl rfl ?_
      refine a_iconst d_Any_act_54 ⟨by decide, by decide⟩ ?_
      refine a_istore (L' := [some (vr x0), some (vr 20), some (vr 80), some (vi x3), some (vi r1), some (vi (-1 : Int))]) d_Any_act_55 (Nat.le_of_ble_eq_true rfl) rfl rfl ?_
      exact v
    · have v := vf (Classical.not_not.mp c); clear vt vf
      exact a_vret d_Any_act_46 rfl v
  · have v := vf (Int.not_le.mp c); clear vt vf
    refine a_iload_n d_Any_act_14 rfl ?_
    refine a_aload_n d_Any_act_15 rfl ?_
    refine a_aload_n d_Any_act_16 rfl ?_
    refine a_getAeN fl_Any_31 d_Any_act_17 (beq_iff_eq.mpr (KNR_20 hM)) (KRR_20_2 hM) ?_
    refine a_iload d_Any_act_20 rfl ?_
    obtain ⟨c3, c4, v⟩ := v
    refine a_aald d_Any_act_22 ⟨by rw [KNR_22 hM]; decide, by rw [KNR_22 hM]; decide⟩ c3 (lt_len (NNR_22 hM) c4) ?_
    obtain ⟨c5, v⟩ := v
    refine b_callV (as := [vr (xR h 22 (x4).toNat)]) (b := x0) (st := [vi x3]) (kd := 11) (kc1 := 0) (ks1 := 0) (kc2 := kc) (ks2 := ks) (d' := d) ml_Any_35 rfl d_Any_act_23 rfl rfl (Nat.le_of_ble_eq_true rfl) (by decide) rfl (Nat.le_refl _) (by omega) (by omega) c5 ?_
    refine Ev.mono v ?_
    intro u h2 v
    obtain ⟨r2, rfl, v⟩ := ki_el v
    obtain ⟨hm2, v⟩ := v
    change Ev l D Y_Any_act _ _ _ 26 [some (vr x0), some (vr 20), some (vr 80), some (vi x3), some (vi x4), none] [vi r2, vi x3] _ _
    obtain ⟨vt, vf⟩ := v
    refine a_if_eq (tgt := 33) d_Any_act_26 (by decide) (fun c => ?_) (fun c => ?_)
    · have v := vt (c); clear vt vf
      refine a_iconst d_Any_act_33 ⟨by decide, by decide⟩ ?_
      refine a_iadd d_Any_act_34 ?_
      refine a_istore_n (L' := [some (vr x0), some (vr 20), some (vr 80), some (vi (wr (x3 + (0 : Int)))), some (vi x4), none]) d_Any_act_35 (Nat.le_of_ble_eq_true rfl) rfl rfl ?_
      refine a_iinc (L' := [some (vr x0), some (vr 20), some (vr 80), some (vi (wr (x3 + (0 : Int)))), some (vi (wr (x4 + (1 : Int)))), none]) d_Any_act_36 rfl (Nat.le_of_ble_eq_true rfl) rfl rfl ?_
      refine a_goto (tgt := 5) d_Any_act_39 (by decide) ?_
      exact v
    · have v := vf (c); clear vt vf
      refine a_iconst d_Any_act_29 ⟨by decide, by decide⟩ ?_
      refine a_goto (tgt := 34) d_Any_act_30 (by decide) ?_
      refine a_iadd d_Any_act_34 ?_
      refine a_istore_n (L' := [some (vr x0), some (vr 20), some (vr 80), some (vi (wr (x3 + (1 : Int)))), some (vi x4), none]) d_Any_act_35 (Nat.le_of_ble_eq_true rfl) rfl rfl ?_
      refine a_iinc (L' := [some (vr x0), some (vr 20), some (vr 80), some (vi (wr (x3 + (1 : Int)))), some (vi (wr (x4 + (1 : Int)))), none]) d_Any_act_36 rfl (Nat.le_of_ble_eq_true rfl) rfl rfl ?_
      refine a_goto (tgt := 5) d_Any_act_39 (by decide) ?_
      exact v
theorem g_Any_act_57 {l : Launch} {D : DD} {d kc ks : Nat} {h : Hp} {Φ : Option AV → Hp → Prop} {x0 : Nat} {x3 : Int} {x4 : Int} {x5 : Int} (hM : RS h) (v : (x4 < 0 → (0 ≤ x5 ∧ x5 < 48 ∧ (Ev l D Y_Run_run d 0 0 0 [some (vr 80), some (vr x0), some (vr (xR h 22 (x5).toNat)), none] [] h (kv (fun h1 => RS h1 ∧ (Φ none h1)))))) ∧ (x4 ≥ 0 → (0 ≤ wr (x5 + (1 : Int)) ∧ wr (x5 + (1 : Int)) < 48 ∧ (xK h x0 = 11 ∧ Ev l D Y_Any_tells d 0 0 0 [some (vr x0), some (vr (xR h 22 (wr (x5 + (1 : Int))).toNat))] [] h (ki (fun r1 h2 => RS h2 ∧ ((r1 = 0 → (Ev l D Y_Any_act (d + 1) kc ks 57 [some (vr x0), some (vr 20), some (vr 80), some (vi x3), some (vi (wr (x4 - (0 : Int)))), some (vi (wr (x5 + (1 : Int))))] [] h2 Φ)) ∧ (¬ r1 = 0 → (Ev l D Y_Any_act (d + 1) kc ks 57 [some (vr x0), some (vr 20), some (vr 80), some (vi x3), some (vi (wr (x4 - (1 : Int)))), some (vi (wr (x5 + (1 : Int))))] [] h2 Φ))))))))) : Ev l D Y_Any_act (d + 1) kc ks 57 [some (vr x0), some (vr 20), some (vr 80), some (vi x3), some (vi x4), some (vi x5)] [] h Φ := by
  refine a_iload d_Any_act_57 rfl ?_
  obtain ⟨vt, vf⟩ := v
  refine a_if_lt (tgt := 92) d_Any_act_59 (by decide) (fun c => ?_) (fun c => ?_)
  · have v := vt (c); clear vt vf
    refine a_aload_n d_Any_act_92 rfl ?_
    refine a_aload_n d_Any_act_93 rfl ?_
    refine a_aload_n d_Any_act_94 rfl ?_
    refine a_getAeN fl_Any_31 d_Any_act_95 (beq_iff_eq.mpr (KNR_20 hM)) (KRR_20_2 hM) ?_
    refine a_iload d_Any_act_98 rfl ?_
    obtain ⟨c2, c3, v⟩ := v
    refine a_aald d_Any_act_100 ⟨by rw [KNR_22 hM]; decide, by rw [KNR_22 hM]; decide⟩ c2 (lt_len (NNR_22 hM) c3) ?_
    refine b_callV (as := [vr x0, vr (xR h 22 (x5).toNat)]) (b := 80) (st := []) (kd := 2) (kc1 := 0) (ks1 := 0) (kc2 := kc) (ks2 := ks) (d' := d) ml_Any_49 rfl d_Any_act_101 rfl rfl (Nat.le_of_ble_eq_true rfl) (by decide) rfl (Nat.le_refl _) (by omega) (by omega) (KNR_80 hM) ?_
    refine Ev.mono v ?_
    intro u h1 v
    obtain ⟨rfl, v⟩ := kv_el v
    obtain ⟨hm1, v⟩ := v
    change Ev l D Y_Any_act _ _ _ 104 [some (vr x0), some (vr 20), some (vr 80), some (vi x3), some (vi x4), some (vi x5)] [] _ _
    exact a_vret d_Any_act_104 rfl v
  · have v := vf (Int.not_lt.mp c); clear vt vf
    refine a_iinc (L' := [some (vr x0), some (vr 20), some (vr 80), some (vi x3), some (vi x4), some (vi (wr (x5 + (1 : Int))))]) d_Any_act_62 rfl (Nat.le_of_ble_eq_true rfl) rfl rfl ?_
    refine a_iload d_Any_act_65 rfl ?_
    refine a_aload_n d_Any_act_67 rfl ?_
    refine a_aload_n d_Any_act_68 rfl ?_
    refine a_getAeN fl_Any_31 d_Any_act_69 (beq_iff_eq.mpr (KNR_20 hM)) (KRR_20_2 hM) ?_
    refine a_iload d_Any_act_72 rfl ?_
    obtain ⟨c6, c7, v⟩ := v
    refine a_aald d_Any_act_74 ⟨by rw [KNR_22 hM]; decide, by rw [KNR_22 hM]; decide⟩ c6 (lt_len (NNR_22 hM) c7) ?_
    obtain ⟨c8, v⟩ := v
    refine b_callV (as := [vr (xR h 22 (wr (x5 + (1 : Int))).toNat)]) (b := x0) (st := [vi x4]) (kd := 11) (kc1 := 0) (ks1 := 0) (kc2 := kc) (ks2 := ks) (d' := d) ml_Any_35 rfl d_Any_act_75 rfl rfl (Nat.le_of_ble_eq_true rfl) (by decide) rfl (Nat.le_refl _) (by omega) (by omega) c8 ?_
    refine Ev.mono v ?_
    intro u h2 v
    obtain ⟨r1, rfl, v⟩ := ki_el v
    obtain ⟨hm2, v⟩ := v
    change Ev l D Y_Any_act _ _ _ 78 [some (vr x0), some (vr 20), some (vr 80), some (vi x3), some (vi x4), some (vi (wr (x5 + (1 : Int))))] [vi r1, vi x4] _ _
    obtain ⟨vt, vf⟩ := v
    refine a_if_eq (tgt := 85) d_Any_act_78 (by decide) (fun c => ?_) (fun c => ?_)
    · have v := vt (c); clear vt vf
      refine a_iconst d_Any_act_85 ⟨by decide, by decide⟩ ?_
      refine a_isub d_Any_act_86 ?_
      refine a_istore (L' := [some (vr x0), some (vr 20), some (vr 80), some (vi x3), some (vi (wr (x4 - (0 : Int)))), some (vi (wr (x5 + (1 : Int))))]) d_Any_act_87 (Nat.le_of_ble_eq_true rfl) rfl rfl ?_
      refine a_goto (tgt := 57) d_Any_act_89 (by decide) ?_
      exact v
    · have v := vf (c); clear vt vf
      refine a_iconst d_Any_act_81 ⟨by decide, by decide⟩ ?_
      refine a_goto (tgt := 86) d_Any_act_82 (by decide) ?_
      refine a_isub d_Any_act_86 ?_
      refine a_istore (L' := [some (vr x0), some (vr 20), some (vr 80), some (vi x3), some (vi (wr (x4 - (1 : Int)))), some (vi (wr (x5 + (1 : Int))))]) d_Any_act_87 (Nat.le_of_ble_eq_true rfl) rfl rfl ?_
      refine a_goto (tgt := 57) d_Any_act_89 (by decide) ?_
      exact v
theorem d_Out_act_0 : decode Y_Out_act.2.1 0 = .ok (.aload_n 2, 1) := by decide +kernel
theorem d_Out_act_1 : decode Y_Out_act.2.1 1 = .ok (.getfield 30, 3) := by decide +kernel
theorem d_Out_act_4 : decode Y_Out_act.2.1 4 = .ok (.aload_n 0, 1) := by decide +kernel
theorem d_Out_act_5 : decode Y_Out_act.2.1 5 = .ok (.getfield 9, 3) := by decide +kernel
theorem d_Out_act_8 : decode Y_Out_act.2.1 8 = .ok (.iaload, 1) := by decide +kernel
theorem d_Out_act_9 : decode Y_Out_act.2.1 9 = .ok (.istore_n 3, 1) := by decide +kernel
theorem d_Out_act_10 : decode Y_Out_act.2.1 10 = .ok (.iload_n 3, 1) := by decide +kernel
theorem d_Out_act_11 : decode Y_Out_act.2.1 11 = .ok (.ifCond .le 26, 3) := by decide +kernel
theorem d_Out_act_14 : decode Y_Out_act.2.1 14 = .ok (.aload_n 2, 1) := by decide +kernel
theorem d_Out_act_15 : decode Y_Out_act.2.1 15 = .ok (.aload_n 0, 1) := by decide +kernel
theorem d_Out_act_16 : decode Y_Out_act.2.1 16 = .ok (.aload_n 2, 1) := by decide +kernel
theorem d_Out_act_17 : decode Y_Out_act.2.1 17 = .ok (.getfield 36, 3) := by decide +kernel
theorem d_Out_act_20 : decode Y_Out_act.2.1 20 = .ok (.aload_n 0, 1) := by decide +kernel
theorem d_Out_act_21 : decode Y_Out_act.2.1 21 = .ok (.getfield 9, 3) := by decide +kernel
theorem d_Out_act_24 : decode Y_Out_act.2.1 24 = .ok (.bipush 48, 2) := by decide +kernel
theorem d_Out_act_26 : decode Y_Out_act.2.1 26 = .ok (.imul, 1) := by decide +kernel
theorem d_Out_act_27 : decode Y_Out_act.2.1 27 = .ok (.aload_n 2, 1) := by decide +kernel
theorem d_Out_act_28 : decode Y_Out_act.2.1 28 = .ok (.iload_n 3, 1) := by decide +kernel
theorem d_Out_act_29 : decode Y_Out_act.2.1 29 = .ok (.invokevirtual 38, 3) := by decide +kernel
theorem d_Out_act_32 : decode Y_Out_act.2.1 32 = .ok (.iadd, 1) := by decide +kernel
theorem d_Out_act_33 : decode Y_Out_act.2.1 33 = .ok (.aaload, 1) := by decide +kernel
theorem d_Out_act_34 : decode Y_Out_act.2.1 34 = .ok (.invokevirtual 42, 3) := by decide +kernel
theorem d_Out_act_37 : decode Y_Out_act.2.1 37 = .ok (.return_, 1) := by decide +kernel
theorem g_Out_act_0 {l : Launch} {D : DD} {d kc ks : Nat} {h : Hp} {Φ : Option AV → Hp → Prop} {x0 : Nat} (hM : RS h) (v : xK h x0 = 10 ∧ (0 ≤ xI h x0 4 ∧ xI h x0 4 < 4 ∧ ((xI h 84 (xI h x0 4).toNat ≤ 0 → (Φ none h)) ∧ (xI h 84 (xI h x0 4).toNat > 0 → (xK h x0 = 10 ∧ (Ev l D Y_Run_draw d 0 0 0 [some (vr 80), some (vi (xI h 84 (xI h x0 4).toNat))] [] h (ki (fun r1 h1 => RS h1 ∧ (0 ≤ wr ((wr ((xI h x0 4) * (48 : Int))) + r1) ∧ wr ((wr ((xI h x0 4) * (48 : Int))) + r1) < 192 ∧ (Ev l D Y_Run_run d 0 0 0 [some (vr 80), some (vr x0), some (vr (xR h1 83 (wr ((wr ((xI h x0 4) * (48 : Int))) + r1)).toNat)), none] [] h1 (kv (fun h2 => RS h2 ∧ (Φ none h2))))))))))))) : Ev l D Y_Out_act (d + 1) kc ks 0 [some (vr x0), some (vr 20), some (vr 80), none] [] h Φ := by
  refine a_aload_n d_Out_act_0 rfl ?_
  refine a_getAeN fl_Out_30 d_Out_act_1 (beq_iff_eq.mpr (KNR_80 hM)) (KRR_80_6 hM) ?_
  refine a_aload_n d_Out_act_4 rfl ?_
  obtain ⟨c1, v⟩ := v
  refine a_getI fl_Out_9 d_Out_act_5 (beq_iff_eq.mpr c1) ?_
  obtain ⟨c3, c4, v⟩ := v
  refine a_iald d_Out_act_8 (Or.inl (KNR_84 hM)) c3 (lt_len (NNR_84 hM) c4) ?_
  refine a_istore_n (L' := [some (vr x0), some (vr 20), some (vr 80), some (vi (xI h 84 (xI h x0 4).toNat))]) d_Out_act_9 (Nat.le_of_ble_eq_true rfl) rfl rfl ?_
  refine a_iload_n d_Out_act_10 rfl ?_
  obtain ⟨vt, vf⟩ := v
  refine a_if_le (tgt := 37) d_Out_act_11 (by decide) (fun c => ?_) (fun c => ?_)
  · have v := vt (c); clear vt vf
    exact a_vret d_Out_act_37 rfl v
  · have v := vf (Int.not_le.mp c); clear vt vf
    refine a_aload_n d_Out_act_14 rfl ?_
    refine a_aload_n d_Out_act_15 rfl ?_
    refine a_aload_n d_Out_act_16 rfl ?_
    refine a_getAeN fl_Out_36 d_Out_act_17 (beq_iff_eq.mpr (KNR_80 hM)) (KRR_80_5 hM) ?_
    refine a_aload_n d_Out_act_20 rfl ?_
    obtain ⟨c5, v⟩ := v
    refine a_getI fl_Out_9 d_Out_act_21 (beq_iff_eq.mpr c5) ?_
    refine a_bipush d_Out_act_24 ⟨by decide, by decide⟩ (by decide) ?_
    refine a_imul d_Out_act_26 ?_
    refine a_aload_n d_Out_act_27 rfl ?_
    refine a_iload_n d_Out_act_28 rfl ?_
    refine b_callV (as := [vi (xI h 84 (xI h x0 4).toNat)]) (b := 80) (st := [vi (wr ((xI h x0 4) * (48 : Int))), vr 83, vr x0, vr 80]) (kd := 2) (kc1 := 0) (ks1 := 0) (kc2 := kc) (ks2 := ks) (d' := d) ml_Out_38 rfl d_Out_act_29 rfl rfl (Nat.le_of_ble_eq_true rfl) (by decide) rfl (Nat.le_refl _) (by omega) (by omega) (KNR_80 hM) ?_
    refine Ev.mono v ?_
    intro u h1 v
    obtain ⟨r1, rfl, v⟩ := ki_el v
    obtain ⟨hm1, v⟩ := v
    change Ev l D Y_Out_act _ _ _ 32 [some (vr x0), some (vr 20), some (vr 80), some (vi (xI h 84 (xI h x0 4).toNat))] [vi r1, vi (wr ((xI h x0 4) * (48 : Int))), vr 83, vr x0, vr 80] _ _
    refine a_iadd d_Out_act_32 ?_
    obtain ⟨c7, c8, v⟩ := v
    refine a_aald d_Out_act_33 ⟨by rw [KNR_83 hm1]; decide, by rw [KNR_83 hm1]; decide⟩ c7 (lt_len (NNR_83 hm1) c8) ?_
    refine b_callV (as := [vr x0, vr (xR h1 83 (wr ((wr ((xI h x0 4) * (48 : Int))) + r1)).toNat)]) (b := 80) (st := []) (kd := 2) (kc1 := 0) (ks1 := 0) (kc2 := kc) (ks2 := ks) (d' := d) ml_Out_42 rfl d_Out_act_34 rfl rfl (Nat.le_of_ble_eq_true rfl) (by decide) rfl (Nat.le_refl _) (by omega) (by omega) (KNR_80 hm1) ?_
    refine Ev.mono v ?_
    intro u h2 v
    obtain ⟨rfl, v⟩ := kv_el v
    obtain ⟨hm2, v⟩ := v
    change Ev l D Y_Out_act _ _ _ 37 [some (vr x0), some (vr 20), some (vr 80), some (vi (xI h 84 (xI h x0 4).toNat))] [] _ _
    exact a_vret d_Out_act_37 rfl v
theorem d_Put_act_0 : decode Y_Put_act.2.1 0 = .ok (.aload_n 2, 1) := by decide +kernel
theorem d_Put_act_1 : decode Y_Put_act.2.1 1 = .ok (.aload_n 0, 1) := by decide +kernel
theorem d_Put_act_2 : decode Y_Put_act.2.1 2 = .ok (.getfield 7, 3) := by decide +kernel
theorem d_Put_act_5 : decode Y_Put_act.2.1 5 = .ok (.aload_n 0, 1) := by decide +kernel
theorem d_Put_act_6 : decode Y_Put_act.2.1 6 = .ok (.getfield 13, 3) := by decide +kernel
theorem d_Put_act_9 : decode Y_Put_act.2.1 9 = .ok (.invokevirtual 32, 3) := by decide +kernel
theorem d_Put_act_12 : decode Y_Put_act.2.1 12 = .ok (.return_, 1) := by decide +kernel
theorem g_Put_act_0 {l : Launch} {D : DD} {d kc ks : Nat} {h : Hp} {Φ : Option AV → Hp → Prop} {x0 : Nat} (hM : RS h) (v : xK h x0 = 9 ∧ (xK h x0 = 9 ∧ (Ev l D Y_Run_put d 0 0 0 [some (vr 80), some (vi (xI h x0 4)), some (vr (xR h x0 5)), none, none] [] h (kv (fun h1 => RS h1 ∧ (Φ none h1)))))) : Ev l D Y_Put_act (d + 1) kc ks 0 [some (vr x0), some (vr 20), some (vr 80)] [] h Φ := by
  refine a_aload_n d_Put_act_0 rfl ?_
  refine a_aload_n d_Put_act_1 rfl ?_
  obtain ⟨c1, v⟩ := v
  refine a_getI fl_Put_7 d_Put_act_2 (beq_iff_eq.mpr c1) ?_
  refine a_aload_n d_Put_act_5 rfl ?_
  obtain ⟨c2, v⟩ := v
  refine a_getR fl_Put_13 d_Put_act_6 (beq_iff_eq.mpr c2) ?_
  refine b_callV (as := [vi (xI h x0 4), vr (xR h x0 5)]) (b := 80) (st := []) (kd := 2) (kc1 := 0) (ks1 := 0) (kc2 := kc) (ks2 := ks) (d' := d) ml_Put_32 rfl d_Put_act_9 rfl rfl (Nat.le_of_ble_eq_true rfl) (by decide) rfl (Nat.le_refl _) (by omega) (by omega) (KNR_80 hM) ?_
  refine Ev.mono v ?_
  intro u h1 v
  obtain ⟨rfl, v⟩ := kv_el v
  obtain ⟨hm1, v⟩ := v
  change Ev l D Y_Put_act _ _ _ 12 [some (vr x0), some (vr 20), some (vr 80)] [] _ _
  exact a_vret d_Put_act_12 rfl v
theorem d_New_act_0 : decode Y_New_act.2.1 0 = .ok (.aload_n 2, 1) := by decide +kernel
theorem d_New_act_1 : decode Y_New_act.2.1 1 = .ok (.aload_n 0, 1) := by decide +kernel
theorem d_New_act_2 : decode Y_New_act.2.1 2 = .ok (.aload_n 0, 1) := by decide +kernel
theorem d_New_act_3 : decode Y_New_act.2.1 3 = .ok (.getfield 7, 3) := by decide +kernel
theorem d_New_act_6 : decode Y_New_act.2.1 6 = .ok (.invokevirtual 33, 3) := by decide +kernel
theorem d_New_act_9 : decode Y_New_act.2.1 9 = .ok (.aload_n 2, 1) := by decide +kernel
theorem d_New_act_10 : decode Y_New_act.2.1 10 = .ok (.aload_n 0, 1) := by decide +kernel
theorem d_New_act_11 : decode Y_New_act.2.1 11 = .ok (.getfield 7, 3) := by decide +kernel
theorem d_New_act_14 : decode Y_New_act.2.1 14 = .ok (.invokevirtual 36, 3) := by decide +kernel
theorem d_New_act_17 : decode Y_New_act.2.1 17 = .ok (.return_, 1) := by decide +kernel
theorem g_New_act_0 {l : Launch} {D : DD} {d kc ks : Nat} {h : Hp} {Φ : Option AV → Hp → Prop} {x0 : Nat} (hM : RS h) (v : xK h x0 = 5 ∧ (Ev l D Y_Run_begin d 0 0 0 [some (vr 80), some (vr x0), some (vr (xR h x0 4)), none, none] [] h (kv (fun h1 => RS h1 ∧ (xK h1 x0 = 5 ∧ (Ev l D Y_Run_make d 0 0 0 [some (vr 80), some (vr (xR h1 x0 4))] [] h1 (kv (fun h2 => RS h2 ∧ (Φ none h2))))))))) : Ev l D Y_New_act (d + 1) kc ks 0 [some (vr x0), some (vr 20), some (vr 80)] [] h Φ := by
  refine a_aload_n d_New_act_0 rfl ?_
  refine a_aload_n d_New_act_1 rfl ?_
  refine a_aload_n d_New_act_2 rfl ?_
  obtain ⟨c1, v⟩ := v
  refine a_getR fl_New_7 d_New_act_3 (beq_iff_eq.mpr c1) ?_
  refine b_callV (as := [vr x0, vr (xR h x0 4)]) (b := 80) (st := []) (kd := 2) (kc1 := 0) (ks1 := 0) (kc2 := kc) (ks2 := ks) (d' := d) ml_New_33 rfl d_New_act_6 rfl rfl (Nat.le_of_ble_eq_true rfl) (by decide) rfl (Nat.le_refl _) (by omega) (by omega) (KNR_80 hM) ?_
  refine Ev.mono v ?_
  intro u h1 v
  obtain ⟨rfl, v⟩ := kv_el v
  obtain ⟨hm1, v⟩ := v
  change Ev l D Y_New_act _ _ _ 9 [some (vr x0), some (vr 20), some (vr 80)] [] _ _
  refine a_aload_n d_New_act_9 rfl ?_
  refine a_aload_n d_New_act_10 rfl ?_
  obtain ⟨c2, v⟩ := v
  refine a_getR fl_New_7 d_New_act_11 (beq_iff_eq.mpr c2) ?_
  refine b_callV (as := [vr (xR h1 x0 4)]) (b := 80) (st := []) (kd := 2) (kc1 := 0) (ks1 := 0) (kc2 := kc) (ks2 := ks) (d' := d) ml_New_36 rfl d_New_act_14 rfl rfl (Nat.le_of_ble_eq_true rfl) (by decide) rfl (Nat.le_refl _) (by omega) (by omega) (KNR_80 hm1) ?_
  refine Ev.mono v ?_
  intro u h2 v
  obtain ⟨rfl, v⟩ := kv_el v
  obtain ⟨hm2, v⟩ := v
  change Ev l D Y_New_act _ _ _ 17 [some (vr x0), some (vr 20), some (vr 80)] [] _ _
  exact a_vret d_New_act_17 rfl v
theorem d_Up_act_0 : decode Y_Up_act.2.1 0 = .ok (.aload_n 1, 1) := by decide +kernel
theorem d_Up_act_1 : decode Y_Up_act.2.1 1 = .ok (.aload_n 0, 1) := by decide +kernel
theorem d_Up_act_2 : decode Y_Up_act.2.1 2 = .ok (.getfield 7, 3) := by decide +kernel
theorem d_Up_act_5 : decode Y_Up_act.2.1 5 = .ok (.aload_n 1, 1) := by decide +kernel
theorem d_Up_act_6 : decode Y_Up_act.2.1 6 = .ok (.aload_n 0, 1) := by decide +kernel
theorem d_Up_act_7 : decode Y_Up_act.2.1 7 = .ok (.getfield 7, 3) := by decide +kernel
theorem d_Up_act_10 : decode Y_Up_act.2.1 10 = .ok (.aload_n 0, 1) := by decide +kernel
theorem d_Up_act_11 : decode Y_Up_act.2.1 11 = .ok (.getfield 13, 3) := by decide +kernel
theorem d_Up_act_14 : decode Y_Up_act.2.1 14 = .ok (.invokevirtual 17, 3) := by decide +kernel
theorem d_Up_act_17 : decode Y_Up_act.2.1 17 = .ok (.invokevirtual 23, 3) := by decide +kernel
theorem d_Up_act_20 : decode Y_Up_act.2.1 20 = .ok (.istore_n 3, 1) := by decide +kernel
theorem d_Up_act_21 : decode Y_Up_act.2.1 21 = .ok (.iload_n 3, 1) := by decide +kernel
theorem d_Up_act_22 : decode Y_Up_act.2.1 22 = .ok (.ifCond .lt 14, 3) := by decide +kernel
theorem d_Up_act_25 : decode Y_Up_act.2.1 25 = .ok (.aload_n 2, 1) := by decide +kernel
theorem d_Up_act_26 : decode Y_Up_act.2.1 26 = .ok (.aload_n 0, 1) := by decide +kernel
theorem d_Up_act_27 : decode Y_Up_act.2.1 27 = .ok (.aload_n 1, 1) := by decide +kernel
theorem d_Up_act_28 : decode Y_Up_act.2.1 28 = .ok (.getfield 27, 3) := by decide +kernel
theorem d_Up_act_31 : decode Y_Up_act.2.1 31 = .ok (.iload_n 3, 1) := by decide +kernel
theorem d_Up_act_32 : decode Y_Up_act.2.1 32 = .ok (.aaload, 1) := by decide +kernel
theorem d_Up_act_33 : decode Y_Up_act.2.1 33 = .ok (.invokevirtual 39, 3) := by decide +kernel
theorem d_Up_act_36 : decode Y_Up_act.2.1 36 = .ok (.return_, 1) := by decide +kernel
theorem g_Up_act_0 {l : Launch} {D : DD} {d kc ks : Nat} {h : Hp} {Φ : Option AV → Hp → Prop} {x0 : Nat} (hM : RS h) (v : xK h x0 = 7 ∧ (xK h x0 = 7 ∧ (xK h x0 = 7 ∧ (Ev l D Y_G_find d 0 0 0 [some (vr 20), some (vr (xR h x0 4)), some (vi (xI h x0 5)), none] [] h (kr (fun r1 h1 => RS h1 ∧ (Ev l D Y_G_choose d 0 0 0 [some (vr 20), some (vr (xR h x0 4)), some (vr r1), none, none] [] h1 (ki (fun r2 h2 => RS h2 ∧ ((r2 < 0 → (Φ none h2)) ∧ (r2 ≥ 0 → (0 ≤ r2 ∧ r2 < 48 ∧ (Ev l D Y_Run_run d 0 0 0 [some (vr 80), some (vr x0), some (vr (xR h2 22 (r2).toNat)), none] [] h2 (kv (fun h3 => RS h3 ∧ (Φ none h3)))))))))))))))) : Ev l D Y_Up_act (d + 1) kc ks 0 [some (vr x0), some (vr 20), some (vr 80), none] [] h Φ := by
  refine a_aload_n d_Up_act_0 rfl ?_
  refine a_aload_n d_Up_act_1 rfl ?_
  obtain ⟨c1, v⟩ := v
  refine a_getR fl_Up_7 d_Up_act_2 (beq_iff_eq.mpr c1) ?_
  refine a_aload_n d_Up_act_5 rfl ?_
  refine a_aload_n d_Up_act_6 rfl ?_
  obtain ⟨c2, v⟩ := v
  refine a_getR fl_Up_7 d_Up_act_7 (beq_iff_eq.mpr c2) ?_
  refine a_aload_n d_Up_act_10 rfl ?_
  obtain ⟨c3, v⟩ := v
  refine a_getI fl_Up_13 d_Up_act_11 (beq_iff_eq.mpr c3) ?_
  refine b_callN (as := [vr (xR h x0 4), vi (xI h x0 5)]) (b := 20) (st := [vr (xR h x0 4), vr 20]) (kd := 1) (kc1 := 0) (ks1 := 0) (kc2 := kc) (ks2 := ks) (d' := d) ml_Up_17 rfl d_Up_act_14 rfl rfl (Nat.le_of_ble_eq_true rfl) (by decide) rfl (Nat.le_refl _) (by omega) (by omega) (KNR_20 hM) ?_
  refine Ev.mono v ?_
  intro u h1 v
  obtain ⟨r1, rfl, v⟩ := kr_el v
  obtain ⟨hm1, v⟩ := v
  change Ev l D Y_Up_act _ _ _ 17 [some (vr x0), some (vr 20), some (vr 80), none] [vr r1, vr (xR h x0 4), vr 20] _ _
  refine b_callN (as := [vr (xR h x0 4), vr r1]) (b := 20) (st := []) (kd := 1) (kc1 := 0) (ks1 := 0) (kc2 := kc) (ks2 := ks) (d' := d) ml_Up_23 rfl d_Up_act_17 rfl rfl (Nat.le_of_ble_eq_true rfl) (by decide) rfl (Nat.le_refl _) (by omega) (by omega) (KNR_20 hm1) ?_
  refine Ev.mono v ?_
  intro u h2 v
  obtain ⟨r2, rfl, v⟩ := ki_el v
  obtain ⟨hm2, v⟩ := v
  change Ev l D Y_Up_act _ _ _ 20 [some (vr x0), some (vr 20), some (vr 80), none] [vi r2] _ _
  refine a_istore_n (L' := [some (vr x0), some (vr 20), some (vr 80), some (vi r2)]) d_Up_act_20 (Nat.le_of_ble_eq_true rfl) rfl rfl ?_
  refine a_iload_n d_Up_act_21 rfl ?_
  obtain ⟨vt, vf⟩ := v
  refine a_if_lt (tgt := 36) d_Up_act_22 (by decide) (fun c => ?_) (fun c => ?_)
  · have v := vt (c); clear vt vf
    exact a_vret d_Up_act_36 rfl v
  · have v := vf (Int.not_lt.mp c); clear vt vf
    refine a_aload_n d_Up_act_25 rfl ?_
    refine a_aload_n d_Up_act_26 rfl ?_
    refine a_aload_n d_Up_act_27 rfl ?_
    refine a_getAeN fl_Up_27 d_Up_act_28 (beq_iff_eq.mpr (KNR_20 hm2)) (KRR_20_2 hm2) ?_
    refine a_iload_n d_Up_act_31 rfl ?_
    obtain ⟨c5, c6, v⟩ := v
    refine a_aald d_Up_act_32 ⟨by rw [KNR_22 hm2]; decide, by rw [KNR_22 hm2]; decide⟩ c5 (lt_len (NNR_22 hm2) c6) ?_
    refine b_callV (as := [vr x0, vr (xR h2 22 (r2).toNat)]) (b := 80) (st := []) (kd := 2) (kc1 := 0) (ks1 := 0) (kc2 := kc) (ks2 := ks) (d' := d) ml_Up_39 rfl d_Up_act_33 rfl rfl (Nat.le_of_ble_eq_true rfl) (by decide) rfl (Nat.le_refl _) (by omega) (by omega) (KNR_80 hm2) ?_
    refine Ev.mono v ?_
    intro u h3 v
    obtain ⟨rfl, v⟩ := kv_el v
    obtain ⟨hm3, v⟩ := v
    change Ev l D Y_Up_act _ _ _ 36 [some (vr x0), some (vr 20), some (vr 80), some (vi r2)] [] _ _
    exact a_vret d_Up_act_36 rfl v
theorem d_Static_act_0 : decode Y_Static_act.2.1 0 = .ok (.aload_n 0, 1) := by decide +kernel
theorem d_Static_act_1 : decode Y_Static_act.2.1 1 = .ok (.aload_n 1, 1) := by decide +kernel
theorem d_Static_act_2 : decode Y_Static_act.2.1 2 = .ok (.invokevirtual 34, 3) := by decide +kernel
theorem d_Static_act_5 : decode Y_Static_act.2.1 5 = .ok (.astore_n 3, 1) := by decide +kernel
theorem d_Static_act_6 : decode Y_Static_act.2.1 6 = .ok (.aload_n 3, 1) := by decide +kernel
theorem d_Static_act_7 : decode Y_Static_act.2.1 7 = .ok (.ifnull 18, 3) := by decide +kernel
theorem d_Static_act_10 : decode Y_Static_act.2.1 10 = .ok (.aload_n 2, 1) := by decide +kernel
theorem d_Static_act_11 : decode Y_Static_act.2.1 11 = .ok (.aload_n 0, 1) := by decide +kernel
theorem d_Static_act_12 : decode Y_Static_act.2.1 12 = .ok (.aload_n 3, 1) := by decide +kernel
theorem d_Static_act_13 : decode Y_Static_act.2.1 13 = .ok (.getfield 42, 3) := by decide +kernel
theorem d_Static_act_16 : decode Y_Static_act.2.1 16 = .ok (.invokevirtual 53, 3) := by decide +kernel
theorem d_Static_act_19 : decode Y_Static_act.2.1 19 = .ok (.aload_n 2, 1) := by decide +kernel
theorem d_Static_act_20 : decode Y_Static_act.2.1 20 = .ok (.aload_n 0, 1) := by decide +kernel
theorem d_Static_act_21 : decode Y_Static_act.2.1 21 = .ok (.aload_n 3, 1) := by decide +kernel
theorem d_Static_act_22 : decode Y_Static_act.2.1 22 = .ok (.invokevirtual 56, 3) := by decide +kernel
theorem d_Static_act_25 : decode Y_Static_act.2.1 25 = .ok (.return_, 1) := by decide +kernel
theorem g_Static_act_0 {l : Launch} {D : DD} {d kc ks : Nat} {h : Hp} {Φ : Option AV → Hp → Prop} {x0 : Nat} (hM : RS h) (v : xK h x0 = 8 ∧ Ev l D Y_Static_told d 0 0 0 [some (vr x0), some (vr 20), none] [] h (kr (fun r1 h1 => RS h1 ∧ ((r1 = 0 → (Φ none h1)) ∧ (¬ r1 = 0 → (xK h1 r1 = 4 ∧ (Ev l D Y_Run_begin d 0 0 0 [some (vr 80), some (vr x0), some (vr (xR h1 r1 1)), none, none] [] h1 (kv (fun h2 => RS h2 ∧ (Ev l D Y_Run_run d 0 0 0 [some (vr 80), some (vr x0), some (vr r1), none] [] h2 (kv (fun h3 => RS h3 ∧ (Φ none h3))))))))))))) : Ev l D Y_Static_act (d + 1) kc ks 0 [some (vr x0), some (vr 20), some (vr 80), none] [] h Φ := by
  refine a_aload_n d_Static_act_0 rfl ?_
  refine a_aload_n d_Static_act_1 rfl ?_
  obtain ⟨c4, v⟩ := v
  refine b_callV (as := [vr 20]) (b := x0) (st := []) (kd := 8) (kc1 := 0) (ks1 := 0) (kc2 := kc) (ks2 := ks) (d' := d) ml_Static_34 rfl d_Static_act_2 rfl rfl (Nat.le_of_ble_eq_true rfl) (by decide) rfl (Nat.le_refl _) (by omega) (by omega) c4 ?_
  refine Ev.mono v ?_
  intro u h1 v
  obtain ⟨r1, rfl, v⟩ := kr_el v
  obtain ⟨hm1, v⟩ := v
  change Ev l D Y_Static_act _ _ _ 5 [some (vr x0), some (vr 20), some (vr 80), none] [vr r1] _ _
  refine a_astore_n (L' := [some (vr x0), some (vr 20), some (vr 80), some (vr r1)]) d_Static_act_5 (Nat.le_of_ble_eq_true rfl) rfl rfl ?_
  refine a_aload_n d_Static_act_6 rfl ?_
  obtain ⟨vt, vf⟩ := v
  refine a_ifnull (tgt := 25) d_Static_act_7 (by decide) (fun c => ?_) (fun c => ?_)
  · have v := vt (c); clear vt vf
    exact a_vret d_Static_act_25 rfl v
  · have v := vf (c); clear vt vf
    refine a_aload_n d_Static_act_10 rfl ?_
    refine a_aload_n d_Static_act_11 rfl ?_
    refine a_aload_n d_Static_act_12 rfl ?_
    obtain ⟨c1, v⟩ := v
    refine a_getRN fl_Static_42 d_Static_act_13 (beq_iff_eq.mpr c1) ?_
    refine b_callV (as := [vr x0, vr (xR h1 r1 1)]) (b := 80) (st := []) (kd := 2) (kc1 := 0) (ks1 := 0) (kc2 := kc) (ks2 := ks) (d' := d) ml_Static_53 rfl d_Static_act_16 rfl rfl (Nat.le_of_ble_eq_true rfl) (by decide) rfl (Nat.le_refl _) (by omega) (by omega) (KNR_80 hm1) ?_
    refine Ev.mono v ?_
    intro u h2 v
    obtain ⟨rfl, v⟩ := kv_el v
    obtain ⟨hm2, v⟩ := v
    change Ev l D Y_Static_act _ _ _ 19 [some (vr x0), some (vr 20), some (vr 80), some (vr r1)] [] _ _
    refine a_aload_n d_Static_act_19 rfl ?_
    refine a_aload_n d_Static_act_20 rfl ?_
    refine a_aload_n d_Static_act_21 rfl ?_
    refine b_callV (as := [vr x0, vr r1]) (b := 80) (st := []) (kd := 2) (kc1 := 0) (ks1 := 0) (kc2 := kc) (ks2 := ks) (d' := d) ml_Static_56 rfl d_Static_act_22 rfl rfl (Nat.le_of_ble_eq_true rfl) (by decide) rfl (Nat.le_refl _) (by omega) (by omega) (KNR_80 hm2) ?_
    refine Ev.mono v ?_
    intro u h3 v
    obtain ⟨rfl, v⟩ := kv_el v
    obtain ⟨hm3, v⟩ := v
    change Ev l D Y_Static_act _ _ _ 25 [some (vr x0), some (vr 20), some (vr 80), some (vr r1)] [] _ _
    exact a_vret d_Static_act_25 rfl v
theorem d_Call_act_0 : decode Y_Call_act.2.1 0 = .ok (.aload_n 2, 1) := by decide +kernel
theorem d_Call_act_1 : decode Y_Call_act.2.1 1 = .ok (.aload_n 0, 1) := by decide +kernel
theorem d_Call_act_2 : decode Y_Call_act.2.1 2 = .ok (.getfield 9, 3) := by decide +kernel
theorem d_Call_act_5 : decode Y_Call_act.2.1 5 = .ok (.invokevirtual 56, 3) := by decide +kernel
theorem d_Call_act_8 : decode Y_Call_act.2.1 8 = .ok (.astore_n 3, 1) := by decide +kernel
theorem d_Call_act_9 : decode Y_Call_act.2.1 9 = .ok (.aload_n 3, 1) := by decide +kernel
theorem d_Call_act_10 : decode Y_Call_act.2.1 10 = .ok (.ifnonnull 7, 3) := by decide +kernel
theorem d_Call_act_13 : decode Y_Call_act.2.1 13 = .ok (.iconst (-1), 1) := by decide +kernel
theorem d_Call_act_14 : decode Y_Call_act.2.1 14 = .ok (.goto 20, 3) := by decide +kernel
theorem d_Call_act_17 : decode Y_Call_act.2.1 17 = .ok (.aload_n 1, 1) := by decide +kernel
theorem d_Call_act_18 : decode Y_Call_act.2.1 18 = .ok (.aload_n 3, 1) := by decide +kernel
theorem d_Call_act_19 : decode Y_Call_act.2.1 19 = .ok (.aload_n 1, 1) := by decide +kernel
theorem d_Call_act_20 : decode Y_Call_act.2.1 20 = .ok (.aload_n 0, 1) := by decide +kernel
theorem d_Call_act_21 : decode Y_Call_act.2.1 21 = .ok (.getfield 9, 3) := by decide +kernel
theorem d_Call_act_24 : decode Y_Call_act.2.1 24 = .ok (.aload_n 0, 1) := by decide +kernel
theorem d_Call_act_25 : decode Y_Call_act.2.1 25 = .ok (.getfield 15, 3) := by decide +kernel
theorem d_Call_act_28 : decode Y_Call_act.2.1 28 = .ok (.invokevirtual 19, 3) := by decide +kernel
theorem d_Call_act_31 : decode Y_Call_act.2.1 31 = .ok (.invokevirtual 40, 3) := by decide +kernel
theorem d_Call_act_34 : decode Y_Call_act.2.1 34 = .ok (.istore 4, 2) := by decide +kernel
theorem d_Call_act_36 : decode Y_Call_act.2.1 36 = .ok (.iload 4, 2) := by decide +kernel
theorem d_Call_act_38 : decode Y_Call_act.2.1 38 = .ok (.ifCond .lt 15, 3) := by decide +kernel
theorem d_Call_act_41 : decode Y_Call_act.2.1 41 = .ok (.aload_n 2, 1) := by decide +kernel
theorem d_Call_act_42 : decode Y_Call_act.2.1 42 = .ok (.aload_n 0, 1) := by decide +kernel
theorem d_Call_act_43 : decode Y_Call_act.2.1 43 = .ok (.aload_n 1, 1) := by decide +kernel
theorem d_Call_act_44 : decode Y_Call_act.2.1 44 = .ok (.getfield 44, 3) := by decide +kernel
theorem d_Call_act_47 : decode Y_Call_act.2.1 47 = .ok (.iload 4, 2) := by decide +kernel
theorem d_Call_act_49 : decode Y_Call_act.2.1 49 = .ok (.aaload, 1) := by decide +kernel
theorem d_Call_act_50 : decode Y_Call_act.2.1 50 = .ok (.invokevirtual 62, 3) := by decide +kernel
theorem d_Call_act_53 : decode Y_Call_act.2.1 53 = .ok (.return_, 1) := by decide +kernel
theorem g_Call_act_0 {l : Launch} {D : DD} {d kc ks : Nat} {h : Hp} {Φ : Option AV → Hp → Prop} {x0 : Nat} (hM : RS h) (v : xK h x0 = 6 ∧ (Ev l D Y_Run_drawT d 0 0 0 [some (vr 80), some (vr (xR h x0 4)), none, none, none] [] h (kr (fun r1 h1 => RS h1 ∧ ((¬ r1 = 0 → (xK h1 x0 = 6 ∧ (xK h1 x0 = 6 ∧ (Ev l D Y_G_find d 0 0 0 [some (vr 20), some (vr (xR h1 x0 4)), some (vi (xI h1 x0 5)), none] [] h1 (kr (fun r2 h2 => RS h2 ∧ (Ev l D Y_G_choose d 0 0 0 [some (vr 20), some (vr r1), some (vr r2), none, none] [] h2 (ki (fun r3 h3 => RS h3 ∧ ((r3 < 0 → (Φ none h3)) ∧ (r3 ≥ 0 → (0 ≤ r3 ∧ r3 < 48 ∧ (Ev l D Y_Run_run d 0 0 0 [some (vr 80), some (vr x0), some (vr (xR h3 22 (r3).toNat)), none] [] h3 (kv (fun h4 => RS h4 ∧ (Φ none h4)))))))))))))))) ∧ (r1 = 0 → (((-1 : Int) < 0 → (Φ none h1)) ∧ ((-1 : Int) ≥ 0 → (0 ≤ (-1 : Int) ∧ (-1 : Int) < 48 ∧ (Ev l D Y_Run_run d 0 0 0 [some (vr 80), some (vr x0), some (vr (xR h1 22 ((-1 : Int)).toNat)), none] [] h1 (kv (fun h5 => RS h5 ∧ (Φ none h5))))))))))))) : Ev l D Y_Call_act (d + 1) kc ks 0 [some (vr x0), some (vr 20), some (vr 80), none, none] [] h Φ := by
  refine a_aload_n d_Call_act_0 rfl ?_
  refine a_aload_n d_Call_act_1 rfl ?_
  obtain ⟨c1, v⟩ := v
  refine a_getR fl_Call_9 d_Call_act_2 (beq_iff_eq.mpr c1) ?_
  refine b_callV (as := [vr (xR h x0 4)]) (b := 80) (st := []) (kd := 2) (kc1 := 0) (ks1 := 0) (kc2 := kc) (ks2 := ks) (d' := d) ml_Call_56 rfl d_Call_act_5 rfl rfl (Nat.le_of_ble_eq_true rfl) (by decide) rfl (Nat.le_refl _) (by omega) (by omega) (KNR_80 hM) ?_
  refine Ev.mono v ?_
  intro u h1 v
  obtain ⟨r1, rfl, v⟩ := kr_el v
  obtain ⟨hm1, v⟩ := v
  change Ev l D Y_Call_act _ _ _ 8 [some (vr x0), some (vr 20), some (vr 80), none, none] [vr r1] _ _
  refine a_astore_n (L' := [some (vr x0), some (vr 20), some (vr 80), some (vr r1), none]) d_Call_act_8 (Nat.le_of_ble_eq_true rfl) rfl rfl ?_
  refine a_aload_n d_Call_act_9 rfl ?_
  obtain ⟨vt, vf⟩ := v
  refine a_ifnonnull (tgt := 17) d_Call_act_10 (by decide) (fun c => ?_) (fun c => ?_)
  · have v := vt (c); clear vt vf
    refine a_aload_n d_Call_act_17 rfl ?_
    refine a_aload_n d_Call_act_18 rfl ?_
    refine a_aload_n d_Call_act_19 rfl ?_
    refine a_aload_n d_Call_act_20 rfl ?_
    obtain ⟨c2, v⟩ := v
    refine a_getR fl_Call_9 d_Call_act_21 (beq_iff_eq.mpr c2) ?_
    refine a_aload_n d_Call_act_24 rfl ?_
    obtain ⟨c3, v⟩ := v
    refine a_getI fl_Call_15 d_Call_act_25 (beq_iff_eq.mpr c3) ?_
    refine b_callN (as := [vr (xR h1 x0 4), vi (xI h1 x0 5)]) (b := 20) (st := [vr r1, vr 20]) (kd := 1) (kc1 := 0) (ks1 := 0) (kc2 := kc) (ks2 := ks) (d' := d) ml_Call_19 rfl d_Call_act_28 rfl rfl (Nat.le_of_ble_eq_true rfl) (by decide) rfl (Nat.le_refl _) (by omega) (by omega) (KNR_20 hm1) ?_
    refine Ev.mono v ?_
    intro u h2 v
    obtain ⟨r2, rfl, v⟩ := kr_el v
    obtain ⟨hm2, v⟩ := v
    change Ev l D Y_Call_act _ _ _ 31 [some (vr x0), some (vr 20), some (vr 80), some (vr r1), none] [vr r2, vr r1, vr 20] _ _
    refine b_callN (as := [vr r1, vr r2]) (b := 20) (st := []) (kd := 1) (kc1 := 0) (ks1 := 0) (kc2 := kc) (ks2 := ks) (d' := d) ml_Call_40 rfl d_Call_act_31 rfl rfl (Nat.le_of_ble_eq_true rfl) (by decide) rfl (Nat.le_refl _) (by omega) (by omega) (KNR_20 hm2) ?_
    refine Ev.mono v ?_
    intro u h3 v
    obtain ⟨r3, rfl, v⟩ := ki_el v
    obtain ⟨hm3, v⟩ := v
    change Ev l D Y_Call_act _ _ _ 34 [some (vr x0), some (vr 20), some (vr 80), some (vr r1), none] [vi r3] _ _
    refine a_istore (L' := [some (vr x0), some (vr 20), some (vr 80), some (vr r1), some (vi r3)]) d_Call_act_34 (Nat.le_of_ble_eq_true rfl) rfl rfl ?_
    refine a_iload d_Call_act_36 rfl ?_
    obtain ⟨vt, vf⟩ := v
    refine a_if_lt (tgt := 53) d_Call_act_38 (by decide) (fun c => ?_) (fun c => ?_)
    · have v := vt (c); clear vt vf
      exact a_vret d_Call_act_53 rfl v
    · have v := vf (Int.not_lt.mp c); clear vt vf
      refine a_aload_n d_Call_act_41 rfl ?_
      refine a_aload_n d_Call_act_42 rfl ?_
      refine a_aload_n d_Call_act_43 rfl ?_
      refine a_getAeN fl_Call_44 d_Call_act_44 (beq_iff_eq.mpr (KNR_20 hm3)) (KRR_20_2 hm3) ?_
      refine a_iload d_Call_act_47 rfl ?_
      obtain ⟨c5, c6, v⟩ := v
      refine a_aald d_Call_act_49 ⟨by rw [KNR_22 hm3]; decide, by rw [KNR_22 hm3]; decide⟩ c5 (lt_len (NNR_22 hm3) c6) ?_
      refine b_callV (as := [vr x0, vr (xR h3 22 (r3).toNat)]) (b := 80) (st := []) (kd := 2) (kc1 := 0) (ks1 := 0) (kc2 := kc) (ks2 := ks) (d' := d) ml_Call_62 rfl d_Call_act_50 rfl rfl (Nat.le_of_ble_eq_true rfl) (by decide) rfl (Nat.le_refl _) (by omega) (by omega) (KNR_80 hm3) ?_
      refine Ev.mono v ?_
      intro u h4 v
      obtain ⟨rfl, v⟩ := kv_el v
      obtain ⟨hm4, v⟩ := v
      change Ev l D Y_Call_act _ _ _ 53 [some (vr x0), some (vr 20), some (vr 80), some (vr r1), some (vi r3)] [] _ _
      exact a_vret d_Call_act_53 rfl v
  · have v := vf (c); clear vt vf
    refine a_iconst d_Call_act_13 ⟨by decide, by decide⟩ ?_
    refine a_goto (tgt := 34) d_Call_act_14 (by decide) ?_
    refine a_istore (L' := [some (vr x0), some (vr 20), some (vr 80), some (vr r1), some (vi (-1 : Int))]) d_Call_act_34 (Nat.le_of_ble_eq_true rfl) rfl rfl ?_
    refine a_iload d_Call_act_36 rfl ?_
    obtain ⟨vt, vf⟩ := v
    refine a_if_lt (tgt := 53) d_Call_act_38 (by decide) (fun c => ?_) (fun c => ?_)
    · have v := vt (c); clear vt vf
      exact a_vret d_Call_act_53 rfl v
    · have v := vf (Int.not_lt.mp c); clear vt vf
      refine a_aload_n d_Call_act_41 rfl ?_
      refine a_aload_n d_Call_act_42 rfl ?_
      refine a_aload_n d_Call_act_43 rfl ?_
      refine a_getAeN fl_Call_44 d_Call_act_44 (beq_iff_eq.mpr (KNR_20 hm1)) (KRR_20_2 hm1) ?_
      refine a_iload d_Call_act_47 rfl ?_
      obtain ⟨c11, c12, v⟩ := v
      refine a_aald d_Call_act_49 ⟨by rw [KNR_22 hm1]; decide, by rw [KNR_22 hm1]; decide⟩ c11 (lt_len (NNR_22 hm1) c12) ?_
      refine b_callV (as := [vr x0, vr (xR h1 22 ((-1 : Int)).toNat)]) (b := 80) (st := []) (kd := 2) (kc1 := 0) (ks1 := 0) (kc2 := kc) (ks2 := ks) (d' := d) ml_Call_62 rfl d_Call_act_50 rfl rfl (Nat.le_of_ble_eq_true rfl) (by decide) rfl (Nat.le_refl _) (by omega) (by omega) (KNR_80 hm1) ?_
      refine Ev.mono v ?_
      intro u h5 v
      obtain ⟨rfl, v⟩ := kv_el v
      obtain ⟨hm5, v⟩ := v
      change Ev l D Y_Call_act _ _ _ 53 [some (vr x0), some (vr 20), some (vr 80), some (vr r1), some (vi (-1 : Int))] [] _ _
      exact a_vret d_Call_act_53 rfl v
