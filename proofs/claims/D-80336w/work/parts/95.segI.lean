theorem d_G_init_0 : decode Y_G_init.2.1 0 = .ok (.aload_n 0, 1) := by decide +kernel
theorem d_G_init_1 : decode Y_G_init.2.1 1 = .ok (.invokespecial 1, 3) := by decide +kernel
theorem d_G_init_4 : decode Y_G_init.2.1 4 = .ok (.aload_n 0, 1) := by decide +kernel
theorem d_G_init_5 : decode Y_G_init.2.1 5 = .ok (.bipush 16, 2) := by decide +kernel
theorem d_G_init_7 : decode Y_G_init.2.1 7 = .ok (.anewarray 9, 3) := by decide +kernel
theorem d_G_init_10 : decode Y_G_init.2.1 10 = .ok (.putfield 11, 3) := by decide +kernel
theorem d_G_init_13 : decode Y_G_init.2.1 13 = .ok (.aload_n 0, 1) := by decide +kernel
theorem d_G_init_14 : decode Y_G_init.2.1 14 = .ok (.bipush 48, 2) := by decide +kernel
theorem d_G_init_16 : decode Y_G_init.2.1 16 = .ok (.anewarray 15, 3) := by decide +kernel
theorem d_G_init_19 : decode Y_G_init.2.1 19 = .ok (.putfield 17, 3) := by decide +kernel
theorem d_G_init_22 : decode Y_G_init.2.1 22 = .ok (.aload_n 0, 1) := by decide +kernel
theorem d_G_init_23 : decode Y_G_init.2.1 23 = .ok (.bipush 16, 2) := by decide +kernel
theorem d_G_init_25 : decode Y_G_init.2.1 25 = .ok (.newarray .boolean, 2) := by decide +kernel
theorem d_G_init_27 : decode Y_G_init.2.1 27 = .ok (.putfield 21, 3) := by decide +kernel
theorem d_G_init_30 : decode Y_G_init.2.1 30 = .ok (.aload_n 0, 1) := by decide +kernel
theorem d_G_init_31 : decode Y_G_init.2.1 31 = .ok (.bipush 16, 2) := by decide +kernel
theorem d_G_init_33 : decode Y_G_init.2.1 33 = .ok (.newarray .boolean, 2) := by decide +kernel
theorem d_G_init_35 : decode Y_G_init.2.1 35 = .ok (.putfield 25, 3) := by decide +kernel
theorem d_G_init_38 : decode Y_G_init.2.1 38 = .ok (.aload_n 0, 1) := by decide +kernel
theorem d_G_init_39 : decode Y_G_init.2.1 39 = .ok (.iconst 4, 1) := by decide +kernel
theorem d_G_init_40 : decode Y_G_init.2.1 40 = .ok (.bipush 48, 2) := by decide +kernel
theorem d_G_init_42 : decode Y_G_init.2.1 42 = .ok (.multianewarray 28 2, 4) := by decide +kernel
theorem d_G_init_46 : decode Y_G_init.2.1 46 = .ok (.putfield 30, 3) := by decide +kernel
theorem d_G_init_49 : decode Y_G_init.2.1 49 = .ok (.aload_n 0, 1) := by decide +kernel
theorem d_G_init_50 : decode Y_G_init.2.1 50 = .ok (.bipush 48, 2) := by decide +kernel
theorem d_G_init_52 : decode Y_G_init.2.1 52 = .ok (.bipush 48, 2) := by decide +kernel
theorem d_G_init_54 : decode Y_G_init.2.1 54 = .ok (.multianewarray 28 2, 4) := by decide +kernel
theorem d_G_init_58 : decode Y_G_init.2.1 58 = .ok (.putfield 33, 3) := by decide +kernel
theorem d_G_init_61 : decode Y_G_init.2.1 61 = .ok (.aload_n 0, 1) := by decide +kernel
theorem d_G_init_62 : decode Y_G_init.2.1 62 = .ok (.new 36, 3) := by decide +kernel
theorem d_G_init_65 : decode Y_G_init.2.1 65 = .ok (.dup, 1) := by decide +kernel
theorem d_G_init_66 : decode Y_G_init.2.1 66 = .ok (.invokespecial 38, 3) := by decide +kernel
theorem d_G_init_69 : decode Y_G_init.2.1 69 = .ok (.putfield 39, 3) := by decide +kernel
theorem d_G_init_72 : decode Y_G_init.2.1 72 = .ok (.aload_n 0, 1) := by decide +kernel
theorem d_G_init_73 : decode Y_G_init.2.1 73 = .ok (.bipush 48, 2) := by decide +kernel
theorem d_G_init_75 : decode Y_G_init.2.1 75 = .ok (.newarray .int, 2) := by decide +kernel
theorem d_G_init_77 : decode Y_G_init.2.1 77 = .ok (.putfield 43, 3) := by decide +kernel
theorem d_G_init_80 : decode Y_G_init.2.1 80 = .ok (.return_, 1) := by decide +kernel
theorem s_G_init_0 {l : Launch} {D : DD} {d kc ks : Nat} {h : Hp} {Φ : Option AV → Hp → Prop} {x0 : Nat} (v : ¬ xK h x0 = 0 ∧ (∃ a1 : Nat, 16 ≤ a1 ∧ xK h a1 = 0 ∧ (∀ h1 : Hp, h1 = nw h a1 22 ((16 : Int)).toNat → (xK h1 x0 = 1 ∧ 16 ≤ x0 ∧ (∀ h2 : Hp, h2 = sR h1 x0 0 a1 → (∃ a2 : Nat, 16 ≤ a2 ∧ xK h2 a2 = 0 ∧ (∀ h3 : Hp, h3 = nw h2 a2 23 ((48 : Int)).toNat → (xK h3 x0 = 1 ∧ 16 ≤ x0 ∧ (∀ h4 : Hp, h4 = sR h3 x0 2 a2 → (∃ a3 : Nat, 16 ≤ a3 ∧ xK h4 a3 = 0 ∧ (∀ h5 : Hp, h5 = nw h4 a3 21 ((16 : Int)).toNat → (xK h5 x0 = 1 ∧ 16 ≤ x0 ∧ (∀ h6 : Hp, h6 = sR h5 x0 9 a3 → (∃ a4 : Nat, 16 ≤ a4 ∧ xK h6 a4 = 0 ∧ (∀ h7 : Hp, h7 = nw h6 a4 21 ((16 : Int)).toNat → (xK h7 x0 = 1 ∧ 16 ≤ x0 ∧ (∀ h8 : Hp, h8 = sR h7 x0 10 a4 → (∃ a5 : Nat, 16 ≤ a5 ∧ (∀ j : Nat, j ≤ 4 → xK h8 (a5 + j) = 0) ∧ (∀ h9 : Hp, h9 = grid h8 a5 4 48 → (xK h9 x0 = 1 ∧ 16 ≤ x0 ∧ (∀ h10 : Hp, h10 = sR h9 x0 11 a5 → (∃ a6 : Nat, 16 ≤ a6 ∧ (∀ j : Nat, j ≤ 48 → xK h10 (a6 + j) = 0) ∧ (∀ h11 : Hp, h11 = grid h10 a6 48 48 → (xK h11 x0 = 1 ∧ 16 ≤ x0 ∧ (∀ h12 : Hp, h12 = sR h11 x0 12 a6 → (∃ a7 : Nat, 16 ≤ a7 ∧ xK h12 a7 = 0 ∧ (∀ h13 : Hp, h13 = nw h12 a7 2 0 → (¬ xK h13 a7 = 0 ∧ Ev l D Y_Run_init d 5 280 0 [some (vr a7)] [] h13 (kv (fun h14 => xK h14 x0 = 1 ∧ 16 ≤ x0 ∧ (∀ h15 : Hp, h15 = sR h14 x0 13 a7 → (∃ a8 : Nat, 16 ≤ a8 ∧ xK h15 a8 = 0 ∧ (∀ h16 : Hp, h16 = nw h15 a8 20 ((48 : Int)).toNat → (xK h16 x0 = 1 ∧ 16 ≤ x0 ∧ (∀ h17 : Hp, h17 = sR h16 x0 14 a8 → (Φ none h17)))))))))))))))))))))))))))))))))))) : Ev l D Y_G_init (d + 1) (kc + 65) (ks + 2985) 0 [some (vr x0)] [] h Φ := by
  refine a_aload_n d_G_init_0 rfl ?_
  obtain ⟨c1, v⟩ := v
  refine a_objInit d_G_init_1 ml_G_1 oi_inst oi_code rfl (by omega) c1 ?_
  refine a_aload_n d_G_init_4 rfl ?_
  refine a_bipush d_G_init_5 ⟨by decide, by decide⟩ (by decide) ?_
  obtain ⟨a1, c2, c3, v⟩ := v
  have v := v _ rfl
  refine a_anew (kd := 22) (kc' := kc + 64) (ks' := ks + 2969) a1 d_G_init_7 (by decide) cl_G_9 ao_Type (by decide) (by omega) (by show _ + 16 ≤ _; omega) c2 c3 ?_
  obtain ⟨c4, c5, v⟩ := v
  have v := v _ rfl
  refine a_putAF fl_G_11 rfl (dc1 rfl) d_G_init_10 (beq_iff_eq.mpr c4) c5 ?_
  refine a_aload_n d_G_init_13 rfl ?_
  refine a_bipush d_G_init_14 ⟨by decide, by decide⟩ (by decide) ?_
  obtain ⟨a2, c6, c7, v⟩ := v
  have v := v _ rfl
  refine a_anew (kd := 23) (kc' := kc + 63) (ks' := ks + 2921) a2 d_G_init_16 (by decide) cl_G_15 ao_Member (by decide) (by omega) (by show _ + 48 ≤ _; omega) c6 c7 ?_
  obtain ⟨c8, c9, v⟩ := v
  have v := v _ rfl
  refine a_putAF fl_G_17 rfl (dc1 rfl) d_G_init_19 (beq_iff_eq.mpr c8) c9 ?_
  refine a_aload_n d_G_init_22 rfl ?_
  refine a_bipush d_G_init_23 ⟨by decide, by decide⟩ (by decide) ?_
  obtain ⟨a3, c10, c11, v⟩ := v
  have v := v _ rfl
  refine a_newarr (kd := 21) (kc' := kc + 62) (ks' := ks + 2905) a3 d_G_init_25 (by decide) rfl ac_boolean (by decide) (by omega) (by show _ + 16 ≤ _; omega) c10 c11 ?_
  obtain ⟨c12, c13, v⟩ := v
  have v := v _ rfl
  refine a_putAF fl_G_21 rfl (dc1 rfl) d_G_init_27 (beq_iff_eq.mpr c12) c13 ?_
  refine a_aload_n d_G_init_30 rfl ?_
  refine a_bipush d_G_init_31 ⟨by decide, by decide⟩ (by decide) ?_
  obtain ⟨a4, c14, c15, v⟩ := v
  have v := v _ rfl
  refine a_newarr (kd := 21) (kc' := kc + 61) (ks' := ks + 2889) a4 d_G_init_33 (by decide) rfl ac_boolean (by decide) (by omega) (by show _ + 16 ≤ _; omega) c14 c15 ?_
  obtain ⟨c16, c17, v⟩ := v
  have v := v _ rfl
  refine a_putAF fl_G_25 rfl (dc1 rfl) d_G_init_35 (beq_iff_eq.mpr c16) c17 ?_
  refine a_aload_n d_G_init_38 rfl ?_
  refine a_iconst d_G_init_39 ⟨by decide, by decide⟩ ?_
  refine a_bipush d_G_init_40 ⟨by decide, by decide⟩ (by decide) ?_
  obtain ⟨a5, c18, c19, v⟩ := v
  have v := v _ rfl
  refine a_mna (n := 4) (m := 48) (kc' := kc + 56) (ks' := ks + 2693) a5 d_G_init_42 cl_G_28 (by decide) (by decide) (by show _ + (1 + 4) ≤ _; omega) (by show _ + (4 + 4 * 48) ≤ _; omega) c18 c19 ?_
  obtain ⟨c20, c21, v⟩ := v
  have v := v _ rfl
  refine a_putAF fl_G_30 rfl (dc1 rfl) d_G_init_46 (beq_iff_eq.mpr c20) c21 ?_
  refine a_aload_n d_G_init_49 rfl ?_
  refine a_bipush d_G_init_50 ⟨by decide, by decide⟩ (by decide) ?_
  refine a_bipush d_G_init_52 ⟨by decide, by decide⟩ (by decide) ?_
  obtain ⟨a6, c22, c23, v⟩ := v
  have v := v _ rfl
  refine a_mna (n := 48) (m := 48) (kc' := kc + 7) (ks' := ks + 341) a6 d_G_init_54 cl_G_28 (by decide) (by decide) (by show _ + (1 + 48) ≤ _; omega) (by show _ + (48 + 48 * 48) ≤ _; omega) c22 c23 ?_
  obtain ⟨c24, c25, v⟩ := v
  have v := v _ rfl
  refine a_putAF fl_G_33 rfl (dc1 rfl) d_G_init_58 (beq_iff_eq.mpr c24) c25 ?_
  refine a_aload_n d_G_init_61 rfl ?_
  obtain ⟨a7, c26, c27, v⟩ := v
  have v := v _ rfl
  refine a_new (kd := 2) (kc' := kc + 6) (ks' := ks + 328) a7 d_G_init_62 (by decide) cl_G_36 (by omega) (nfle (n := 13) rfl (by omega)) c26 c27 ?_
  refine a_dup d_G_init_65 rfl ?_
  obtain ⟨c34, v⟩ := v
  refine b_callJ (as := []) (b := a7) (st := [vr a7, vr x0]) (kc1 := 5) (ks1 := 280) (kc2 := kc + 1) (ks2 := ks + 48) (d' := d) ml_G_38 rfl d_G_init_66 rfl rfl (Nat.le_of_ble_eq_true rfl) rfl (Nat.le_refl _) (by omega) (by omega) c34 ?_
  refine Ev.mono v ?_
  intro u h14 v
  obtain ⟨rfl, v⟩ := kv_el v
  change Ev l D Y_G_init _ _ _ 69 [some (vr x0)] [vr a7, vr x0] _ _
  obtain ⟨c28, c29, v⟩ := v
  have v := v _ rfl
  refine a_putRF fl_G_39 rfl (dc1 rfl) d_G_init_69 (beq_iff_eq.mpr c28) c29 ?_
  refine a_aload_n d_G_init_72 rfl ?_
  refine a_bipush d_G_init_73 ⟨by decide, by decide⟩ (by decide) ?_
  obtain ⟨a8, c30, c31, v⟩ := v
  have v := v _ rfl
  refine a_newarr (kd := 20) (kc' := kc) (ks' := ks) a8 d_G_init_75 (by decide) rfl ac_int (by decide) (by omega) (by show _ + 48 ≤ _; omega) c30 c31 ?_
  obtain ⟨c32, c33, v⟩ := v
  have v := v _ rfl
  refine a_putAF fl_G_43 rfl (dc1 rfl) d_G_init_77 (beq_iff_eq.mpr c32) c33 ?_
  exact a_vret d_G_init_80 rfl v
theorem d_M_init_0 : decode Y_M_init.2.1 0 = .ok (.aload_n 0, 1) := by decide +kernel
theorem d_M_init_1 : decode Y_M_init.2.1 1 = .ok (.invokespecial 1, 3) := by decide +kernel
theorem d_M_init_4 : decode Y_M_init.2.1 4 = .ok (.aload_n 0, 1) := by decide +kernel
theorem d_M_init_5 : decode Y_M_init.2.1 5 = .ok (.bipush 16, 2) := by decide +kernel
theorem d_M_init_7 : decode Y_M_init.2.1 7 = .ok (.newarray .int, 2) := by decide +kernel
theorem d_M_init_9 : decode Y_M_init.2.1 9 = .ok (.putfield 7, 3) := by decide +kernel
theorem d_M_init_12 : decode Y_M_init.2.1 12 = .ok (.aload_n 0, 1) := by decide +kernel
theorem d_M_init_13 : decode Y_M_init.2.1 13 = .ok (.bipush 16, 2) := by decide +kernel
theorem d_M_init_15 : decode Y_M_init.2.1 15 = .ok (.newarray .int, 2) := by decide +kernel
theorem d_M_init_17 : decode Y_M_init.2.1 17 = .ok (.putfield 13, 3) := by decide +kernel
theorem d_M_init_20 : decode Y_M_init.2.1 20 = .ok (.aload_n 0, 1) := by decide +kernel
theorem d_M_init_21 : decode Y_M_init.2.1 21 = .ok (.bipush 16, 2) := by decide +kernel
theorem d_M_init_23 : decode Y_M_init.2.1 23 = .ok (.newarray .int, 2) := by decide +kernel
theorem d_M_init_25 : decode Y_M_init.2.1 25 = .ok (.putfield 16, 3) := by decide +kernel
theorem d_M_init_28 : decode Y_M_init.2.1 28 = .ok (.aload_n 0, 1) := by decide +kernel
theorem d_M_init_29 : decode Y_M_init.2.1 29 = .ok (.bipush 48, 2) := by decide +kernel
theorem d_M_init_31 : decode Y_M_init.2.1 31 = .ok (.newarray .int, 2) := by decide +kernel
theorem d_M_init_33 : decode Y_M_init.2.1 33 = .ok (.putfield 19, 3) := by decide +kernel
theorem d_M_init_36 : decode Y_M_init.2.1 36 = .ok (.aload_n 0, 1) := by decide +kernel
theorem d_M_init_37 : decode Y_M_init.2.1 37 = .ok (.bipush 48, 2) := by decide +kernel
theorem d_M_init_39 : decode Y_M_init.2.1 39 = .ok (.newarray .int, 2) := by decide +kernel
theorem d_M_init_41 : decode Y_M_init.2.1 41 = .ok (.putfield 22, 3) := by decide +kernel
theorem d_M_init_44 : decode Y_M_init.2.1 44 = .ok (.aload_n 0, 1) := by decide +kernel
theorem d_M_init_45 : decode Y_M_init.2.1 45 = .ok (.bipush 48, 2) := by decide +kernel
theorem d_M_init_47 : decode Y_M_init.2.1 47 = .ok (.newarray .int, 2) := by decide +kernel
theorem d_M_init_49 : decode Y_M_init.2.1 49 = .ok (.putfield 25, 3) := by decide +kernel
theorem d_M_init_52 : decode Y_M_init.2.1 52 = .ok (.aload_n 0, 1) := by decide +kernel
theorem d_M_init_53 : decode Y_M_init.2.1 53 = .ok (.bipush 48, 2) := by decide +kernel
theorem d_M_init_55 : decode Y_M_init.2.1 55 = .ok (.newarray .int, 2) := by decide +kernel
theorem d_M_init_57 : decode Y_M_init.2.1 57 = .ok (.putfield 28, 3) := by decide +kernel
theorem d_M_init_60 : decode Y_M_init.2.1 60 = .ok (.aload_n 0, 1) := by decide +kernel
theorem d_M_init_61 : decode Y_M_init.2.1 61 = .ok (.bipush 48, 2) := by decide +kernel
theorem d_M_init_63 : decode Y_M_init.2.1 63 = .ok (.newarray .boolean, 2) := by decide +kernel
theorem d_M_init_65 : decode Y_M_init.2.1 65 = .ok (.putfield 31, 3) := by decide +kernel
theorem d_M_init_68 : decode Y_M_init.2.1 68 = .ok (.aload_n 0, 1) := by decide +kernel
theorem d_M_init_69 : decode Y_M_init.2.1 69 = .ok (.bipush 48, 2) := by decide +kernel
theorem d_M_init_71 : decode Y_M_init.2.1 71 = .ok (.newarray .int, 2) := by decide +kernel
theorem d_M_init_73 : decode Y_M_init.2.1 73 = .ok (.putfield 35, 3) := by decide +kernel
theorem d_M_init_76 : decode Y_M_init.2.1 76 = .ok (.aload_n 0, 1) := by decide +kernel
theorem d_M_init_77 : decode Y_M_init.2.1 77 = .ok (.sipush 1152, 3) := by decide +kernel
theorem d_M_init_80 : decode Y_M_init.2.1 80 = .ok (.newarray .int, 2) := by decide +kernel
theorem d_M_init_82 : decode Y_M_init.2.1 82 = .ok (.putfield 38, 3) := by decide +kernel
theorem d_M_init_85 : decode Y_M_init.2.1 85 = .ok (.aload_n 0, 1) := by decide +kernel
theorem d_M_init_86 : decode Y_M_init.2.1 86 = .ok (.sipush 160, 3) := by decide +kernel
theorem d_M_init_89 : decode Y_M_init.2.1 89 = .ok (.newarray .int, 2) := by decide +kernel
theorem d_M_init_91 : decode Y_M_init.2.1 91 = .ok (.putfield 41, 3) := by decide +kernel
theorem d_M_init_94 : decode Y_M_init.2.1 94 = .ok (.aload_n 0, 1) := by decide +kernel
theorem d_M_init_95 : decode Y_M_init.2.1 95 = .ok (.sipush 160, 3) := by decide +kernel
theorem d_M_init_98 : decode Y_M_init.2.1 98 = .ok (.newarray .int, 2) := by decide +kernel
theorem d_M_init_100 : decode Y_M_init.2.1 100 = .ok (.putfield 44, 3) := by decide +kernel
theorem d_M_init_103 : decode Y_M_init.2.1 103 = .ok (.aload_n 0, 1) := by decide +kernel
theorem d_M_init_104 : decode Y_M_init.2.1 104 = .ok (.sipush 160, 3) := by decide +kernel
theorem d_M_init_107 : decode Y_M_init.2.1 107 = .ok (.newarray .int, 2) := by decide +kernel
theorem d_M_init_109 : decode Y_M_init.2.1 109 = .ok (.putfield 47, 3) := by decide +kernel
theorem d_M_init_112 : decode Y_M_init.2.1 112 = .ok (.aload_n 0, 1) := by decide +kernel
theorem d_M_init_113 : decode Y_M_init.2.1 113 = .ok (.bipush 48, 2) := by decide +kernel
theorem d_M_init_115 : decode Y_M_init.2.1 115 = .ok (.newarray .boolean, 2) := by decide +kernel
theorem d_M_init_117 : decode Y_M_init.2.1 117 = .ok (.putfield 50, 3) := by decide +kernel
theorem d_M_init_120 : decode Y_M_init.2.1 120 = .ok (.aload_n 0, 1) := by decide +kernel
theorem d_M_init_121 : decode Y_M_init.2.1 121 = .ok (.bipush 16, 2) := by decide +kernel
theorem d_M_init_123 : decode Y_M_init.2.1 123 = .ok (.newarray .boolean, 2) := by decide +kernel
theorem d_M_init_125 : decode Y_M_init.2.1 125 = .ok (.putfield 53, 3) := by decide +kernel
theorem d_M_init_128 : decode Y_M_init.2.1 128 = .ok (.aload_n 0, 1) := by decide +kernel
theorem d_M_init_129 : decode Y_M_init.2.1 129 = .ok (.bipush 16, 2) := by decide +kernel
theorem d_M_init_131 : decode Y_M_init.2.1 131 = .ok (.newarray .boolean, 2) := by decide +kernel
theorem d_M_init_133 : decode Y_M_init.2.1 133 = .ok (.putfield 56, 3) := by decide +kernel
theorem d_M_init_136 : decode Y_M_init.2.1 136 = .ok (.aload_n 0, 1) := by decide +kernel
theorem d_M_init_137 : decode Y_M_init.2.1 137 = .ok (.sipush 192, 3) := by decide +kernel
theorem d_M_init_140 : decode Y_M_init.2.1 140 = .ok (.newarray .boolean, 2) := by decide +kernel
theorem d_M_init_142 : decode Y_M_init.2.1 142 = .ok (.putfield 59, 3) := by decide +kernel
theorem d_M_init_145 : decode Y_M_init.2.1 145 = .ok (.aload_n 0, 1) := by decide +kernel
theorem d_M_init_146 : decode Y_M_init.2.1 146 = .ok (.sipush 7680, 3) := by decide +kernel
theorem d_M_init_149 : decode Y_M_init.2.1 149 = .ok (.newarray .boolean, 2) := by decide +kernel
theorem d_M_init_151 : decode Y_M_init.2.1 151 = .ok (.putfield 62, 3) := by decide +kernel
theorem d_M_init_154 : decode Y_M_init.2.1 154 = .ok (.aload_n 0, 1) := by decide +kernel
theorem d_M_init_155 : decode Y_M_init.2.1 155 = .ok (.sipush 640, 3) := by decide +kernel
theorem d_M_init_158 : decode Y_M_init.2.1 158 = .ok (.newarray .int, 2) := by decide +kernel
theorem d_M_init_160 : decode Y_M_init.2.1 160 = .ok (.putfield 65, 3) := by decide +kernel
theorem d_M_init_163 : decode Y_M_init.2.1 163 = .ok (.aload_n 0, 1) := by decide +kernel
theorem d_M_init_164 : decode Y_M_init.2.1 164 = .ok (.bipush 16, 2) := by decide +kernel
theorem d_M_init_166 : decode Y_M_init.2.1 166 = .ok (.newarray .boolean, 2) := by decide +kernel
theorem d_M_init_168 : decode Y_M_init.2.1 168 = .ok (.putfield 68, 3) := by decide +kernel
theorem d_M_init_171 : decode Y_M_init.2.1 171 = .ok (.aload_n 0, 1) := by decide +kernel
theorem d_M_init_172 : decode Y_M_init.2.1 172 = .ok (.sipush 256, 3) := by decide +kernel
theorem d_M_init_175 : decode Y_M_init.2.1 175 = .ok (.newarray .boolean, 2) := by decide +kernel
theorem d_M_init_177 : decode Y_M_init.2.1 177 = .ok (.putfield 71, 3) := by decide +kernel
theorem d_M_init_180 : decode Y_M_init.2.1 180 = .ok (.aload_n 0, 1) := by decide +kernel
theorem d_M_init_181 : decode Y_M_init.2.1 181 = .ok (.bipush 48, 2) := by decide +kernel
theorem d_M_init_183 : decode Y_M_init.2.1 183 = .ok (.newarray .boolean, 2) := by decide +kernel
theorem d_M_init_185 : decode Y_M_init.2.1 185 = .ok (.putfield 74, 3) := by decide +kernel
theorem d_M_init_188 : decode Y_M_init.2.1 188 = .ok (.aload_n 0, 1) := by decide +kernel
theorem d_M_init_189 : decode Y_M_init.2.1 189 = .ok (.bipush 16, 2) := by decide +kernel
theorem d_M_init_191 : decode Y_M_init.2.1 191 = .ok (.newarray .boolean, 2) := by decide +kernel
theorem d_M_init_193 : decode Y_M_init.2.1 193 = .ok (.putfield 77, 3) := by decide +kernel
theorem d_M_init_196 : decode Y_M_init.2.1 196 = .ok (.aload_n 0, 1) := by decide +kernel
theorem d_M_init_197 : decode Y_M_init.2.1 197 = .ok (.bipush 16, 2) := by decide +kernel
theorem d_M_init_199 : decode Y_M_init.2.1 199 = .ok (.newarray .boolean, 2) := by decide +kernel
theorem d_M_init_201 : decode Y_M_init.2.1 201 = .ok (.putfield 80, 3) := by decide +kernel
theorem d_M_init_204 : decode Y_M_init.2.1 204 = .ok (.aload_n 0, 1) := by decide +kernel
theorem d_M_init_205 : decode Y_M_init.2.1 205 = .ok (.sipush 2304, 3) := by decide +kernel
theorem d_M_init_208 : decode Y_M_init.2.1 208 = .ok (.newarray .boolean, 2) := by decide +kernel
theorem d_M_init_210 : decode Y_M_init.2.1 210 = .ok (.putfield 83, 3) := by decide +kernel
theorem d_M_init_213 : decode Y_M_init.2.1 213 = .ok (.aload_n 0, 1) := by decide +kernel
theorem d_M_init_214 : decode Y_M_init.2.1 214 = .ok (.sipush 2304, 3) := by decide +kernel
theorem d_M_init_217 : decode Y_M_init.2.1 217 = .ok (.newarray .boolean, 2) := by decide +kernel
theorem d_M_init_219 : decode Y_M_init.2.1 219 = .ok (.putfield 86, 3) := by decide +kernel
theorem d_M_init_222 : decode Y_M_init.2.1 222 = .ok (.aload_n 0, 1) := by decide +kernel
theorem d_M_init_223 : decode Y_M_init.2.1 223 = .ok (.bipush 48, 2) := by decide +kernel
theorem d_M_init_225 : decode Y_M_init.2.1 225 = .ok (.newarray .int, 2) := by decide +kernel
theorem d_M_init_227 : decode Y_M_init.2.1 227 = .ok (.putfield 89, 3) := by decide +kernel
theorem d_M_init_230 : decode Y_M_init.2.1 230 = .ok (.aload_n 0, 1) := by decide +kernel
theorem d_M_init_231 : decode Y_M_init.2.1 231 = .ok (.sipush 1000, 3) := by decide +kernel
theorem d_M_init_234 : decode Y_M_init.2.1 234 = .ok (.newarray .int, 2) := by decide +kernel
theorem d_M_init_236 : decode Y_M_init.2.1 236 = .ok (.putfield 92, 3) := by decide +kernel
theorem d_M_init_239 : decode Y_M_init.2.1 239 = .ok (.aload_n 0, 1) := by decide +kernel
theorem d_M_init_240 : decode Y_M_init.2.1 240 = .ok (.sipush 1000, 3) := by decide +kernel
theorem d_M_init_243 : decode Y_M_init.2.1 243 = .ok (.newarray .int, 2) := by decide +kernel
theorem d_M_init_245 : decode Y_M_init.2.1 245 = .ok (.putfield 95, 3) := by decide +kernel
theorem d_M_init_248 : decode Y_M_init.2.1 248 = .ok (.aload_n 0, 1) := by decide +kernel
theorem d_M_init_249 : decode Y_M_init.2.1 249 = .ok (.sipush 1000, 3) := by decide +kernel
theorem d_M_init_252 : decode Y_M_init.2.1 252 = .ok (.newarray .int, 2) := by decide +kernel
theorem d_M_init_254 : decode Y_M_init.2.1 254 = .ok (.putfield 98, 3) := by decide +kernel
theorem d_M_init_257 : decode Y_M_init.2.1 257 = .ok (.aload_n 0, 1) := by decide +kernel
theorem d_M_init_258 : decode Y_M_init.2.1 258 = .ok (.sipush 1000, 3) := by decide +kernel
theorem d_M_init_261 : decode Y_M_init.2.1 261 = .ok (.newarray .int, 2) := by decide +kernel
theorem d_M_init_263 : decode Y_M_init.2.1 263 = .ok (.putfield 101, 3) := by decide +kernel
theorem d_M_init_266 : decode Y_M_init.2.1 266 = .ok (.aload_n 0, 1) := by decide +kernel
theorem d_M_init_267 : decode Y_M_init.2.1 267 = .ok (.bipush 48, 2) := by decide +kernel
theorem d_M_init_269 : decode Y_M_init.2.1 269 = .ok (.newarray .boolean, 2) := by decide +kernel
theorem d_M_init_271 : decode Y_M_init.2.1 271 = .ok (.putfield 104, 3) := by decide +kernel
theorem d_M_init_274 : decode Y_M_init.2.1 274 = .ok (.aload_n 0, 1) := by decide +kernel
theorem d_M_init_275 : decode Y_M_init.2.1 275 = .ok (.bipush 16, 2) := by decide +kernel
theorem d_M_init_277 : decode Y_M_init.2.1 277 = .ok (.newarray .boolean, 2) := by decide +kernel
theorem d_M_init_279 : decode Y_M_init.2.1 279 = .ok (.putfield 107, 3) := by decide +kernel
theorem d_M_init_282 : decode Y_M_init.2.1 282 = .ok (.aload_n 0, 1) := by decide +kernel
theorem d_M_init_283 : decode Y_M_init.2.1 283 = .ok (.bipush 20, 2) := by decide +kernel
theorem d_M_init_285 : decode Y_M_init.2.1 285 = .ok (.newarray .int, 2) := by decide +kernel
theorem d_M_init_287 : decode Y_M_init.2.1 287 = .ok (.putfield 110, 3) := by decide +kernel
theorem d_M_init_290 : decode Y_M_init.2.1 290 = .ok (.aload_n 0, 1) := by decide +kernel
theorem d_M_init_291 : decode Y_M_init.2.1 291 = .ok (.sipush 192, 3) := by decide +kernel
theorem d_M_init_294 : decode Y_M_init.2.1 294 = .ok (.newarray .int, 2) := by decide +kernel
theorem d_M_init_296 : decode Y_M_init.2.1 296 = .ok (.putfield 113, 3) := by decide +kernel
theorem d_M_init_299 : decode Y_M_init.2.1 299 = .ok (.aload_n 0, 1) := by decide +kernel
theorem d_M_init_300 : decode Y_M_init.2.1 300 = .ok (.iconst 4, 1) := by decide +kernel
theorem d_M_init_301 : decode Y_M_init.2.1 301 = .ok (.newarray .int, 2) := by decide +kernel
theorem d_M_init_303 : decode Y_M_init.2.1 303 = .ok (.putfield 116, 3) := by decide +kernel
theorem d_M_init_306 : decode Y_M_init.2.1 306 = .ok (.aload_n 0, 1) := by decide +kernel
theorem d_M_init_307 : decode Y_M_init.2.1 307 = .ok (.iconst 0, 1) := by decide +kernel
theorem d_M_init_308 : decode Y_M_init.2.1 308 = .ok (.putfield 119, 3) := by decide +kernel
theorem d_M_init_311 : decode Y_M_init.2.1 311 = .ok (.return_, 1) := by decide +kernel
theorem s_M_init_0 {l : Launch} {D : DD} {d kc ks : Nat} {h : Hp} {Φ : Option AV → Hp → Prop} {x0 : Nat} (v : ¬ xK h x0 = 0 ∧ (∃ a1 : Nat, 16 ≤ a1 ∧ xK h a1 = 0 ∧ (∀ h1 : Hp, h1 = nw h a1 20 ((16 : Int)).toNat → (xK h1 x0 = 12 ∧ 16 ≤ x0 ∧ (∀ h2 : Hp, h2 = sR h1 x0 1 a1 → (Ev l D Y_M_init (d + 1) (kc + 35) (ks + 19832) 12 [some (vr x0)] [] h2 Φ)))))) : Ev l D Y_M_init (d + 1) (kc + 36) (ks + 19848) 0 [some (vr x0)] [] h Φ := by
  refine a_aload_n d_M_init_0 rfl ?_
  obtain ⟨c1, v⟩ := v
  refine a_objInit d_M_init_1 ml_M_1 oi_inst oi_code rfl (by omega) c1 ?_
  refine a_aload_n d_M_init_4 rfl ?_
  refine a_bipush d_M_init_5 ⟨by decide, by decide⟩ (by decide) ?_
  obtain ⟨a1, c2, c3, v⟩ := v
  have v := v _ rfl
  refine a_newarr (kd := 20) (kc' := kc + 35) (ks' := ks + 19832) a1 d_M_init_7 (by decide) rfl ac_int (by decide) (by omega) (by show _ + 16 ≤ _; omega) c2 c3 ?_
  obtain ⟨c4, c5, v⟩ := v
  have v := v _ rfl
  refine a_putAF fl_M_7 rfl (dc1 rfl) d_M_init_9 (beq_iff_eq.mpr c4) c5 ?_
  exact v
theorem s_M_init_12 {l : Launch} {D : DD} {d kc ks : Nat} {h : Hp} {Φ : Option AV → Hp → Prop} {x0 : Nat} (v : ∃ a1 : Nat, 16 ≤ a1 ∧ xK h a1 = 0 ∧ (∀ h1 : Hp, h1 = nw h a1 20 ((16 : Int)).toNat → (xK h1 x0 = 12 ∧ 16 ≤ x0 ∧ (∀ h2 : Hp, h2 = sR h1 x0 2 a1 → (Ev l D Y_M_init (d + 1) (kc + 34) (ks + 19816) 20 [some (vr x0)] [] h2 Φ))))) : Ev l D Y_M_init (d + 1) (kc + 35) (ks + 19832) 12 [some (vr x0)] [] h Φ := by
  refine a_aload_n d_M_init_12 rfl ?_
  refine a_bipush d_M_init_13 ⟨by decide, by decide⟩ (by decide) ?_
  obtain ⟨a1, c1, c2, v⟩ := v
  have v := v _ rfl
  refine a_newarr (kd := 20) (kc' := kc + 34) (ks' := ks + 19816) a1 d_M_init_15 (by decide) rfl ac_int (by decide) (by omega) (by show _ + 16 ≤ _; omega) c1 c2 ?_
  obtain ⟨c3, c4, v⟩ := v
  have v := v _ rfl
  refine a_putAF fl_M_13 rfl (dc1 rfl) d_M_init_17 (beq_iff_eq.mpr c3) c4 ?_
  exact v
theorem s_M_init_20 {l : Launch} {D : DD} {d kc ks : Nat} {h : Hp} {Φ : Option AV → Hp → Prop} {x0 : Nat} (v : ∃ a1 : Nat, 16 ≤ a1 ∧ xK h a1 = 0 ∧ (∀ h1 : Hp, h1 = nw h a1 20 ((16 : Int)).toNat → (xK h1 x0 = 12 ∧ 16 ≤ x0 ∧ (∀ h2 : Hp, h2 = sR h1 x0 3 a1 → (Ev l D Y_M_init (d + 1) (kc + 33) (ks + 19800) 28 [some (vr x0)] [] h2 Φ))))) : Ev l D Y_M_init (d + 1) (kc + 34) (ks + 19816) 20 [some (vr x0)] [] h Φ := by
  refine a_aload_n d_M_init_20 rfl ?_
  refine a_bipush d_M_init_21 ⟨by decide, by decide⟩ (by decide) ?_
  obtain ⟨a1, c1, c2, v⟩ := v
  have v := v _ rfl
  refine a_newarr (kd := 20) (kc' := kc + 33) (ks' := ks + 19800) a1 d_M_init_23 (by decide) rfl ac_int (by decide) (by omega) (by show _ + 16 ≤ _; omega) c1 c2 ?_
  obtain ⟨c3, c4, v⟩ := v
  have v := v _ rfl
  refine a_putAF fl_M_16 rfl (dc1 rfl) d_M_init_25 (beq_iff_eq.mpr c3) c4 ?_
  exact v
theorem s_M_init_28 {l : Launch} {D : DD} {d kc ks : Nat} {h : Hp} {Φ : Option AV → Hp → Prop} {x0 : Nat} (v : ∃ a1 : Nat, 16 ≤ a1 ∧ xK h a1 = 0 ∧ (∀ h1 : Hp, h1 = nw h a1 20 ((48 : Int)).toNat → (xK h1 x0 = 12 ∧ 16 ≤ x0 ∧ (∀ h2 : Hp, h2 = sR h1 x0 4 a1 → (Ev l D Y_M_init (d + 1) (kc + 32) (ks + 19752) 36 [some (vr x0)] [] h2 Φ))))) : Ev l D Y_M_init (d + 1) (kc + 33) (ks + 19800) 28 [some (vr x0)] [] h Φ := by
  refine a_aload_n d_M_init_28 rfl ?_
  refine a_bipush d_M_init_29 ⟨by decide, by decide⟩ (by decide) ?_
  obtain ⟨a1, c1, c2, v⟩ := v
  have v := v _ rfl
  refine a_newarr (kd := 20) (kc' := kc + 32) (ks' := ks + 19752) a1 d_M_init_31 (by decide) rfl ac_int (by decide) (by omega) (by show _ + 48 ≤ _; omega) c1 c2 ?_
  obtain ⟨c3, c4, v⟩ := v
  have v := v _ rfl
  refine a_putAF fl_M_19 rfl (dc1 rfl) d_M_init_33 (beq_iff_eq.mpr c3) c4 ?_
  exact v
theorem s_M_init_36 {l : Launch} {D : DD} {d kc ks : Nat} {h : Hp} {Φ : Option AV → Hp → Prop} {x0 : Nat} (v : ∃ a1 : Nat, 16 ≤ a1 ∧ xK h a1 = 0 ∧ (∀ h1 : Hp, h1 = nw h a1 20 ((48 : Int)).toNat → (xK h1 x0 = 12 ∧ 16 ≤ x0 ∧ (∀ h2 : Hp, h2 = sR h1 x0 6 a1 → (Ev l D Y_M_init (d + 1) (kc + 31) (ks + 19704) 44 [some (vr x0)] [] h2 Φ))))) : Ev l D Y_M_init (d + 1) (kc + 32) (ks + 19752) 36 [some (vr x0)] [] h Φ := by
  refine a_aload_n d_M_init_36 rfl ?_
  refine a_bipush d_M_init_37 ⟨by decide, by decide⟩ (by decide) ?_
  obtain ⟨a1, c1, c2, v⟩ := v
  have v := v _ rfl
  refine a_newarr (kd := 20) (kc' := kc + 31) (ks' := ks + 19704) a1 d_M_init_39 (by decide) rfl ac_int (by decide) (by omega) (by show _ + 48 ≤ _; omega) c1 c2 ?_
  obtain ⟨c3, c4, v⟩ := v
  have v := v _ rfl
  refine a_putAF fl_M_22 rfl (dc1 rfl) d_M_init_41 (beq_iff_eq.mpr c3) c4 ?_
  exact v
theorem s_M_init_44 {l : Launch} {D : DD} {d kc ks : Nat} {h : Hp} {Φ : Option AV → Hp → Prop} {x0 : Nat} (v : ∃ a1 : Nat, 16 ≤ a1 ∧ xK h a1 = 0 ∧ (∀ h1 : Hp, h1 = nw h a1 20 ((48 : Int)).toNat → (xK h1 x0 = 12 ∧ 16 ≤ x0 ∧ (∀ h2 : Hp, h2 = sR h1 x0 7 a1 → (Ev l D Y_M_init (d + 1) (kc + 30) (ks + 19656) 52 [some (vr x0)] [] h2 Φ))))) : Ev l D Y_M_init (d + 1) (kc + 31) (ks + 19704) 44 [some (vr x0)] [] h Φ := by
  refine a_aload_n d_M_init_44 rfl ?_
  refine a_bipush d_M_init_45 ⟨by decide, by decide⟩ (by decide) ?_
  obtain ⟨a1, c1, c2, v⟩ := v
  have v := v _ rfl
  refine a_newarr (kd := 20) (kc' := kc + 30) (ks' := ks + 19656) a1 d_M_init_47 (by decide) rfl ac_int (by decide) (by omega) (by show _ + 48 ≤ _; omega) c1 c2 ?_
  obtain ⟨c3, c4, v⟩ := v
  have v := v _ rfl
  refine a_putAF fl_M_25 rfl (dc1 rfl) d_M_init_49 (beq_iff_eq.mpr c3) c4 ?_
  exact v
theorem s_M_init_52 {l : Launch} {D : DD} {d kc ks : Nat} {h : Hp} {Φ : Option AV → Hp → Prop} {x0 : Nat} (v : ∃ a1 : Nat, 16 ≤ a1 ∧ xK h a1 = 0 ∧ (∀ h1 : Hp, h1 = nw h a1 20 ((48 : Int)).toNat → (xK h1 x0 = 12 ∧ 16 ≤ x0 ∧ (∀ h2 : Hp, h2 = sR h1 x0 8 a1 → (Ev l D Y_M_init (d + 1) (kc + 29) (ks + 19608) 60 [some (vr x0)] [] h2 Φ))))) : Ev l D Y_M_init (d + 1) (kc + 30) (ks + 19656) 52 [some (vr x0)] [] h Φ := by
  refine a_aload_n d_M_init_52 rfl ?_
  refine a_bipush d_M_init_53 ⟨by decide, by decide⟩ (by decide) ?_
  obtain ⟨a1, c1, c2, v⟩ := v
  have v := v _ rfl
  refine a_newarr (kd := 20) (kc' := kc + 29) (ks' := ks + 19608) a1 d_M_init_55 (by decide) rfl ac_int (by decide) (by omega) (by show _ + 48 ≤ _; omega) c1 c2 ?_
  obtain ⟨c3, c4, v⟩ := v
  have v := v _ rfl
  refine a_putAF fl_M_28 rfl (dc1 rfl) d_M_init_57 (beq_iff_eq.mpr c3) c4 ?_
  exact v
theorem s_M_init_60 {l : Launch} {D : DD} {d kc ks : Nat} {h : Hp} {Φ : Option AV → Hp → Prop} {x0 : Nat} (v : ∃ a1 : Nat, 16 ≤ a1 ∧ xK h a1 = 0 ∧ (∀ h1 : Hp, h1 = nw h a1 21 ((48 : Int)).toNat → (xK h1 x0 = 12 ∧ 16 ≤ x0 ∧ (∀ h2 : Hp, h2 = sR h1 x0 9 a1 → (Ev l D Y_M_init (d + 1) (kc + 28) (ks + 19560) 68 [some (vr x0)] [] h2 Φ))))) : Ev l D Y_M_init (d + 1) (kc + 29) (ks + 19608) 60 [some (vr x0)] [] h Φ := by
  refine a_aload_n d_M_init_60 rfl ?_
  refine a_bipush d_M_init_61 ⟨by decide, by decide⟩ (by decide) ?_
  obtain ⟨a1, c1, c2, v⟩ := v
  have v := v _ rfl
  refine a_newarr (kd := 21) (kc' := kc + 28) (ks' := ks + 19560) a1 d_M_init_63 (by decide) rfl ac_boolean (by decide) (by omega) (by show _ + 48 ≤ _; omega) c1 c2 ?_
  obtain ⟨c3, c4, v⟩ := v
  have v := v _ rfl
  refine a_putAF fl_M_31 rfl (dc1 rfl) d_M_init_65 (beq_iff_eq.mpr c3) c4 ?_
  exact v
theorem s_M_init_68 {l : Launch} {D : DD} {d kc ks : Nat} {h : Hp} {Φ : Option AV → Hp → Prop} {x0 : Nat} (v : ∃ a1 : Nat, 16 ≤ a1 ∧ xK h a1 = 0 ∧ (∀ h1 : Hp, h1 = nw h a1 20 ((48 : Int)).toNat → (xK h1 x0 = 12 ∧ 16 ≤ x0 ∧ (∀ h2 : Hp, h2 = sR h1 x0 10 a1 → (Ev l D Y_M_init (d + 1) (kc + 27) (ks + 19512) 76 [some (vr x0)] [] h2 Φ))))) : Ev l D Y_M_init (d + 1) (kc + 28) (ks + 19560) 68 [some (vr x0)] [] h Φ := by
  refine a_aload_n d_M_init_68 rfl ?_
  refine a_bipush d_M_init_69 ⟨by decide, by decide⟩ (by decide) ?_
  obtain ⟨a1, c1, c2, v⟩ := v
  have v := v _ rfl
  refine a_newarr (kd := 20) (kc' := kc + 27) (ks' := ks + 19512) a1 d_M_init_71 (by decide) rfl ac_int (by decide) (by omega) (by show _ + 48 ≤ _; omega) c1 c2 ?_
  obtain ⟨c3, c4, v⟩ := v
  have v := v _ rfl
  refine a_putAF fl_M_35 rfl (dc1 rfl) d_M_init_73 (beq_iff_eq.mpr c3) c4 ?_
  exact v
theorem s_M_init_76 {l : Launch} {D : DD} {d kc ks : Nat} {h : Hp} {Φ : Option AV → Hp → Prop} {x0 : Nat} (v : ∃ a1 : Nat, 16 ≤ a1 ∧ xK h a1 = 0 ∧ (∀ h1 : Hp, h1 = nw h a1 20 ((1152 : Int)).toNat → (xK h1 x0 = 12 ∧ 16 ≤ x0 ∧ (∀ h2 : Hp, h2 = sR h1 x0 11 a1 → (Ev l D Y_M_init (d + 1) (kc + 26) (ks + 18360) 85 [some (vr x0)] [] h2 Φ))))) : Ev l D Y_M_init (d + 1) (kc + 27) (ks + 19512) 76 [some (vr x0)] [] h Φ := by
  refine a_aload_n d_M_init_76 rfl ?_
  refine a_sipush d_M_init_77 ⟨by decide, by decide⟩ (by decide) ?_
  obtain ⟨a1, c1, c2, v⟩ := v
  have v := v _ rfl
  refine a_newarr (kd := 20) (kc' := kc + 26) (ks' := ks + 18360) a1 d_M_init_80 (by decide) rfl ac_int (by decide) (by omega) (by show _ + 1152 ≤ _; omega) c1 c2 ?_
  obtain ⟨c3, c4, v⟩ := v
  have v := v _ rfl
  refine a_putAF fl_M_38 rfl (dc1 rfl) d_M_init_82 (beq_iff_eq.mpr c3) c4 ?_
  exact v
theorem s_M_init_85 {l : Launch} {D : DD} {d kc ks : Nat} {h : Hp} {Φ : Option AV → Hp → Prop} {x0 : Nat} (v : ∃ a1 : Nat, 16 ≤ a1 ∧ xK h a1 = 0 ∧ (∀ h1 : Hp, h1 = nw h a1 20 ((160 : Int)).toNat → (xK h1 x0 = 12 ∧ 16 ≤ x0 ∧ (∀ h2 : Hp, h2 = sR h1 x0 13 a1 → (Ev l D Y_M_init (d + 1) (kc + 25) (ks + 18200) 94 [some (vr x0)] [] h2 Φ))))) : Ev l D Y_M_init (d + 1) (kc + 26) (ks + 18360) 85 [some (vr x0)] [] h Φ := by
  refine a_aload_n d_M_init_85 rfl ?_
  refine a_sipush d_M_init_86 ⟨by decide, by decide⟩ (by decide) ?_
  obtain ⟨a1, c1, c2, v⟩ := v
  have v := v _ rfl
  refine a_newarr (kd := 20) (kc' := kc + 25) (ks' := ks + 18200) a1 d_M_init_89 (by decide) rfl ac_int (by decide) (by omega) (by show _ + 160 ≤ _; omega) c1 c2 ?_
  obtain ⟨c3, c4, v⟩ := v
  have v := v _ rfl
  refine a_putAF fl_M_41 rfl (dc1 rfl) d_M_init_91 (beq_iff_eq.mpr c3) c4 ?_
  exact v
theorem s_M_init_94 {l : Launch} {D : DD} {d kc ks : Nat} {h : Hp} {Φ : Option AV → Hp → Prop} {x0 : Nat} (v : ∃ a1 : Nat, 16 ≤ a1 ∧ xK h a1 = 0 ∧ (∀ h1 : Hp, h1 = nw h a1 20 ((160 : Int)).toNat → (xK h1 x0 = 12 ∧ 16 ≤ x0 ∧ (∀ h2 : Hp, h2 = sR h1 x0 14 a1 → (Ev l D Y_M_init (d + 1) (kc + 24) (ks + 18040) 103 [some (vr x0)] [] h2 Φ))))) : Ev l D Y_M_init (d + 1) (kc + 25) (ks + 18200) 94 [some (vr x0)] [] h Φ := by
  refine a_aload_n d_M_init_94 rfl ?_
  refine a_sipush d_M_init_95 ⟨by decide, by decide⟩ (by decide) ?_
  obtain ⟨a1, c1, c2, v⟩ := v
  have v := v _ rfl
  refine a_newarr (kd := 20) (kc' := kc + 24) (ks' := ks + 18040) a1 d_M_init_98 (by decide) rfl ac_int (by decide) (by omega) (by show _ + 160 ≤ _; omega) c1 c2 ?_
  obtain ⟨c3, c4, v⟩ := v
  have v := v _ rfl
  refine a_putAF fl_M_44 rfl (dc1 rfl) d_M_init_100 (beq_iff_eq.mpr c3) c4 ?_
  exact v
theorem s_M_init_103 {l : Launch} {D : DD} {d kc ks : Nat} {h : Hp} {Φ : Option AV → Hp → Prop} {x0 : Nat} (v : ∃ a1 : Nat, 16 ≤ a1 ∧ xK h a1 = 0 ∧ (∀ h1 : Hp, h1 = nw h a1 20 ((160 : Int)).toNat → (xK h1 x0 = 12 ∧ 16 ≤ x0 ∧ (∀ h2 : Hp, h2 = sR h1 x0 15 a1 → (Ev l D Y_M_init (d + 1) (kc + 23) (ks + 17880) 112 [some (vr x0)] [] h2 Φ))))) : Ev l D Y_M_init (d + 1) (kc + 24) (ks + 18040) 103 [some (vr x0)] [] h Φ := by
  refine a_aload_n d_M_init_103 rfl ?_
  refine a_sipush d_M_init_104 ⟨by decide, by decide⟩ (by decide) ?_
  obtain ⟨a1, c1, c2, v⟩ := v
  have v := v _ rfl
  refine a_newarr (kd := 20) (kc' := kc + 23) (ks' := ks + 17880) a1 d_M_init_107 (by decide) rfl ac_int (by decide) (by omega) (by show _ + 160 ≤ _; omega) c1 c2 ?_
  obtain ⟨c3, c4, v⟩ := v
  have v := v _ rfl
  refine a_putAF fl_M_47 rfl (dc1 rfl) d_M_init_109 (beq_iff_eq.mpr c3) c4 ?_
  exact v
theorem s_M_init_112 {l : Launch} {D : DD} {d kc ks : Nat} {h : Hp} {Φ : Option AV → Hp → Prop} {x0 : Nat} (v : ∃ a1 : Nat, 16 ≤ a1 ∧ xK h a1 = 0 ∧ (∀ h1 : Hp, h1 = nw h a1 21 ((48 : Int)).toNat → (xK h1 x0 = 12 ∧ 16 ≤ x0 ∧ (∀ h2 : Hp, h2 = sR h1 x0 18 a1 → (Ev l D Y_M_init (d + 1) (kc + 22) (ks + 17832) 120 [some (vr x0)] [] h2 Φ))))) : Ev l D Y_M_init (d + 1) (kc + 23) (ks + 17880) 112 [some (vr x0)] [] h Φ := by
  refine a_aload_n d_M_init_112 rfl ?_
  refine a_bipush d_M_init_113 ⟨by decide, by decide⟩ (by decide) ?_
  obtain ⟨a1, c1, c2, v⟩ := v
  have v := v _ rfl
  refine a_newarr (kd := 21) (kc' := kc + 22) (ks' := ks + 17832) a1 d_M_init_115 (by decide) rfl ac_boolean (by decide) (by omega) (by show _ + 48 ≤ _; omega) c1 c2 ?_
  obtain ⟨c3, c4, v⟩ := v
  have v := v _ rfl
  refine a_putAF fl_M_50 rfl (dc1 rfl) d_M_init_117 (beq_iff_eq.mpr c3) c4 ?_
  exact v
theorem s_M_init_120 {l : Launch} {D : DD} {d kc ks : Nat} {h : Hp} {Φ : Option AV → Hp → Prop} {x0 : Nat} (v : ∃ a1 : Nat, 16 ≤ a1 ∧ xK h a1 = 0 ∧ (∀ h1 : Hp, h1 = nw h a1 21 ((16 : Int)).toNat → (xK h1 x0 = 12 ∧ 16 ≤ x0 ∧ (∀ h2 : Hp, h2 = sR h1 x0 19 a1 → (Ev l D Y_M_init (d + 1) (kc + 21) (ks + 17816) 128 [some (vr x0)] [] h2 Φ))))) : Ev l D Y_M_init (d + 1) (kc + 22) (ks + 17832) 120 [some (vr x0)] [] h Φ := by
  refine a_aload_n d_M_init_120 rfl ?_
  refine a_bipush d_M_init_121 ⟨by decide, by decide⟩ (by decide) ?_
  obtain ⟨a1, c1, c2, v⟩ := v
  have v := v _ rfl
  refine a_newarr (kd := 21) (kc' := kc + 21) (ks' := ks + 17816) a1 d_M_init_123 (by decide) rfl ac_boolean (by decide) (by omega) (by show _ + 16 ≤ _; omega) c1 c2 ?_
  obtain ⟨c3, c4, v⟩ := v
  have v := v _ rfl
  refine a_putAF fl_M_53 rfl (dc1 rfl) d_M_init_125 (beq_iff_eq.mpr c3) c4 ?_
  exact v
theorem s_M_init_128 {l : Launch} {D : DD} {d kc ks : Nat} {h : Hp} {Φ : Option AV → Hp → Prop} {x0 : Nat} (v : ∃ a1 : Nat, 16 ≤ a1 ∧ xK h a1 = 0 ∧ (∀ h1 : Hp, h1 = nw h a1 21 ((16 : Int)).toNat → (xK h1 x0 = 12 ∧ 16 ≤ x0 ∧ (∀ h2 : Hp, h2 = sR h1 x0 20 a1 → (Ev l D Y_M_init (d + 1) (kc + 20) (ks + 17800) 136 [some (vr x0)] [] h2 Φ))))) : Ev l D Y_M_init (d + 1) (kc + 21) (ks + 17816) 128 [some (vr x0)] [] h Φ := by
  refine a_aload_n d_M_init_128 rfl ?_
  refine a_bipush d_M_init_129 ⟨by decide, by decide⟩ (by decide) ?_
  obtain ⟨a1, c1, c2, v⟩ := v
  have v := v _ rfl
  refine a_newarr (kd := 21) (kc' := kc + 20) (ks' := ks + 17800) a1 d_M_init_131 (by decide) rfl ac_boolean (by decide) (by omega) (by show _ + 16 ≤ _; omega) c1 c2 ?_
  obtain ⟨c3, c4, v⟩ := v
  have v := v _ rfl
  refine a_putAF fl_M_56 rfl (dc1 rfl) d_M_init_133 (beq_iff_eq.mpr c3) c4 ?_
  exact v
theorem s_M_init_136 {l : Launch} {D : DD} {d kc ks : Nat} {h : Hp} {Φ : Option AV → Hp → Prop} {x0 : Nat} (v : ∃ a1 : Nat, 16 ≤ a1 ∧ xK h a1 = 0 ∧ (∀ h1 : Hp, h1 = nw h a1 21 ((192 : Int)).toNat → (xK h1 x0 = 12 ∧ 16 ≤ x0 ∧ (∀ h2 : Hp, h2 = sR h1 x0 21 a1 → (Ev l D Y_M_init (d + 1) (kc + 19) (ks + 17608) 145 [some (vr x0)] [] h2 Φ))))) : Ev l D Y_M_init (d + 1) (kc + 20) (ks + 17800) 136 [some (vr x0)] [] h Φ := by
  refine a_aload_n d_M_init_136 rfl ?_
  refine a_sipush d_M_init_137 ⟨by decide, by decide⟩ (by decide) ?_
  obtain ⟨a1, c1, c2, v⟩ := v
  have v := v _ rfl
  refine a_newarr (kd := 21) (kc' := kc + 19) (ks' := ks + 17608) a1 d_M_init_140 (by decide) rfl ac_boolean (by decide) (by omega) (by show _ + 192 ≤ _; omega) c1 c2 ?_
  obtain ⟨c3, c4, v⟩ := v
  have v := v _ rfl
  refine a_putAF fl_M_59 rfl (dc1 rfl) d_M_init_142 (beq_iff_eq.mpr c3) c4 ?_
  exact v
theorem s_M_init_145 {l : Launch} {D : DD} {d kc ks : Nat} {h : Hp} {Φ : Option AV → Hp → Prop} {x0 : Nat} (v : ∃ a1 : Nat, 16 ≤ a1 ∧ xK h a1 = 0 ∧ (∀ h1 : Hp, h1 = nw h a1 21 ((7680 : Int)).toNat → (xK h1 x0 = 12 ∧ 16 ≤ x0 ∧ (∀ h2 : Hp, h2 = sR h1 x0 22 a1 → (Ev l D Y_M_init (d + 1) (kc + 18) (ks + 9928) 154 [some (vr x0)] [] h2 Φ))))) : Ev l D Y_M_init (d + 1) (kc + 19) (ks + 17608) 145 [some (vr x0)] [] h Φ := by
  refine a_aload_n d_M_init_145 rfl ?_
  refine a_sipush d_M_init_146 ⟨by decide, by decide⟩ (by decide) ?_
  obtain ⟨a1, c1, c2, v⟩ := v
  have v := v _ rfl
  refine a_newarr (kd := 21) (kc' := kc + 18) (ks' := ks + 9928) a1 d_M_init_149 (by decide) rfl ac_boolean (by decide) (by omega) (by show _ + 7680 ≤ _; omega) c1 c2 ?_
  obtain ⟨c3, c4, v⟩ := v
  have v := v _ rfl
  refine a_putAF fl_M_62 rfl (dc1 rfl) d_M_init_151 (beq_iff_eq.mpr c3) c4 ?_
  exact v
theorem s_M_init_154 {l : Launch} {D : DD} {d kc ks : Nat} {h : Hp} {Φ : Option AV → Hp → Prop} {x0 : Nat} (v : ∃ a1 : Nat, 16 ≤ a1 ∧ xK h a1 = 0 ∧ (∀ h1 : Hp, h1 = nw h a1 20 ((640 : Int)).toNat → (xK h1 x0 = 12 ∧ 16 ≤ x0 ∧ (∀ h2 : Hp, h2 = sR h1 x0 23 a1 → (Ev l D Y_M_init (d + 1) (kc + 17) (ks + 9288) 163 [some (vr x0)] [] h2 Φ))))) : Ev l D Y_M_init (d + 1) (kc + 18) (ks + 9928) 154 [some (vr x0)] [] h Φ := by
  refine a_aload_n d_M_init_154 rfl ?_
  refine a_sipush d_M_init_155 ⟨by decide, by decide⟩ (by decide) ?_
  obtain ⟨a1, c1, c2, v⟩ := v
  have v := v _ rfl
  refine a_newarr (kd := 20) (kc' := kc + 17) (ks' := ks + 9288) a1 d_M_init_158 (by decide) rfl ac_int (by decide) (by omega) (by show _ + 640 ≤ _; omega) c1 c2 ?_
  obtain ⟨c3, c4, v⟩ := v
  have v := v _ rfl
  refine a_putAF fl_M_65 rfl (dc1 rfl) d_M_init_160 (beq_iff_eq.mpr c3) c4 ?_
  exact v
theorem s_M_init_163 {l : Launch} {D : DD} {d kc ks : Nat} {h : Hp} {Φ : Option AV → Hp → Prop} {x0 : Nat} (v : ∃ a1 : Nat, 16 ≤ a1 ∧ xK h a1 = 0 ∧ (∀ h1 : Hp, h1 = nw h a1 21 ((16 : Int)).toNat → (xK h1 x0 = 12 ∧ 16 ≤ x0 ∧ (∀ h2 : Hp, h2 = sR h1 x0 24 a1 → (Ev l D Y_M_init (d + 1) (kc + 16) (ks + 9272) 171 [some (vr x0)] [] h2 Φ))))) : Ev l D Y_M_init (d + 1) (kc + 17) (ks + 9288) 163 [some (vr x0)] [] h Φ := by
  refine a_aload_n d_M_init_163 rfl ?_
  refine a_bipush d_M_init_164 ⟨by decide, by decide⟩ (by decide) ?_
  obtain ⟨a1, c1, c2, v⟩ := v
  have v := v _ rfl
  refine a_newarr (kd := 21) (kc' := kc + 16) (ks' := ks + 9272) a1 d_M_init_166 (by decide) rfl ac_boolean (by decide) (by omega) (by show _ + 16 ≤ _; omega) c1 c2 ?_
  obtain ⟨c3, c4, v⟩ := v
  have v := v _ rfl
  refine a_putAF fl_M_68 rfl (dc1 rfl) d_M_init_168 (beq_iff_eq.mpr c3) c4 ?_
  exact v
theorem s_M_init_171 {l : Launch} {D : DD} {d kc ks : Nat} {h : Hp} {Φ : Option AV → Hp → Prop} {x0 : Nat} (v : ∃ a1 : Nat, 16 ≤ a1 ∧ xK h a1 = 0 ∧ (∀ h1 : Hp, h1 = nw h a1 21 ((256 : Int)).toNat → (xK h1 x0 = 12 ∧ 16 ≤ x0 ∧ (∀ h2 : Hp, h2 = sR h1 x0 25 a1 → (Ev l D Y_M_init (d + 1) (kc + 15) (ks + 9016) 180 [some (vr x0)] [] h2 Φ))))) : Ev l D Y_M_init (d + 1) (kc + 16) (ks + 9272) 171 [some (vr x0)] [] h Φ := by
  refine a_aload_n d_M_init_171 rfl ?_
  refine a_sipush d_M_init_172 ⟨by decide, by decide⟩ (by decide) ?_
  obtain ⟨a1, c1, c2, v⟩ := v
  have v := v _ rfl
  refine a_newarr (kd := 21) (kc' := kc + 15) (ks' := ks + 9016) a1 d_M_init_175 (by decide) rfl ac_boolean (by decide) (by omega) (by show _ + 256 ≤ _; omega) c1 c2 ?_
  obtain ⟨c3, c4, v⟩ := v
  have v := v _ rfl
  refine a_putAF fl_M_71 rfl (dc1 rfl) d_M_init_177 (beq_iff_eq.mpr c3) c4 ?_
  exact v
theorem s_M_init_180 {l : Launch} {D : DD} {d kc ks : Nat} {h : Hp} {Φ : Option AV → Hp → Prop} {x0 : Nat} (v : ∃ a1 : Nat, 16 ≤ a1 ∧ xK h a1 = 0 ∧ (∀ h1 : Hp, h1 = nw h a1 21 ((48 : Int)).toNat → (xK h1 x0 = 12 ∧ 16 ≤ x0 ∧ (∀ h2 : Hp, h2 = sR h1 x0 27 a1 → (Ev l D Y_M_init (d + 1) (kc + 14) (ks + 8968) 188 [some (vr x0)] [] h2 Φ))))) : Ev l D Y_M_init (d + 1) (kc + 15) (ks + 9016) 180 [some (vr x0)] [] h Φ := by
  refine a_aload_n d_M_init_180 rfl ?_
  refine a_bipush d_M_init_181 ⟨by decide, by decide⟩ (by decide) ?_
  obtain ⟨a1, c1, c2, v⟩ := v
  have v := v _ rfl
  refine a_newarr (kd := 21) (kc' := kc + 14) (ks' := ks + 8968) a1 d_M_init_183 (by decide) rfl ac_boolean (by decide) (by omega) (by show _ + 48 ≤ _; omega) c1 c2 ?_
  obtain ⟨c3, c4, v⟩ := v
  have v := v _ rfl
  refine a_putAF fl_M_74 rfl (dc1 rfl) d_M_init_185 (beq_iff_eq.mpr c3) c4 ?_
  exact v
theorem s_M_init_188 {l : Launch} {D : DD} {d kc ks : Nat} {h : Hp} {Φ : Option AV → Hp → Prop} {x0 : Nat} (v : ∃ a1 : Nat, 16 ≤ a1 ∧ xK h a1 = 0 ∧ (∀ h1 : Hp, h1 = nw h a1 21 ((16 : Int)).toNat → (xK h1 x0 = 12 ∧ 16 ≤ x0 ∧ (∀ h2 : Hp, h2 = sR h1 x0 28 a1 → (Ev l D Y_M_init (d + 1) (kc + 13) (ks + 8952) 196 [some (vr x0)] [] h2 Φ))))) : Ev l D Y_M_init (d + 1) (kc + 14) (ks + 8968) 188 [some (vr x0)] [] h Φ := by
  refine a_aload_n d_M_init_188 rfl ?_
  refine a_bipush d_M_init_189 ⟨by decide, by decide⟩ (by decide) ?_
  obtain ⟨a1, c1, c2, v⟩ := v
  have v := v _ rfl
  refine a_newarr (kd := 21) (kc' := kc + 13) (ks' := ks + 8952) a1 d_M_init_191 (by decide) rfl ac_boolean (by decide) (by omega) (by show _ + 16 ≤ _; omega) c1 c2 ?_
  obtain ⟨c3, c4, v⟩ := v
  have v := v _ rfl
  refine a_putAF fl_M_77 rfl (dc1 rfl) d_M_init_193 (beq_iff_eq.mpr c3) c4 ?_
  exact v
theorem s_M_init_196 {l : Launch} {D : DD} {d kc ks : Nat} {h : Hp} {Φ : Option AV → Hp → Prop} {x0 : Nat} (v : ∃ a1 : Nat, 16 ≤ a1 ∧ xK h a1 = 0 ∧ (∀ h1 : Hp, h1 = nw h a1 21 ((16 : Int)).toNat → (xK h1 x0 = 12 ∧ 16 ≤ x0 ∧ (∀ h2 : Hp, h2 = sR h1 x0 29 a1 → (Ev l D Y_M_init (d + 1) (kc + 12) (ks + 8936) 204 [some (vr x0)] [] h2 Φ))))) : Ev l D Y_M_init (d + 1) (kc + 13) (ks + 8952) 196 [some (vr x0)] [] h Φ := by
  refine a_aload_n d_M_init_196 rfl ?_
  refine a_bipush d_M_init_197 ⟨by decide, by decide⟩ (by decide) ?_
  obtain ⟨a1, c1, c2, v⟩ := v
  have v := v _ rfl
  refine a_newarr (kd := 21) (kc' := kc + 12) (ks' := ks + 8936) a1 d_M_init_199 (by decide) rfl ac_boolean (by decide) (by omega) (by show _ + 16 ≤ _; omega) c1 c2 ?_
  obtain ⟨c3, c4, v⟩ := v
  have v := v _ rfl
  refine a_putAF fl_M_80 rfl (dc1 rfl) d_M_init_201 (beq_iff_eq.mpr c3) c4 ?_
  exact v
theorem s_M_init_204 {l : Launch} {D : DD} {d kc ks : Nat} {h : Hp} {Φ : Option AV → Hp → Prop} {x0 : Nat} (v : ∃ a1 : Nat, 16 ≤ a1 ∧ xK h a1 = 0 ∧ (∀ h1 : Hp, h1 = nw h a1 21 ((2304 : Int)).toNat → (xK h1 x0 = 12 ∧ 16 ≤ x0 ∧ (∀ h2 : Hp, h2 = sR h1 x0 30 a1 → (Ev l D Y_M_init (d + 1) (kc + 11) (ks + 6632) 213 [some (vr x0)] [] h2 Φ))))) : Ev l D Y_M_init (d + 1) (kc + 12) (ks + 8936) 204 [some (vr x0)] [] h Φ := by
  refine a_aload_n d_M_init_204 rfl ?_
  refine a_sipush d_M_init_205 ⟨by decide, by decide⟩ (by decide) ?_
  obtain ⟨a1, c1, c2, v⟩ := v
  have v := v _ rfl
  refine a_newarr (kd := 21) (kc' := kc + 11) (ks' := ks + 6632) a1 d_M_init_208 (by decide) rfl ac_boolean (by decide) (by omega) (by show _ + 2304 ≤ _; omega) c1 c2 ?_
  obtain ⟨c3, c4, v⟩ := v
  have v := v _ rfl
  refine a_putAF fl_M_83 rfl (dc1 rfl) d_M_init_210 (beq_iff_eq.mpr c3) c4 ?_
  exact v
theorem s_M_init_213 {l : Launch} {D : DD} {d kc ks : Nat} {h : Hp} {Φ : Option AV → Hp → Prop} {x0 : Nat} (v : ∃ a1 : Nat, 16 ≤ a1 ∧ xK h a1 = 0 ∧ (∀ h1 : Hp, h1 = nw h a1 21 ((2304 : Int)).toNat → (xK h1 x0 = 12 ∧ 16 ≤ x0 ∧ (∀ h2 : Hp, h2 = sR h1 x0 31 a1 → (Ev l D Y_M_init (d + 1) (kc + 10) (ks + 4328) 222 [some (vr x0)] [] h2 Φ))))) : Ev l D Y_M_init (d + 1) (kc + 11) (ks + 6632) 213 [some (vr x0)] [] h Φ := by
  refine a_aload_n d_M_init_213 rfl ?_
  refine a_sipush d_M_init_214 ⟨by decide, by decide⟩ (by decide) ?_
  obtain ⟨a1, c1, c2, v⟩ := v
  have v := v _ rfl
  refine a_newarr (kd := 21) (kc' := kc + 10) (ks' := ks + 4328) a1 d_M_init_217 (by decide) rfl ac_boolean (by decide) (by omega) (by show _ + 2304 ≤ _; omega) c1 c2 ?_
  obtain ⟨c3, c4, v⟩ := v
  have v := v _ rfl
  refine a_putAF fl_M_86 rfl (dc1 rfl) d_M_init_219 (beq_iff_eq.mpr c3) c4 ?_
  exact v
theorem s_M_init_222 {l : Launch} {D : DD} {d kc ks : Nat} {h : Hp} {Φ : Option AV → Hp → Prop} {x0 : Nat} (v : ∃ a1 : Nat, 16 ≤ a1 ∧ xK h a1 = 0 ∧ (∀ h1 : Hp, h1 = nw h a1 20 ((48 : Int)).toNat → (xK h1 x0 = 12 ∧ 16 ≤ x0 ∧ (∀ h2 : Hp, h2 = sR h1 x0 32 a1 → (Ev l D Y_M_init (d + 1) (kc + 9) (ks + 4280) 230 [some (vr x0)] [] h2 Φ))))) : Ev l D Y_M_init (d + 1) (kc + 10) (ks + 4328) 222 [some (vr x0)] [] h Φ := by
  refine a_aload_n d_M_init_222 rfl ?_
  refine a_bipush d_M_init_223 ⟨by decide, by decide⟩ (by decide) ?_
  obtain ⟨a1, c1, c2, v⟩ := v
  have v := v _ rfl
  refine a_newarr (kd := 20) (kc' := kc + 9) (ks' := ks + 4280) a1 d_M_init_225 (by decide) rfl ac_int (by decide) (by omega) (by show _ + 48 ≤ _; omega) c1 c2 ?_
  obtain ⟨c3, c4, v⟩ := v
  have v := v _ rfl
  refine a_putAF fl_M_89 rfl (dc1 rfl) d_M_init_227 (beq_iff_eq.mpr c3) c4 ?_
  exact v
theorem s_M_init_230 {l : Launch} {D : DD} {d kc ks : Nat} {h : Hp} {Φ : Option AV → Hp → Prop} {x0 : Nat} (v : ∃ a1 : Nat, 16 ≤ a1 ∧ xK h a1 = 0 ∧ (∀ h1 : Hp, h1 = nw h a1 20 ((1000 : Int)).toNat → (xK h1 x0 = 12 ∧ 16 ≤ x0 ∧ (∀ h2 : Hp, h2 = sR h1 x0 33 a1 → (Ev l D Y_M_init (d + 1) (kc + 8) (ks + 3280) 239 [some (vr x0)] [] h2 Φ))))) : Ev l D Y_M_init (d + 1) (kc + 9) (ks + 4280) 230 [some (vr x0)] [] h Φ := by
  refine a_aload_n d_M_init_230 rfl ?_
  refine a_sipush d_M_init_231 ⟨by decide, by decide⟩ (by decide) ?_
  obtain ⟨a1, c1, c2, v⟩ := v
  have v := v _ rfl
  refine a_newarr (kd := 20) (kc' := kc + 8) (ks' := ks + 3280) a1 d_M_init_234 (by decide) rfl ac_int (by decide) (by omega) (by show _ + 1000 ≤ _; omega) c1 c2 ?_
  obtain ⟨c3, c4, v⟩ := v
  have v := v _ rfl
  refine a_putAF fl_M_92 rfl (dc1 rfl) d_M_init_236 (beq_iff_eq.mpr c3) c4 ?_
  exact v
theorem s_M_init_239 {l : Launch} {D : DD} {d kc ks : Nat} {h : Hp} {Φ : Option AV → Hp → Prop} {x0 : Nat} (v : ∃ a1 : Nat, 16 ≤ a1 ∧ xK h a1 = 0 ∧ (∀ h1 : Hp, h1 = nw h a1 20 ((1000 : Int)).toNat → (xK h1 x0 = 12 ∧ 16 ≤ x0 ∧ (∀ h2 : Hp, h2 = sR h1 x0 34 a1 → (Ev l D Y_M_init (d + 1) (kc + 7) (ks + 2280) 248 [some (vr x0)] [] h2 Φ))))) : Ev l D Y_M_init (d + 1) (kc + 8) (ks + 3280) 239 [some (vr x0)] [] h Φ := by
  refine a_aload_n d_M_init_239 rfl ?_
  refine a_sipush d_M_init_240 ⟨by decide, by decide⟩ (by decide) ?_
  obtain ⟨a1, c1, c2, v⟩ := v
  have v := v _ rfl
  refine a_newarr (kd := 20) (kc' := kc + 7) (ks' := ks + 2280) a1 d_M_init_243 (by decide) rfl ac_int (by decide) (by omega) (by show _ + 1000 ≤ _; omega) c1 c2 ?_
  obtain ⟨c3, c4, v⟩ := v
  have v := v _ rfl
  refine a_putAF fl_M_95 rfl (dc1 rfl) d_M_init_245 (beq_iff_eq.mpr c3) c4 ?_
  exact v
theorem s_M_init_248 {l : Launch} {D : DD} {d kc ks : Nat} {h : Hp} {Φ : Option AV → Hp → Prop} {x0 : Nat} (v : ∃ a1 : Nat, 16 ≤ a1 ∧ xK h a1 = 0 ∧ (∀ h1 : Hp, h1 = nw h a1 20 ((1000 : Int)).toNat → (xK h1 x0 = 12 ∧ 16 ≤ x0 ∧ (∀ h2 : Hp, h2 = sR h1 x0 35 a1 → (Ev l D Y_M_init (d + 1) (kc + 6) (ks + 1280) 257 [some (vr x0)] [] h2 Φ))))) : Ev l D Y_M_init (d + 1) (kc + 7) (ks + 2280) 248 [some (vr x0)] [] h Φ := by
  refine a_aload_n d_M_init_248 rfl ?_
  refine a_sipush d_M_init_249 ⟨by decide, by decide⟩ (by decide) ?_
  obtain ⟨a1, c1, c2, v⟩ := v
  have v := v _ rfl
  refine a_newarr (kd := 20) (kc' := kc + 6) (ks' := ks + 1280) a1 d_M_init_252 (by decide) rfl ac_int (by decide) (by omega) (by show _ + 1000 ≤ _; omega) c1 c2 ?_
  obtain ⟨c3, c4, v⟩ := v
  have v := v _ rfl
  refine a_putAF fl_M_98 rfl (dc1 rfl) d_M_init_254 (beq_iff_eq.mpr c3) c4 ?_
  exact v
theorem s_M_init_257 {l : Launch} {D : DD} {d kc ks : Nat} {h : Hp} {Φ : Option AV → Hp → Prop} {x0 : Nat} (v : ∃ a1 : Nat, 16 ≤ a1 ∧ xK h a1 = 0 ∧ (∀ h1 : Hp, h1 = nw h a1 20 ((1000 : Int)).toNat → (xK h1 x0 = 12 ∧ 16 ≤ x0 ∧ (∀ h2 : Hp, h2 = sR h1 x0 36 a1 → (Ev l D Y_M_init (d + 1) (kc + 5) (ks + 280) 266 [some (vr x0)] [] h2 Φ))))) : Ev l D Y_M_init (d + 1) (kc + 6) (ks + 1280) 257 [some (vr x0)] [] h Φ := by
  refine a_aload_n d_M_init_257 rfl ?_
  refine a_sipush d_M_init_258 ⟨by decide, by decide⟩ (by decide) ?_
  obtain ⟨a1, c1, c2, v⟩ := v
  have v := v _ rfl
  refine a_newarr (kd := 20) (kc' := kc + 5) (ks' := ks + 280) a1 d_M_init_261 (by decide) rfl ac_int (by decide) (by omega) (by show _ + 1000 ≤ _; omega) c1 c2 ?_
  obtain ⟨c3, c4, v⟩ := v
  have v := v _ rfl
  refine a_putAF fl_M_101 rfl (dc1 rfl) d_M_init_263 (beq_iff_eq.mpr c3) c4 ?_
  exact v
theorem s_M_init_266 {l : Launch} {D : DD} {d kc ks : Nat} {h : Hp} {Φ : Option AV → Hp → Prop} {x0 : Nat} (v : ∃ a1 : Nat, 16 ≤ a1 ∧ xK h a1 = 0 ∧ (∀ h1 : Hp, h1 = nw h a1 21 ((48 : Int)).toNat → (xK h1 x0 = 12 ∧ 16 ≤ x0 ∧ (∀ h2 : Hp, h2 = sR h1 x0 44 a1 → (Ev l D Y_M_init (d + 1) (kc + 4) (ks + 232) 274 [some (vr x0)] [] h2 Φ))))) : Ev l D Y_M_init (d + 1) (kc + 5) (ks + 280) 266 [some (vr x0)] [] h Φ := by
  refine a_aload_n d_M_init_266 rfl ?_
  refine a_bipush d_M_init_267 ⟨by decide, by decide⟩ (by decide) ?_
  obtain ⟨a1, c1, c2, v⟩ := v
  have v := v _ rfl
  refine a_newarr (kd := 21) (kc' := kc + 4) (ks' := ks + 232) a1 d_M_init_269 (by decide) rfl ac_boolean (by decide) (by omega) (by show _ + 48 ≤ _; omega) c1 c2 ?_
  obtain ⟨c3, c4, v⟩ := v
  have v := v _ rfl
  refine a_putAF fl_M_104 rfl (dc1 rfl) d_M_init_271 (beq_iff_eq.mpr c3) c4 ?_
  exact v
theorem s_M_init_274 {l : Launch} {D : DD} {d kc ks : Nat} {h : Hp} {Φ : Option AV → Hp → Prop} {x0 : Nat} (v : ∃ a1 : Nat, 16 ≤ a1 ∧ xK h a1 = 0 ∧ (∀ h1 : Hp, h1 = nw h a1 21 ((16 : Int)).toNat → (xK h1 x0 = 12 ∧ 16 ≤ x0 ∧ (∀ h2 : Hp, h2 = sR h1 x0 45 a1 → (Ev l D Y_M_init (d + 1) (kc + 3) (ks + 216) 282 [some (vr x0)] [] h2 Φ))))) : Ev l D Y_M_init (d + 1) (kc + 4) (ks + 232) 274 [some (vr x0)] [] h Φ := by
  refine a_aload_n d_M_init_274 rfl ?_
  refine a_bipush d_M_init_275 ⟨by decide, by decide⟩ (by decide) ?_
  obtain ⟨a1, c1, c2, v⟩ := v
  have v := v _ rfl
  refine a_newarr (kd := 21) (kc' := kc + 3) (ks' := ks + 216) a1 d_M_init_277 (by decide) rfl ac_boolean (by decide) (by omega) (by show _ + 16 ≤ _; omega) c1 c2 ?_
  obtain ⟨c3, c4, v⟩ := v
  have v := v _ rfl
  refine a_putAF fl_M_107 rfl (dc1 rfl) d_M_init_279 (beq_iff_eq.mpr c3) c4 ?_
  exact v
theorem s_M_init_282 {l : Launch} {D : DD} {d kc ks : Nat} {h : Hp} {Φ : Option AV → Hp → Prop} {x0 : Nat} (v : ∃ a1 : Nat, 16 ≤ a1 ∧ xK h a1 = 0 ∧ (∀ h1 : Hp, h1 = nw h a1 20 ((20 : Int)).toNat → (xK h1 x0 = 12 ∧ 16 ≤ x0 ∧ (∀ h2 : Hp, h2 = sR h1 x0 46 a1 → (Ev l D Y_M_init (d + 1) (kc + 2) (ks + 196) 290 [some (vr x0)] [] h2 Φ))))) : Ev l D Y_M_init (d + 1) (kc + 3) (ks + 216) 282 [some (vr x0)] [] h Φ := by
  refine a_aload_n d_M_init_282 rfl ?_
  refine a_bipush d_M_init_283 ⟨by decide, by decide⟩ (by decide) ?_
  obtain ⟨a1, c1, c2, v⟩ := v
  have v := v _ rfl
  refine a_newarr (kd := 20) (kc' := kc + 2) (ks' := ks + 196) a1 d_M_init_285 (by decide) rfl ac_int (by decide) (by omega) (by show _ + 20 ≤ _; omega) c1 c2 ?_
  obtain ⟨c3, c4, v⟩ := v
  have v := v _ rfl
  refine a_putAF fl_M_110 rfl (dc1 rfl) d_M_init_287 (beq_iff_eq.mpr c3) c4 ?_
  exact v
theorem s_M_init_290 {l : Launch} {D : DD} {d kc ks : Nat} {h : Hp} {Φ : Option AV → Hp → Prop} {x0 : Nat} (v : ∃ a1 : Nat, 16 ≤ a1 ∧ xK h a1 = 0 ∧ (∀ h1 : Hp, h1 = nw h a1 20 ((192 : Int)).toNat → (xK h1 x0 = 12 ∧ 16 ≤ x0 ∧ (∀ h2 : Hp, h2 = sR h1 x0 48 a1 → (Ev l D Y_M_init (d + 1) (kc + 1) (ks + 4) 299 [some (vr x0)] [] h2 Φ))))) : Ev l D Y_M_init (d + 1) (kc + 2) (ks + 196) 290 [some (vr x0)] [] h Φ := by
  refine a_aload_n d_M_init_290 rfl ?_
  refine a_sipush d_M_init_291 ⟨by decide, by decide⟩ (by decide) ?_
  obtain ⟨a1, c1, c2, v⟩ := v
  have v := v _ rfl
  refine a_newarr (kd := 20) (kc' := kc + 1) (ks' := ks + 4) a1 d_M_init_294 (by decide) rfl ac_int (by decide) (by omega) (by show _ + 192 ≤ _; omega) c1 c2 ?_
  obtain ⟨c3, c4, v⟩ := v
  have v := v _ rfl
  refine a_putAF fl_M_113 rfl (dc1 rfl) d_M_init_296 (beq_iff_eq.mpr c3) c4 ?_
  exact v
theorem s_M_init_299 {l : Launch} {D : DD} {d kc ks : Nat} {h : Hp} {Φ : Option AV → Hp → Prop} {x0 : Nat} (v : ∃ a1 : Nat, 16 ≤ a1 ∧ xK h a1 = 0 ∧ (∀ h1 : Hp, h1 = nw h a1 20 ((4 : Int)).toNat → (xK h1 x0 = 12 ∧ 16 ≤ x0 ∧ (∀ h2 : Hp, h2 = sR h1 x0 49 a1 → (Ev l D Y_M_init (d + 1) kc ks 306 [some (vr x0)] [] h2 Φ))))) : Ev l D Y_M_init (d + 1) (kc + 1) (ks + 4) 299 [some (vr x0)] [] h Φ := by
  refine a_aload_n d_M_init_299 rfl ?_
  refine a_iconst d_M_init_300 ⟨by decide, by decide⟩ ?_
  obtain ⟨a1, c1, c2, v⟩ := v
  have v := v _ rfl
  refine a_newarr (kd := 20) (kc' := kc) (ks' := ks) a1 d_M_init_301 (by decide) rfl ac_int (by decide) (by omega) (by show _ + 4 ≤ _; omega) c1 c2 ?_
  obtain ⟨c3, c4, v⟩ := v
  have v := v _ rfl
  refine a_putAF fl_M_116 rfl (dc1 rfl) d_M_init_303 (beq_iff_eq.mpr c3) c4 ?_
  exact v
theorem s_M_init_306 {l : Launch} {D : DD} {d kc ks : Nat} {h : Hp} {Φ : Option AV → Hp → Prop} {x0 : Nat} (v : xK h x0 = 12 ∧ 16 ≤ x0 ∧ (∀ h1 : Hp, h1 = sI h x0 16 (0 : Int) → (Φ none h1))) : Ev l D Y_M_init (d + 1) kc ks 306 [some (vr x0)] [] h Φ := by
  refine a_aload_n d_M_init_306 rfl ?_
  refine a_iconst d_M_init_307 ⟨by decide, by decide⟩ ?_
  obtain ⟨c1, c2, v⟩ := v
  have v := v _ rfl
  refine a_putZ fl_M_119 d_M_init_308 (beq_iff_eq.mpr c1) c2 (Or.inl rfl) ?_
  exact a_vret d_M_init_311 rfl v
theorem d_Law_law_0 : decode Y_Law_law.2.1 0 = .ok (.new 7, 3) := by decide +kernel
theorem d_Law_law_3 : decode Y_Law_law.2.1 3 = .ok (.dup, 1) := by decide +kernel
theorem d_Law_law_4 : decode Y_Law_law.2.1 4 = .ok (.invokespecial 9, 3) := by decide +kernel
theorem d_Law_law_7 : decode Y_Law_law.2.1 7 = .ok (.astore_n 1, 1) := by decide +kernel
theorem d_Law_law_8 : decode Y_Law_law.2.1 8 = .ok (.new 10, 3) := by decide +kernel
theorem d_Law_law_11 : decode Y_Law_law.2.1 11 = .ok (.dup, 1) := by decide +kernel
theorem d_Law_law_12 : decode Y_Law_law.2.1 12 = .ok (.invokespecial 12, 3) := by decide +kernel
theorem d_Law_law_15 : decode Y_Law_law.2.1 15 = .ok (.astore_n 2, 1) := by decide +kernel
theorem d_Law_law_16 : decode Y_Law_law.2.1 16 = .ok (.iconst 0, 1) := by decide +kernel
theorem d_Law_law_17 : decode Y_Law_law.2.1 17 = .ok (.istore_n 3, 1) := by decide +kernel
theorem d_Law_law_18 : decode Y_Law_law.2.1 18 = .ok (.iload_n 3, 1) := by decide +kernel
theorem d_Law_law_19 : decode Y_Law_law.2.1 19 = .ok (.aload_n 0, 1) := by decide +kernel
theorem d_Law_law_20 : decode Y_Law_law.2.1 20 = .ok (.arraylength, 1) := by decide +kernel
theorem d_Law_law_21 : decode Y_Law_law.2.1 21 = .ok (.iconst 5, 1) := by decide +kernel
theorem d_Law_law_22 : decode Y_Law_law.2.1 22 = .ok (.isub, 1) := by decide +kernel
theorem d_Law_law_23 : decode Y_Law_law.2.1 23 = .ok (.if_icmp .gt 776, 3) := by decide +kernel
theorem d_Law_law_26 : decode Y_Law_law.2.1 26 = .ok (.aload_n 0, 1) := by decide +kernel
theorem d_Law_law_27 : decode Y_Law_law.2.1 27 = .ok (.iload_n 3, 1) := by decide +kernel
theorem d_Law_law_28 : decode Y_Law_law.2.1 28 = .ok (.iaload, 1) := by decide +kernel
theorem d_Law_law_29 : decode Y_Law_law.2.1 29 = .ok (.bipush 31, 2) := by decide +kernel
theorem d_Law_law_31 : decode Y_Law_law.2.1 31 = .ok (.iand, 1) := by decide +kernel
theorem d_Law_law_32 : decode Y_Law_law.2.1 32 = .ok (.tableswitch 761 0 16 #[84, 117, 150, 193, 246, 295, 318, 351, 384, 427, 460, 493, 536, 579, 612, 645, 708], 84) := by decide +kernel
theorem d_Law_law_116 : decode Y_Law_law.2.1 116 = .ok (.aload_n 1, 1) := by decide +kernel
theorem d_Law_law_117 : decode Y_Law_law.2.1 117 = .ok (.aload_n 0, 1) := by decide +kernel
theorem d_Law_law_118 : decode Y_Law_law.2.1 118 = .ok (.iload_n 3, 1) := by decide +kernel
theorem d_Law_law_119 : decode Y_Law_law.2.1 119 = .ok (.iconst 1, 1) := by decide +kernel
theorem d_Law_law_120 : decode Y_Law_law.2.1 120 = .ok (.iadd, 1) := by decide +kernel
theorem d_Law_law_121 : decode Y_Law_law.2.1 121 = .ok (.iaload, 1) := by decide +kernel
theorem d_Law_law_122 : decode Y_Law_law.2.1 122 = .ok (.aload_n 0, 1) := by decide +kernel
theorem d_Law_law_123 : decode Y_Law_law.2.1 123 = .ok (.iload_n 3, 1) := by decide +kernel
theorem d_Law_law_124 : decode Y_Law_law.2.1 124 = .ok (.iconst 2, 1) := by decide +kernel
theorem d_Law_law_125 : decode Y_Law_law.2.1 125 = .ok (.iadd, 1) := by decide +kernel
theorem d_Law_law_126 : decode Y_Law_law.2.1 126 = .ok (.iaload, 1) := by decide +kernel
theorem d_Law_law_127 : decode Y_Law_law.2.1 127 = .ok (.invokevirtual 13, 3) := by decide +kernel
theorem d_Law_law_130 : decode Y_Law_law.2.1 130 = .ok (.aload_n 2, 1) := by decide +kernel
theorem d_Law_law_131 : decode Y_Law_law.2.1 131 = .ok (.aload_n 0, 1) := by decide +kernel
theorem d_Law_law_132 : decode Y_Law_law.2.1 132 = .ok (.iload_n 3, 1) := by decide +kernel
theorem d_Law_law_133 : decode Y_Law_law.2.1 133 = .ok (.iconst 1, 1) := by decide +kernel
theorem d_Law_law_134 : decode Y_Law_law.2.1 134 = .ok (.iadd, 1) := by decide +kernel
theorem d_Law_law_135 : decode Y_Law_law.2.1 135 = .ok (.iaload, 1) := by decide +kernel
theorem d_Law_law_136 : decode Y_Law_law.2.1 136 = .ok (.aload_n 0, 1) := by decide +kernel
theorem d_Law_law_137 : decode Y_Law_law.2.1 137 = .ok (.iload_n 3, 1) := by decide +kernel
theorem d_Law_law_138 : decode Y_Law_law.2.1 138 = .ok (.iconst 2, 1) := by decide +kernel
theorem d_Law_law_139 : decode Y_Law_law.2.1 139 = .ok (.iadd, 1) := by decide +kernel
theorem d_Law_law_140 : decode Y_Law_law.2.1 140 = .ok (.iaload, 1) := by decide +kernel
theorem d_Law_law_141 : decode Y_Law_law.2.1 141 = .ok (.invokevirtual 17, 3) := by decide +kernel
theorem d_Law_law_144 : decode Y_Law_law.2.1 144 = .ok (.if_icmp .eq 649, 3) := by decide +kernel
theorem d_Law_law_147 : decode Y_Law_law.2.1 147 = .ok (.iconst 0, 1) := by decide +kernel
theorem d_Law_law_148 : decode Y_Law_law.2.1 148 = .ok (.ireturn, 1) := by decide +kernel
theorem d_Law_law_149 : decode Y_Law_law.2.1 149 = .ok (.aload_n 1, 1) := by decide +kernel
theorem d_Law_law_150 : decode Y_Law_law.2.1 150 = .ok (.aload_n 0, 1) := by decide +kernel
theorem d_Law_law_151 : decode Y_Law_law.2.1 151 = .ok (.iload_n 3, 1) := by decide +kernel
theorem d_Law_law_152 : decode Y_Law_law.2.1 152 = .ok (.iconst 1, 1) := by decide +kernel
theorem d_Law_law_153 : decode Y_Law_law.2.1 153 = .ok (.iadd, 1) := by decide +kernel
theorem d_Law_law_154 : decode Y_Law_law.2.1 154 = .ok (.iaload, 1) := by decide +kernel
theorem d_Law_law_155 : decode Y_Law_law.2.1 155 = .ok (.aload_n 0, 1) := by decide +kernel
theorem d_Law_law_156 : decode Y_Law_law.2.1 156 = .ok (.iload_n 3, 1) := by decide +kernel
theorem d_Law_law_157 : decode Y_Law_law.2.1 157 = .ok (.iconst 2, 1) := by decide +kernel
theorem d_Law_law_158 : decode Y_Law_law.2.1 158 = .ok (.iadd, 1) := by decide +kernel
theorem d_Law_law_159 : decode Y_Law_law.2.1 159 = .ok (.iaload, 1) := by decide +kernel
theorem d_Law_law_160 : decode Y_Law_law.2.1 160 = .ok (.invokevirtual 18, 3) := by decide +kernel
theorem d_Law_law_163 : decode Y_Law_law.2.1 163 = .ok (.aload_n 2, 1) := by decide +kernel
theorem d_Law_law_164 : decode Y_Law_law.2.1 164 = .ok (.aload_n 0, 1) := by decide +kernel
theorem d_Law_law_165 : decode Y_Law_law.2.1 165 = .ok (.iload_n 3, 1) := by decide +kernel
theorem d_Law_law_166 : decode Y_Law_law.2.1 166 = .ok (.iconst 1, 1) := by decide +kernel
theorem d_Law_law_167 : decode Y_Law_law.2.1 167 = .ok (.iadd, 1) := by decide +kernel
theorem d_Law_law_168 : decode Y_Law_law.2.1 168 = .ok (.iaload, 1) := by decide +kernel
theorem d_Law_law_169 : decode Y_Law_law.2.1 169 = .ok (.aload_n 0, 1) := by decide +kernel
theorem d_Law_law_170 : decode Y_Law_law.2.1 170 = .ok (.iload_n 3, 1) := by decide +kernel
theorem d_Law_law_171 : decode Y_Law_law.2.1 171 = .ok (.iconst 2, 1) := by decide +kernel
theorem d_Law_law_172 : decode Y_Law_law.2.1 172 = .ok (.iadd, 1) := by decide +kernel
theorem d_Law_law_173 : decode Y_Law_law.2.1 173 = .ok (.iaload, 1) := by decide +kernel
theorem d_Law_law_174 : decode Y_Law_law.2.1 174 = .ok (.invokevirtual 21, 3) := by decide +kernel
theorem d_Law_law_177 : decode Y_Law_law.2.1 177 = .ok (.if_icmp .eq 616, 3) := by decide +kernel
theorem d_Law_law_180 : decode Y_Law_law.2.1 180 = .ok (.iconst 0, 1) := by decide +kernel
theorem d_Law_law_181 : decode Y_Law_law.2.1 181 = .ok (.ireturn, 1) := by decide +kernel
theorem d_Law_law_182 : decode Y_Law_law.2.1 182 = .ok (.aload_n 1, 1) := by decide +kernel
theorem d_Law_law_183 : decode Y_Law_law.2.1 183 = .ok (.aload_n 0, 1) := by decide +kernel
theorem d_Law_law_184 : decode Y_Law_law.2.1 184 = .ok (.iload_n 3, 1) := by decide +kernel
theorem d_Law_law_185 : decode Y_Law_law.2.1 185 = .ok (.iconst 1, 1) := by decide +kernel
theorem d_Law_law_186 : decode Y_Law_law.2.1 186 = .ok (.iadd, 1) := by decide +kernel
theorem d_Law_law_187 : decode Y_Law_law.2.1 187 = .ok (.iaload, 1) := by decide +kernel
theorem d_Law_law_188 : decode Y_Law_law.2.1 188 = .ok (.aload_n 0, 1) := by decide +kernel
theorem d_Law_law_189 : decode Y_Law_law.2.1 189 = .ok (.iload_n 3, 1) := by decide +kernel
theorem d_Law_law_190 : decode Y_Law_law.2.1 190 = .ok (.iconst 2, 1) := by decide +kernel
theorem d_Law_law_191 : decode Y_Law_law.2.1 191 = .ok (.iadd, 1) := by decide +kernel
theorem d_Law_law_192 : decode Y_Law_law.2.1 192 = .ok (.iaload, 1) := by decide +kernel
theorem d_Law_law_193 : decode Y_Law_law.2.1 193 = .ok (.aload_n 0, 1) := by decide +kernel
theorem d_Law_law_194 : decode Y_Law_law.2.1 194 = .ok (.iload_n 3, 1) := by decide +kernel
theorem d_Law_law_195 : decode Y_Law_law.2.1 195 = .ok (.iconst 3, 1) := by decide +kernel
theorem d_Law_law_196 : decode Y_Law_law.2.1 196 = .ok (.iadd, 1) := by decide +kernel
theorem d_Law_law_197 : decode Y_Law_law.2.1 197 = .ok (.iaload, 1) := by decide +kernel
theorem d_Law_law_198 : decode Y_Law_law.2.1 198 = .ok (.invokevirtual 22, 3) := by decide +kernel
theorem d_Law_law_201 : decode Y_Law_law.2.1 201 = .ok (.aload_n 2, 1) := by decide +kernel
theorem d_Law_law_202 : decode Y_Law_law.2.1 202 = .ok (.aload_n 0, 1) := by decide +kernel
theorem d_Law_law_203 : decode Y_Law_law.2.1 203 = .ok (.iload_n 3, 1) := by decide +kernel
theorem d_Law_law_204 : decode Y_Law_law.2.1 204 = .ok (.iconst 1, 1) := by decide +kernel
theorem d_Law_law_205 : decode Y_Law_law.2.1 205 = .ok (.iadd, 1) := by decide +kernel
theorem d_Law_law_206 : decode Y_Law_law.2.1 206 = .ok (.iaload, 1) := by decide +kernel
theorem d_Law_law_207 : decode Y_Law_law.2.1 207 = .ok (.aload_n 0, 1) := by decide +kernel
theorem d_Law_law_208 : decode Y_Law_law.2.1 208 = .ok (.iload_n 3, 1) := by decide +kernel
theorem d_Law_law_209 : decode Y_Law_law.2.1 209 = .ok (.iconst 2, 1) := by decide +kernel
theorem d_Law_law_210 : decode Y_Law_law.2.1 210 = .ok (.iadd, 1) := by decide +kernel
theorem d_Law_law_211 : decode Y_Law_law.2.1 211 = .ok (.iaload, 1) := by decide +kernel
theorem d_Law_law_212 : decode Y_Law_law.2.1 212 = .ok (.aload_n 0, 1) := by decide +kernel
theorem d_Law_law_213 : decode Y_Law_law.2.1 213 = .ok (.iload_n 3, 1) := by decide +kernel
theorem d_Law_law_214 : decode Y_Law_law.2.1 214 = .ok (.iconst 3, 1) := by decide +kernel
theorem d_Law_law_215 : decode Y_Law_law.2.1 215 = .ok (.iadd, 1) := by decide +kernel
theorem d_Law_law_216 : decode Y_Law_law.2.1 216 = .ok (.iaload, 1) := by decide +kernel
theorem d_Law_law_217 : decode Y_Law_law.2.1 217 = .ok (.invokevirtual 26, 3) := by decide +kernel
theorem d_Law_law_220 : decode Y_Law_law.2.1 220 = .ok (.if_icmp .eq 573, 3) := by decide +kernel
theorem d_Law_law_223 : decode Y_Law_law.2.1 223 = .ok (.iconst 0, 1) := by decide +kernel
theorem d_Law_law_224 : decode Y_Law_law.2.1 224 = .ok (.ireturn, 1) := by decide +kernel
theorem d_Law_law_225 : decode Y_Law_law.2.1 225 = .ok (.aload_n 1, 1) := by decide +kernel
theorem d_Law_law_226 : decode Y_Law_law.2.1 226 = .ok (.aload_n 0, 1) := by decide +kernel
theorem d_Law_law_227 : decode Y_Law_law.2.1 227 = .ok (.iload_n 3, 1) := by decide +kernel
theorem d_Law_law_228 : decode Y_Law_law.2.1 228 = .ok (.iconst 1, 1) := by decide +kernel
theorem d_Law_law_229 : decode Y_Law_law.2.1 229 = .ok (.iadd, 1) := by decide +kernel
theorem d_Law_law_230 : decode Y_Law_law.2.1 230 = .ok (.iaload, 1) := by decide +kernel
theorem d_Law_law_231 : decode Y_Law_law.2.1 231 = .ok (.aload_n 0, 1) := by decide +kernel
theorem d_Law_law_232 : decode Y_Law_law.2.1 232 = .ok (.iload_n 3, 1) := by decide +kernel
theorem d_Law_law_233 : decode Y_Law_law.2.1 233 = .ok (.iconst 2, 1) := by decide +kernel
theorem d_Law_law_234 : decode Y_Law_law.2.1 234 = .ok (.iadd, 1) := by decide +kernel
theorem d_Law_law_235 : decode Y_Law_law.2.1 235 = .ok (.iaload, 1) := by decide +kernel
theorem d_Law_law_236 : decode Y_Law_law.2.1 236 = .ok (.aload_n 0, 1) := by decide +kernel
theorem d_Law_law_237 : decode Y_Law_law.2.1 237 = .ok (.iload_n 3, 1) := by decide +kernel
theorem d_Law_law_238 : decode Y_Law_law.2.1 238 = .ok (.iconst 3, 1) := by decide +kernel
theorem d_Law_law_239 : decode Y_Law_law.2.1 239 = .ok (.iadd, 1) := by decide +kernel
theorem d_Law_law_240 : decode Y_Law_law.2.1 240 = .ok (.iaload, 1) := by decide +kernel
theorem d_Law_law_241 : decode Y_Law_law.2.1 241 = .ok (.aload_n 0, 1) := by decide +kernel
theorem d_Law_law_242 : decode Y_Law_law.2.1 242 = .ok (.iload_n 3, 1) := by decide +kernel
theorem d_Law_law_243 : decode Y_Law_law.2.1 243 = .ok (.iconst 4, 1) := by decide +kernel
theorem d_Law_law_244 : decode Y_Law_law.2.1 244 = .ok (.iadd, 1) := by decide +kernel
theorem d_Law_law_245 : decode Y_Law_law.2.1 245 = .ok (.iaload, 1) := by decide +kernel
theorem d_Law_law_246 : decode Y_Law_law.2.1 246 = .ok (.invokevirtual 27, 3) := by decide +kernel
theorem d_Law_law_249 : decode Y_Law_law.2.1 249 = .ok (.aload_n 2, 1) := by decide +kernel
theorem d_Law_law_250 : decode Y_Law_law.2.1 250 = .ok (.aload_n 0, 1) := by decide +kernel
theorem d_Law_law_251 : decode Y_Law_law.2.1 251 = .ok (.iload_n 3, 1) := by decide +kernel
theorem d_Law_law_252 : decode Y_Law_law.2.1 252 = .ok (.iconst 1, 1) := by decide +kernel
theorem d_Law_law_253 : decode Y_Law_law.2.1 253 = .ok (.iadd, 1) := by decide +kernel
theorem d_Law_law_254 : decode Y_Law_law.2.1 254 = .ok (.iaload, 1) := by decide +kernel
theorem d_Law_law_255 : decode Y_Law_law.2.1 255 = .ok (.aload_n 0, 1) := by decide +kernel
theorem d_Law_law_256 : decode Y_Law_law.2.1 256 = .ok (.iload_n 3, 1) := by decide +kernel
theorem d_Law_law_257 : decode Y_Law_law.2.1 257 = .ok (.iconst 2, 1) := by decide +kernel
theorem d_Law_law_258 : decode Y_Law_law.2.1 258 = .ok (.iadd, 1) := by decide +kernel
theorem d_Law_law_259 : decode Y_Law_law.2.1 259 = .ok (.iaload, 1) := by decide +kernel
theorem d_Law_law_260 : decode Y_Law_law.2.1 260 = .ok (.aload_n 0, 1) := by decide +kernel
theorem d_Law_law_261 : decode Y_Law_law.2.1 261 = .ok (.iload_n 3, 1) := by decide +kernel
theorem d_Law_law_262 : decode Y_Law_law.2.1 262 = .ok (.iconst 3, 1) := by decide +kernel
theorem d_Law_law_263 : decode Y_Law_law.2.1 263 = .ok (.iadd, 1) := by decide +kernel
theorem d_Law_law_264 : decode Y_Law_law.2.1 264 = .ok (.iaload, 1) := by decide +kernel
theorem d_Law_law_265 : decode Y_Law_law.2.1 265 = .ok (.aload_n 0, 1) := by decide +kernel
theorem d_Law_law_266 : decode Y_Law_law.2.1 266 = .ok (.iload_n 3, 1) := by decide +kernel
theorem d_Law_law_267 : decode Y_Law_law.2.1 267 = .ok (.iconst 4, 1) := by decide +kernel
theorem d_Law_law_268 : decode Y_Law_law.2.1 268 = .ok (.iadd, 1) := by decide +kernel
theorem d_Law_law_269 : decode Y_Law_law.2.1 269 = .ok (.iaload, 1) := by decide +kernel
theorem d_Law_law_270 : decode Y_Law_law.2.1 270 = .ok (.invokevirtual 31, 3) := by decide +kernel
theorem d_Law_law_273 : decode Y_Law_law.2.1 273 = .ok (.if_icmp .eq 520, 3) := by decide +kernel
theorem d_Law_law_276 : decode Y_Law_law.2.1 276 = .ok (.iconst 0, 1) := by decide +kernel
theorem d_Law_law_277 : decode Y_Law_law.2.1 277 = .ok (.ireturn, 1) := by decide +kernel
theorem d_Law_law_278 : decode Y_Law_law.2.1 278 = .ok (.aload_n 1, 1) := by decide +kernel
theorem d_Law_law_279 : decode Y_Law_law.2.1 279 = .ok (.aload_n 0, 1) := by decide +kernel
theorem d_Law_law_280 : decode Y_Law_law.2.1 280 = .ok (.iload_n 3, 1) := by decide +kernel
theorem d_Law_law_281 : decode Y_Law_law.2.1 281 = .ok (.iconst 1, 1) := by decide +kernel
theorem d_Law_law_282 : decode Y_Law_law.2.1 282 = .ok (.iadd, 1) := by decide +kernel
theorem d_Law_law_283 : decode Y_Law_law.2.1 283 = .ok (.iaload, 1) := by decide +kernel
theorem d_Law_law_284 : decode Y_Law_law.2.1 284 = .ok (.aload_n 0, 1) := by decide +kernel
theorem d_Law_law_285 : decode Y_Law_law.2.1 285 = .ok (.iload_n 3, 1) := by decide +kernel
theorem d_Law_law_286 : decode Y_Law_law.2.1 286 = .ok (.iconst 2, 1) := by decide +kernel
theorem d_Law_law_287 : decode Y_Law_law.2.1 287 = .ok (.iadd, 1) := by decide +kernel
theorem d_Law_law_288 : decode Y_Law_law.2.1 288 = .ok (.iaload, 1) := by decide +kernel
theorem d_Law_law_289 : decode Y_Law_law.2.1 289 = .ok (.ifCond .eq 7, 3) := by decide +kernel
theorem d_Law_law_292 : decode Y_Law_law.2.1 292 = .ok (.iconst 1, 1) := by decide +kernel
theorem d_Law_law_293 : decode Y_Law_law.2.1 293 = .ok (.goto 4, 3) := by decide +kernel
theorem d_Law_law_296 : decode Y_Law_law.2.1 296 = .ok (.iconst 0, 1) := by decide +kernel
theorem d_Law_law_297 : decode Y_Law_law.2.1 297 = .ok (.invokevirtual 32, 3) := by decide +kernel
theorem d_Law_law_300 : decode Y_Law_law.2.1 300 = .ok (.aload_n 2, 1) := by decide +kernel
theorem d_Law_law_301 : decode Y_Law_law.2.1 301 = .ok (.aload_n 0, 1) := by decide +kernel
theorem d_Law_law_302 : decode Y_Law_law.2.1 302 = .ok (.iload_n 3, 1) := by decide +kernel
theorem d_Law_law_303 : decode Y_Law_law.2.1 303 = .ok (.iconst 1, 1) := by decide +kernel
theorem d_Law_law_304 : decode Y_Law_law.2.1 304 = .ok (.iadd, 1) := by decide +kernel
theorem d_Law_law_305 : decode Y_Law_law.2.1 305 = .ok (.iaload, 1) := by decide +kernel
theorem d_Law_law_306 : decode Y_Law_law.2.1 306 = .ok (.aload_n 0, 1) := by decide +kernel
theorem d_Law_law_307 : decode Y_Law_law.2.1 307 = .ok (.iload_n 3, 1) := by decide +kernel
theorem d_Law_law_308 : decode Y_Law_law.2.1 308 = .ok (.iconst 2, 1) := by decide +kernel
theorem d_Law_law_309 : decode Y_Law_law.2.1 309 = .ok (.iadd, 1) := by decide +kernel
theorem d_Law_law_310 : decode Y_Law_law.2.1 310 = .ok (.iaload, 1) := by decide +kernel
theorem d_Law_law_311 : decode Y_Law_law.2.1 311 = .ok (.ifCond .eq 7, 3) := by decide +kernel
theorem d_Law_law_314 : decode Y_Law_law.2.1 314 = .ok (.iconst 1, 1) := by decide +kernel
theorem d_Law_law_315 : decode Y_Law_law.2.1 315 = .ok (.goto 4, 3) := by decide +kernel
theorem d_Law_law_318 : decode Y_Law_law.2.1 318 = .ok (.iconst 0, 1) := by decide +kernel
theorem d_Law_law_319 : decode Y_Law_law.2.1 319 = .ok (.invokevirtual 36, 3) := by decide +kernel
theorem d_Law_law_322 : decode Y_Law_law.2.1 322 = .ok (.if_icmp .eq 471, 3) := by decide +kernel
theorem d_Law_law_325 : decode Y_Law_law.2.1 325 = .ok (.iconst 0, 1) := by decide +kernel
theorem d_Law_law_326 : decode Y_Law_law.2.1 326 = .ok (.ireturn, 1) := by decide +kernel
theorem d_Law_law_327 : decode Y_Law_law.2.1 327 = .ok (.aload_n 1, 1) := by decide +kernel
theorem d_Law_law_328 : decode Y_Law_law.2.1 328 = .ok (.aload_n 0, 1) := by decide +kernel
theorem d_Law_law_329 : decode Y_Law_law.2.1 329 = .ok (.iload_n 3, 1) := by decide +kernel
theorem d_Law_law_330 : decode Y_Law_law.2.1 330 = .ok (.iconst 1, 1) := by decide +kernel
theorem d_Law_law_331 : decode Y_Law_law.2.1 331 = .ok (.iadd, 1) := by decide +kernel
theorem d_Law_law_332 : decode Y_Law_law.2.1 332 = .ok (.iaload, 1) := by decide +kernel
theorem d_Law_law_333 : decode Y_Law_law.2.1 333 = .ok (.invokevirtual 37, 3) := by decide +kernel
theorem d_Law_law_336 : decode Y_Law_law.2.1 336 = .ok (.aload_n 2, 1) := by decide +kernel
theorem d_Law_law_337 : decode Y_Law_law.2.1 337 = .ok (.aload_n 0, 1) := by decide +kernel
theorem d_Law_law_338 : decode Y_Law_law.2.1 338 = .ok (.iload_n 3, 1) := by decide +kernel
theorem d_Law_law_339 : decode Y_Law_law.2.1 339 = .ok (.iconst 1, 1) := by decide +kernel
theorem d_Law_law_340 : decode Y_Law_law.2.1 340 = .ok (.iadd, 1) := by decide +kernel
theorem d_Law_law_341 : decode Y_Law_law.2.1 341 = .ok (.iaload, 1) := by decide +kernel
theorem d_Law_law_342 : decode Y_Law_law.2.1 342 = .ok (.invokevirtual 41, 3) := by decide +kernel
theorem d_Law_law_345 : decode Y_Law_law.2.1 345 = .ok (.if_icmp .eq 448, 3) := by decide +kernel
theorem d_Law_law_348 : decode Y_Law_law.2.1 348 = .ok (.iconst 0, 1) := by decide +kernel
theorem d_Law_law_349 : decode Y_Law_law.2.1 349 = .ok (.ireturn, 1) := by decide +kernel
theorem d_Law_law_350 : decode Y_Law_law.2.1 350 = .ok (.aload_n 1, 1) := by decide +kernel
theorem d_Law_law_351 : decode Y_Law_law.2.1 351 = .ok (.aload_n 0, 1) := by decide +kernel
theorem d_Law_law_352 : decode Y_Law_law.2.1 352 = .ok (.iload_n 3, 1) := by decide +kernel
theorem d_Law_law_353 : decode Y_Law_law.2.1 353 = .ok (.iconst 1, 1) := by decide +kernel
theorem d_Law_law_354 : decode Y_Law_law.2.1 354 = .ok (.iadd, 1) := by decide +kernel
theorem d_Law_law_355 : decode Y_Law_law.2.1 355 = .ok (.iaload, 1) := by decide +kernel
theorem d_Law_law_356 : decode Y_Law_law.2.1 356 = .ok (.aload_n 0, 1) := by decide +kernel
theorem d_Law_law_357 : decode Y_Law_law.2.1 357 = .ok (.iload_n 3, 1) := by decide +kernel
theorem d_Law_law_358 : decode Y_Law_law.2.1 358 = .ok (.iconst 2, 1) := by decide +kernel
theorem d_Law_law_359 : decode Y_Law_law.2.1 359 = .ok (.iadd, 1) := by decide +kernel
theorem d_Law_law_360 : decode Y_Law_law.2.1 360 = .ok (.iaload, 1) := by decide +kernel
theorem d_Law_law_361 : decode Y_Law_law.2.1 361 = .ok (.invokevirtual 42, 3) := by decide +kernel
theorem d_Law_law_364 : decode Y_Law_law.2.1 364 = .ok (.aload_n 2, 1) := by decide +kernel
theorem d_Law_law_365 : decode Y_Law_law.2.1 365 = .ok (.aload_n 0, 1) := by decide +kernel
theorem d_Law_law_366 : decode Y_Law_law.2.1 366 = .ok (.iload_n 3, 1) := by decide +kernel
theorem d_Law_law_367 : decode Y_Law_law.2.1 367 = .ok (.iconst 1, 1) := by decide +kernel
theorem d_Law_law_368 : decode Y_Law_law.2.1 368 = .ok (.iadd, 1) := by decide +kernel
theorem d_Law_law_369 : decode Y_Law_law.2.1 369 = .ok (.iaload, 1) := by decide +kernel
theorem d_Law_law_370 : decode Y_Law_law.2.1 370 = .ok (.aload_n 0, 1) := by decide +kernel
theorem d_Law_law_371 : decode Y_Law_law.2.1 371 = .ok (.iload_n 3, 1) := by decide +kernel
theorem d_Law_law_372 : decode Y_Law_law.2.1 372 = .ok (.iconst 2, 1) := by decide +kernel
theorem d_Law_law_373 : decode Y_Law_law.2.1 373 = .ok (.iadd, 1) := by decide +kernel
theorem d_Law_law_374 : decode Y_Law_law.2.1 374 = .ok (.iaload, 1) := by decide +kernel
theorem d_Law_law_375 : decode Y_Law_law.2.1 375 = .ok (.invokevirtual 45, 3) := by decide +kernel
theorem d_Law_law_378 : decode Y_Law_law.2.1 378 = .ok (.if_icmp .eq 415, 3) := by decide +kernel
theorem d_Law_law_381 : decode Y_Law_law.2.1 381 = .ok (.iconst 0, 1) := by decide +kernel
theorem d_Law_law_382 : decode Y_Law_law.2.1 382 = .ok (.ireturn, 1) := by decide +kernel
theorem d_Law_law_383 : decode Y_Law_law.2.1 383 = .ok (.aload_n 1, 1) := by decide +kernel
theorem d_Law_law_384 : decode Y_Law_law.2.1 384 = .ok (.aload_n 0, 1) := by decide +kernel
theorem d_Law_law_385 : decode Y_Law_law.2.1 385 = .ok (.iload_n 3, 1) := by decide +kernel
theorem d_Law_law_386 : decode Y_Law_law.2.1 386 = .ok (.iconst 1, 1) := by decide +kernel
theorem d_Law_law_387 : decode Y_Law_law.2.1 387 = .ok (.iadd, 1) := by decide +kernel
theorem d_Law_law_388 : decode Y_Law_law.2.1 388 = .ok (.iaload, 1) := by decide +kernel
theorem d_Law_law_389 : decode Y_Law_law.2.1 389 = .ok (.aload_n 0, 1) := by decide +kernel
theorem d_Law_law_390 : decode Y_Law_law.2.1 390 = .ok (.iload_n 3, 1) := by decide +kernel
theorem d_Law_law_391 : decode Y_Law_law.2.1 391 = .ok (.iconst 2, 1) := by decide +kernel
theorem d_Law_law_392 : decode Y_Law_law.2.1 392 = .ok (.iadd, 1) := by decide +kernel
theorem d_Law_law_393 : decode Y_Law_law.2.1 393 = .ok (.iaload, 1) := by decide +kernel
theorem d_Law_law_394 : decode Y_Law_law.2.1 394 = .ok (.invokevirtual 46, 3) := by decide +kernel
theorem d_Law_law_397 : decode Y_Law_law.2.1 397 = .ok (.aload_n 2, 1) := by decide +kernel
theorem d_Law_law_398 : decode Y_Law_law.2.1 398 = .ok (.aload_n 0, 1) := by decide +kernel
theorem d_Law_law_399 : decode Y_Law_law.2.1 399 = .ok (.iload_n 3, 1) := by decide +kernel
theorem d_Law_law_400 : decode Y_Law_law.2.1 400 = .ok (.iconst 1, 1) := by decide +kernel
theorem d_Law_law_401 : decode Y_Law_law.2.1 401 = .ok (.iadd, 1) := by decide +kernel
theorem d_Law_law_402 : decode Y_Law_law.2.1 402 = .ok (.iaload, 1) := by decide +kernel
theorem d_Law_law_403 : decode Y_Law_law.2.1 403 = .ok (.aload_n 0, 1) := by decide +kernel
theorem d_Law_law_404 : decode Y_Law_law.2.1 404 = .ok (.iload_n 3, 1) := by decide +kernel
theorem d_Law_law_405 : decode Y_Law_law.2.1 405 = .ok (.iconst 2, 1) := by decide +kernel
theorem d_Law_law_406 : decode Y_Law_law.2.1 406 = .ok (.iadd, 1) := by decide +kernel
theorem d_Law_law_407 : decode Y_Law_law.2.1 407 = .ok (.iaload, 1) := by decide +kernel
theorem d_Law_law_408 : decode Y_Law_law.2.1 408 = .ok (.invokevirtual 49, 3) := by decide +kernel
theorem d_Law_law_411 : decode Y_Law_law.2.1 411 = .ok (.if_icmp .eq 382, 3) := by decide +kernel
theorem d_Law_law_414 : decode Y_Law_law.2.1 414 = .ok (.iconst 0, 1) := by decide +kernel
theorem d_Law_law_415 : decode Y_Law_law.2.1 415 = .ok (.ireturn, 1) := by decide +kernel
theorem d_Law_law_416 : decode Y_Law_law.2.1 416 = .ok (.aload_n 1, 1) := by decide +kernel
theorem d_Law_law_417 : decode Y_Law_law.2.1 417 = .ok (.aload_n 0, 1) := by decide +kernel
theorem d_Law_law_418 : decode Y_Law_law.2.1 418 = .ok (.iload_n 3, 1) := by decide +kernel
theorem d_Law_law_419 : decode Y_Law_law.2.1 419 = .ok (.iconst 1, 1) := by decide +kernel
theorem d_Law_law_420 : decode Y_Law_law.2.1 420 = .ok (.iadd, 1) := by decide +kernel
theorem d_Law_law_421 : decode Y_Law_law.2.1 421 = .ok (.iaload, 1) := by decide +kernel
theorem d_Law_law_422 : decode Y_Law_law.2.1 422 = .ok (.aload_n 0, 1) := by decide +kernel
theorem d_Law_law_423 : decode Y_Law_law.2.1 423 = .ok (.iload_n 3, 1) := by decide +kernel
theorem d_Law_law_424 : decode Y_Law_law.2.1 424 = .ok (.iconst 2, 1) := by decide +kernel
theorem d_Law_law_425 : decode Y_Law_law.2.1 425 = .ok (.iadd, 1) := by decide +kernel
theorem d_Law_law_426 : decode Y_Law_law.2.1 426 = .ok (.iaload, 1) := by decide +kernel
theorem d_Law_law_427 : decode Y_Law_law.2.1 427 = .ok (.aload_n 0, 1) := by decide +kernel
theorem d_Law_law_428 : decode Y_Law_law.2.1 428 = .ok (.iload_n 3, 1) := by decide +kernel
theorem d_Law_law_429 : decode Y_Law_law.2.1 429 = .ok (.iconst 3, 1) := by decide +kernel
theorem d_Law_law_430 : decode Y_Law_law.2.1 430 = .ok (.iadd, 1) := by decide +kernel
theorem d_Law_law_431 : decode Y_Law_law.2.1 431 = .ok (.iaload, 1) := by decide +kernel
theorem d_Law_law_432 : decode Y_Law_law.2.1 432 = .ok (.invokevirtual 50, 3) := by decide +kernel
theorem d_Law_law_435 : decode Y_Law_law.2.1 435 = .ok (.aload_n 2, 1) := by decide +kernel
theorem d_Law_law_436 : decode Y_Law_law.2.1 436 = .ok (.aload_n 0, 1) := by decide +kernel
theorem d_Law_law_437 : decode Y_Law_law.2.1 437 = .ok (.iload_n 3, 1) := by decide +kernel
theorem d_Law_law_438 : decode Y_Law_law.2.1 438 = .ok (.iconst 1, 1) := by decide +kernel
theorem d_Law_law_439 : decode Y_Law_law.2.1 439 = .ok (.iadd, 1) := by decide +kernel
theorem d_Law_law_440 : decode Y_Law_law.2.1 440 = .ok (.iaload, 1) := by decide +kernel
theorem d_Law_law_441 : decode Y_Law_law.2.1 441 = .ok (.aload_n 0, 1) := by decide +kernel
theorem d_Law_law_442 : decode Y_Law_law.2.1 442 = .ok (.iload_n 3, 1) := by decide +kernel
theorem d_Law_law_443 : decode Y_Law_law.2.1 443 = .ok (.iconst 2, 1) := by decide +kernel
theorem d_Law_law_444 : decode Y_Law_law.2.1 444 = .ok (.iadd, 1) := by decide +kernel
theorem d_Law_law_445 : decode Y_Law_law.2.1 445 = .ok (.iaload, 1) := by decide +kernel
theorem d_Law_law_446 : decode Y_Law_law.2.1 446 = .ok (.aload_n 0, 1) := by decide +kernel
theorem d_Law_law_447 : decode Y_Law_law.2.1 447 = .ok (.iload_n 3, 1) := by decide +kernel
theorem d_Law_law_448 : decode Y_Law_law.2.1 448 = .ok (.iconst 3, 1) := by decide +kernel
theorem d_Law_law_449 : decode Y_Law_law.2.1 449 = .ok (.iadd, 1) := by decide +kernel
theorem d_Law_law_450 : decode Y_Law_law.2.1 450 = .ok (.iaload, 1) := by decide +kernel
theorem d_Law_law_451 : decode Y_Law_law.2.1 451 = .ok (.invokevirtual 53, 3) := by decide +kernel
theorem d_Law_law_454 : decode Y_Law_law.2.1 454 = .ok (.if_icmp .eq 339, 3) := by decide +kernel
theorem d_Law_law_457 : decode Y_Law_law.2.1 457 = .ok (.iconst 0, 1) := by decide +kernel
theorem d_Law_law_458 : decode Y_Law_law.2.1 458 = .ok (.ireturn, 1) := by decide +kernel
theorem d_Law_law_459 : decode Y_Law_law.2.1 459 = .ok (.aload_n 1, 1) := by decide +kernel
theorem d_Law_law_460 : decode Y_Law_law.2.1 460 = .ok (.aload_n 0, 1) := by decide +kernel
theorem d_Law_law_461 : decode Y_Law_law.2.1 461 = .ok (.iload_n 3, 1) := by decide +kernel
theorem d_Law_law_462 : decode Y_Law_law.2.1 462 = .ok (.iconst 1, 1) := by decide +kernel
theorem d_Law_law_463 : decode Y_Law_law.2.1 463 = .ok (.iadd, 1) := by decide +kernel
theorem d_Law_law_464 : decode Y_Law_law.2.1 464 = .ok (.iaload, 1) := by decide +kernel
theorem d_Law_law_465 : decode Y_Law_law.2.1 465 = .ok (.aload_n 0, 1) := by decide +kernel
theorem d_Law_law_466 : decode Y_Law_law.2.1 466 = .ok (.iload_n 3, 1) := by decide +kernel
theorem d_Law_law_467 : decode Y_Law_law.2.1 467 = .ok (.iconst 2, 1) := by decide +kernel
theorem d_Law_law_468 : decode Y_Law_law.2.1 468 = .ok (.iadd, 1) := by decide +kernel
theorem d_Law_law_469 : decode Y_Law_law.2.1 469 = .ok (.iaload, 1) := by decide +kernel
theorem d_Law_law_470 : decode Y_Law_law.2.1 470 = .ok (.invokevirtual 54, 3) := by decide +kernel
theorem d_Law_law_473 : decode Y_Law_law.2.1 473 = .ok (.aload_n 2, 1) := by decide +kernel
theorem d_Law_law_474 : decode Y_Law_law.2.1 474 = .ok (.aload_n 0, 1) := by decide +kernel
theorem d_Law_law_475 : decode Y_Law_law.2.1 475 = .ok (.iload_n 3, 1) := by decide +kernel
theorem d_Law_law_476 : decode Y_Law_law.2.1 476 = .ok (.iconst 1, 1) := by decide +kernel
theorem d_Law_law_477 : decode Y_Law_law.2.1 477 = .ok (.iadd, 1) := by decide +kernel
theorem d_Law_law_478 : decode Y_Law_law.2.1 478 = .ok (.iaload, 1) := by decide +kernel
theorem d_Law_law_479 : decode Y_Law_law.2.1 479 = .ok (.aload_n 0, 1) := by decide +kernel
theorem d_Law_law_480 : decode Y_Law_law.2.1 480 = .ok (.iload_n 3, 1) := by decide +kernel
theorem d_Law_law_481 : decode Y_Law_law.2.1 481 = .ok (.iconst 2, 1) := by decide +kernel
theorem d_Law_law_482 : decode Y_Law_law.2.1 482 = .ok (.iadd, 1) := by decide +kernel
theorem d_Law_law_483 : decode Y_Law_law.2.1 483 = .ok (.iaload, 1) := by decide +kernel
theorem d_Law_law_484 : decode Y_Law_law.2.1 484 = .ok (.invokevirtual 57, 3) := by decide +kernel
theorem d_Law_law_487 : decode Y_Law_law.2.1 487 = .ok (.if_icmp .eq 306, 3) := by decide +kernel
theorem d_Law_law_490 : decode Y_Law_law.2.1 490 = .ok (.iconst 0, 1) := by decide +kernel
theorem d_Law_law_491 : decode Y_Law_law.2.1 491 = .ok (.ireturn, 1) := by decide +kernel
theorem d_Law_law_492 : decode Y_Law_law.2.1 492 = .ok (.aload_n 1, 1) := by decide +kernel
theorem d_Law_law_493 : decode Y_Law_law.2.1 493 = .ok (.aload_n 0, 1) := by decide +kernel
theorem d_Law_law_494 : decode Y_Law_law.2.1 494 = .ok (.iload_n 3, 1) := by decide +kernel
theorem d_Law_law_495 : decode Y_Law_law.2.1 495 = .ok (.iconst 1, 1) := by decide +kernel
theorem d_Law_law_496 : decode Y_Law_law.2.1 496 = .ok (.iadd, 1) := by decide +kernel
theorem d_Law_law_497 : decode Y_Law_law.2.1 497 = .ok (.iaload, 1) := by decide +kernel
theorem d_Law_law_498 : decode Y_Law_law.2.1 498 = .ok (.aload_n 0, 1) := by decide +kernel
theorem d_Law_law_499 : decode Y_Law_law.2.1 499 = .ok (.iload_n 3, 1) := by decide +kernel
theorem d_Law_law_500 : decode Y_Law_law.2.1 500 = .ok (.iconst 2, 1) := by decide +kernel
theorem d_Law_law_501 : decode Y_Law_law.2.1 501 = .ok (.iadd, 1) := by decide +kernel
theorem d_Law_law_502 : decode Y_Law_law.2.1 502 = .ok (.iaload, 1) := by decide +kernel
theorem d_Law_law_503 : decode Y_Law_law.2.1 503 = .ok (.invokevirtual 58, 3) := by decide +kernel
theorem d_Law_law_506 : decode Y_Law_law.2.1 506 = .ok (.aload_n 2, 1) := by decide +kernel
theorem d_Law_law_507 : decode Y_Law_law.2.1 507 = .ok (.aload_n 0, 1) := by decide +kernel
theorem d_Law_law_508 : decode Y_Law_law.2.1 508 = .ok (.iload_n 3, 1) := by decide +kernel
theorem d_Law_law_509 : decode Y_Law_law.2.1 509 = .ok (.iconst 1, 1) := by decide +kernel
theorem d_Law_law_510 : decode Y_Law_law.2.1 510 = .ok (.iadd, 1) := by decide +kernel
theorem d_Law_law_511 : decode Y_Law_law.2.1 511 = .ok (.iaload, 1) := by decide +kernel
theorem d_Law_law_512 : decode Y_Law_law.2.1 512 = .ok (.aload_n 0, 1) := by decide +kernel
theorem d_Law_law_513 : decode Y_Law_law.2.1 513 = .ok (.iload_n 3, 1) := by decide +kernel
theorem d_Law_law_514 : decode Y_Law_law.2.1 514 = .ok (.iconst 2, 1) := by decide +kernel
theorem d_Law_law_515 : decode Y_Law_law.2.1 515 = .ok (.iadd, 1) := by decide +kernel
theorem d_Law_law_516 : decode Y_Law_law.2.1 516 = .ok (.iaload, 1) := by decide +kernel
theorem d_Law_law_517 : decode Y_Law_law.2.1 517 = .ok (.invokevirtual 61, 3) := by decide +kernel
theorem d_Law_law_520 : decode Y_Law_law.2.1 520 = .ok (.if_icmp .eq 273, 3) := by decide +kernel
theorem d_Law_law_523 : decode Y_Law_law.2.1 523 = .ok (.iconst 0, 1) := by decide +kernel
theorem d_Law_law_524 : decode Y_Law_law.2.1 524 = .ok (.ireturn, 1) := by decide +kernel
theorem d_Law_law_525 : decode Y_Law_law.2.1 525 = .ok (.aload_n 1, 1) := by decide +kernel
theorem d_Law_law_526 : decode Y_Law_law.2.1 526 = .ok (.aload_n 0, 1) := by decide +kernel
theorem d_Law_law_527 : decode Y_Law_law.2.1 527 = .ok (.iload_n 3, 1) := by decide +kernel
theorem d_Law_law_528 : decode Y_Law_law.2.1 528 = .ok (.iconst 1, 1) := by decide +kernel
theorem d_Law_law_529 : decode Y_Law_law.2.1 529 = .ok (.iadd, 1) := by decide +kernel
theorem d_Law_law_530 : decode Y_Law_law.2.1 530 = .ok (.iaload, 1) := by decide +kernel
theorem d_Law_law_531 : decode Y_Law_law.2.1 531 = .ok (.aload_n 0, 1) := by decide +kernel
theorem d_Law_law_532 : decode Y_Law_law.2.1 532 = .ok (.iload_n 3, 1) := by decide +kernel
theorem d_Law_law_533 : decode Y_Law_law.2.1 533 = .ok (.iconst 2, 1) := by decide +kernel
theorem d_Law_law_534 : decode Y_Law_law.2.1 534 = .ok (.iadd, 1) := by decide +kernel
theorem d_Law_law_535 : decode Y_Law_law.2.1 535 = .ok (.iaload, 1) := by decide +kernel
theorem d_Law_law_536 : decode Y_Law_law.2.1 536 = .ok (.aload_n 0, 1) := by decide +kernel
theorem d_Law_law_537 : decode Y_Law_law.2.1 537 = .ok (.iload_n 3, 1) := by decide +kernel
theorem d_Law_law_538 : decode Y_Law_law.2.1 538 = .ok (.iconst 3, 1) := by decide +kernel
theorem d_Law_law_539 : decode Y_Law_law.2.1 539 = .ok (.iadd, 1) := by decide +kernel
theorem d_Law_law_540 : decode Y_Law_law.2.1 540 = .ok (.iaload, 1) := by decide +kernel
theorem d_Law_law_541 : decode Y_Law_law.2.1 541 = .ok (.invokevirtual 62, 3) := by decide +kernel
theorem d_Law_law_544 : decode Y_Law_law.2.1 544 = .ok (.aload_n 2, 1) := by decide +kernel
theorem d_Law_law_545 : decode Y_Law_law.2.1 545 = .ok (.aload_n 0, 1) := by decide +kernel
theorem d_Law_law_546 : decode Y_Law_law.2.1 546 = .ok (.iload_n 3, 1) := by decide +kernel
theorem d_Law_law_547 : decode Y_Law_law.2.1 547 = .ok (.iconst 1, 1) := by decide +kernel
theorem d_Law_law_548 : decode Y_Law_law.2.1 548 = .ok (.iadd, 1) := by decide +kernel
theorem d_Law_law_549 : decode Y_Law_law.2.1 549 = .ok (.iaload, 1) := by decide +kernel
theorem d_Law_law_550 : decode Y_Law_law.2.1 550 = .ok (.aload_n 0, 1) := by decide +kernel
theorem d_Law_law_551 : decode Y_Law_law.2.1 551 = .ok (.iload_n 3, 1) := by decide +kernel
theorem d_Law_law_552 : decode Y_Law_law.2.1 552 = .ok (.iconst 2, 1) := by decide +kernel
theorem d_Law_law_553 : decode Y_Law_law.2.1 553 = .ok (.iadd, 1) := by decide +kernel
theorem d_Law_law_554 : decode Y_Law_law.2.1 554 = .ok (.iaload, 1) := by decide +kernel
theorem d_Law_law_555 : decode Y_Law_law.2.1 555 = .ok (.aload_n 0, 1) := by decide +kernel
theorem d_Law_law_556 : decode Y_Law_law.2.1 556 = .ok (.iload_n 3, 1) := by decide +kernel
theorem d_Law_law_557 : decode Y_Law_law.2.1 557 = .ok (.iconst 3, 1) := by decide +kernel
theorem d_Law_law_558 : decode Y_Law_law.2.1 558 = .ok (.iadd, 1) := by decide +kernel
theorem d_Law_law_559 : decode Y_Law_law.2.1 559 = .ok (.iaload, 1) := by decide +kernel
theorem d_Law_law_560 : decode Y_Law_law.2.1 560 = .ok (.invokevirtual 65, 3) := by decide +kernel
theorem d_Law_law_563 : decode Y_Law_law.2.1 563 = .ok (.if_icmp .eq 230, 3) := by decide +kernel
theorem d_Law_law_566 : decode Y_Law_law.2.1 566 = .ok (.iconst 0, 1) := by decide +kernel
theorem d_Law_law_567 : decode Y_Law_law.2.1 567 = .ok (.ireturn, 1) := by decide +kernel
theorem d_Law_law_568 : decode Y_Law_law.2.1 568 = .ok (.aload_n 1, 1) := by decide +kernel
theorem d_Law_law_569 : decode Y_Law_law.2.1 569 = .ok (.aload_n 0, 1) := by decide +kernel
theorem d_Law_law_570 : decode Y_Law_law.2.1 570 = .ok (.iload_n 3, 1) := by decide +kernel
theorem d_Law_law_571 : decode Y_Law_law.2.1 571 = .ok (.iconst 1, 1) := by decide +kernel
theorem d_Law_law_572 : decode Y_Law_law.2.1 572 = .ok (.iadd, 1) := by decide +kernel
theorem d_Law_law_573 : decode Y_Law_law.2.1 573 = .ok (.iaload, 1) := by decide +kernel
theorem d_Law_law_574 : decode Y_Law_law.2.1 574 = .ok (.aload_n 0, 1) := by decide +kernel
theorem d_Law_law_575 : decode Y_Law_law.2.1 575 = .ok (.iload_n 3, 1) := by decide +kernel
theorem d_Law_law_576 : decode Y_Law_law.2.1 576 = .ok (.iconst 2, 1) := by decide +kernel
theorem d_Law_law_577 : decode Y_Law_law.2.1 577 = .ok (.iadd, 1) := by decide +kernel
theorem d_Law_law_578 : decode Y_Law_law.2.1 578 = .ok (.iaload, 1) := by decide +kernel
theorem d_Law_law_579 : decode Y_Law_law.2.1 579 = .ok (.aload_n 0, 1) := by decide +kernel
theorem d_Law_law_580 : decode Y_Law_law.2.1 580 = .ok (.iload_n 3, 1) := by decide +kernel
theorem d_Law_law_581 : decode Y_Law_law.2.1 581 = .ok (.iconst 3, 1) := by decide +kernel
theorem d_Law_law_582 : decode Y_Law_law.2.1 582 = .ok (.iadd, 1) := by decide +kernel
theorem d_Law_law_583 : decode Y_Law_law.2.1 583 = .ok (.iaload, 1) := by decide +kernel
theorem d_Law_law_584 : decode Y_Law_law.2.1 584 = .ok (.invokevirtual 66, 3) := by decide +kernel
theorem d_Law_law_587 : decode Y_Law_law.2.1 587 = .ok (.aload_n 2, 1) := by decide +kernel
theorem d_Law_law_588 : decode Y_Law_law.2.1 588 = .ok (.aload_n 0, 1) := by decide +kernel
theorem d_Law_law_589 : decode Y_Law_law.2.1 589 = .ok (.iload_n 3, 1) := by decide +kernel
theorem d_Law_law_590 : decode Y_Law_law.2.1 590 = .ok (.iconst 1, 1) := by decide +kernel
theorem d_Law_law_591 : decode Y_Law_law.2.1 591 = .ok (.iadd, 1) := by decide +kernel
theorem d_Law_law_592 : decode Y_Law_law.2.1 592 = .ok (.iaload, 1) := by decide +kernel
theorem d_Law_law_593 : decode Y_Law_law.2.1 593 = .ok (.aload_n 0, 1) := by decide +kernel
theorem d_Law_law_594 : decode Y_Law_law.2.1 594 = .ok (.iload_n 3, 1) := by decide +kernel
theorem d_Law_law_595 : decode Y_Law_law.2.1 595 = .ok (.iconst 2, 1) := by decide +kernel
theorem d_Law_law_596 : decode Y_Law_law.2.1 596 = .ok (.iadd, 1) := by decide +kernel
theorem d_Law_law_597 : decode Y_Law_law.2.1 597 = .ok (.iaload, 1) := by decide +kernel
theorem d_Law_law_598 : decode Y_Law_law.2.1 598 = .ok (.aload_n 0, 1) := by decide +kernel
theorem d_Law_law_599 : decode Y_Law_law.2.1 599 = .ok (.iload_n 3, 1) := by decide +kernel
theorem d_Law_law_600 : decode Y_Law_law.2.1 600 = .ok (.iconst 3, 1) := by decide +kernel
theorem d_Law_law_601 : decode Y_Law_law.2.1 601 = .ok (.iadd, 1) := by decide +kernel
theorem d_Law_law_602 : decode Y_Law_law.2.1 602 = .ok (.iaload, 1) := by decide +kernel
theorem d_Law_law_603 : decode Y_Law_law.2.1 603 = .ok (.invokevirtual 69, 3) := by decide +kernel
theorem d_Law_law_606 : decode Y_Law_law.2.1 606 = .ok (.if_icmp .eq 187, 3) := by decide +kernel
theorem d_Law_law_609 : decode Y_Law_law.2.1 609 = .ok (.iconst 0, 1) := by decide +kernel
theorem d_Law_law_610 : decode Y_Law_law.2.1 610 = .ok (.ireturn, 1) := by decide +kernel
theorem d_Law_law_611 : decode Y_Law_law.2.1 611 = .ok (.aload_n 1, 1) := by decide +kernel
theorem d_Law_law_612 : decode Y_Law_law.2.1 612 = .ok (.aload_n 0, 1) := by decide +kernel
theorem d_Law_law_613 : decode Y_Law_law.2.1 613 = .ok (.iload_n 3, 1) := by decide +kernel
theorem d_Law_law_614 : decode Y_Law_law.2.1 614 = .ok (.iconst 1, 1) := by decide +kernel
theorem d_Law_law_615 : decode Y_Law_law.2.1 615 = .ok (.iadd, 1) := by decide +kernel
theorem d_Law_law_616 : decode Y_Law_law.2.1 616 = .ok (.iaload, 1) := by decide +kernel
theorem d_Law_law_617 : decode Y_Law_law.2.1 617 = .ok (.aload_n 0, 1) := by decide +kernel
theorem d_Law_law_618 : decode Y_Law_law.2.1 618 = .ok (.iload_n 3, 1) := by decide +kernel
theorem d_Law_law_619 : decode Y_Law_law.2.1 619 = .ok (.iconst 2, 1) := by decide +kernel
theorem d_Law_law_620 : decode Y_Law_law.2.1 620 = .ok (.iadd, 1) := by decide +kernel
theorem d_Law_law_621 : decode Y_Law_law.2.1 621 = .ok (.iaload, 1) := by decide +kernel
theorem d_Law_law_622 : decode Y_Law_law.2.1 622 = .ok (.invokevirtual 70, 3) := by decide +kernel
theorem d_Law_law_625 : decode Y_Law_law.2.1 625 = .ok (.aload_n 2, 1) := by decide +kernel
theorem d_Law_law_626 : decode Y_Law_law.2.1 626 = .ok (.aload_n 0, 1) := by decide +kernel
theorem d_Law_law_627 : decode Y_Law_law.2.1 627 = .ok (.iload_n 3, 1) := by decide +kernel
theorem d_Law_law_628 : decode Y_Law_law.2.1 628 = .ok (.iconst 1, 1) := by decide +kernel
theorem d_Law_law_629 : decode Y_Law_law.2.1 629 = .ok (.iadd, 1) := by decide +kernel
theorem d_Law_law_630 : decode Y_Law_law.2.1 630 = .ok (.iaload, 1) := by decide +kernel
theorem d_Law_law_631 : decode Y_Law_law.2.1 631 = .ok (.aload_n 0, 1) := by decide +kernel
theorem d_Law_law_632 : decode Y_Law_law.2.1 632 = .ok (.iload_n 3, 1) := by decide +kernel
theorem d_Law_law_633 : decode Y_Law_law.2.1 633 = .ok (.iconst 2, 1) := by decide +kernel
theorem d_Law_law_634 : decode Y_Law_law.2.1 634 = .ok (.iadd, 1) := by decide +kernel
theorem d_Law_law_635 : decode Y_Law_law.2.1 635 = .ok (.iaload, 1) := by decide +kernel
theorem d_Law_law_636 : decode Y_Law_law.2.1 636 = .ok (.invokevirtual 73, 3) := by decide +kernel
theorem d_Law_law_639 : decode Y_Law_law.2.1 639 = .ok (.if_icmp .eq 154, 3) := by decide +kernel
theorem d_Law_law_642 : decode Y_Law_law.2.1 642 = .ok (.iconst 0, 1) := by decide +kernel
theorem d_Law_law_643 : decode Y_Law_law.2.1 643 = .ok (.ireturn, 1) := by decide +kernel
theorem d_Law_law_644 : decode Y_Law_law.2.1 644 = .ok (.aload_n 1, 1) := by decide +kernel
theorem d_Law_law_645 : decode Y_Law_law.2.1 645 = .ok (.aload_n 0, 1) := by decide +kernel
theorem d_Law_law_646 : decode Y_Law_law.2.1 646 = .ok (.iload_n 3, 1) := by decide +kernel
theorem d_Law_law_647 : decode Y_Law_law.2.1 647 = .ok (.iconst 1, 1) := by decide +kernel
theorem d_Law_law_648 : decode Y_Law_law.2.1 648 = .ok (.iadd, 1) := by decide +kernel
theorem d_Law_law_649 : decode Y_Law_law.2.1 649 = .ok (.iaload, 1) := by decide +kernel
theorem d_Law_law_650 : decode Y_Law_law.2.1 650 = .ok (.aload_n 0, 1) := by decide +kernel
theorem d_Law_law_651 : decode Y_Law_law.2.1 651 = .ok (.iload_n 3, 1) := by decide +kernel
theorem d_Law_law_652 : decode Y_Law_law.2.1 652 = .ok (.iconst 2, 1) := by decide +kernel
theorem d_Law_law_653 : decode Y_Law_law.2.1 653 = .ok (.iadd, 1) := by decide +kernel
theorem d_Law_law_654 : decode Y_Law_law.2.1 654 = .ok (.iaload, 1) := by decide +kernel
theorem d_Law_law_655 : decode Y_Law_law.2.1 655 = .ok (.invokevirtual 74, 3) := by decide +kernel
theorem d_Law_law_658 : decode Y_Law_law.2.1 658 = .ok (.aload_n 2, 1) := by decide +kernel
theorem d_Law_law_659 : decode Y_Law_law.2.1 659 = .ok (.aload_n 0, 1) := by decide +kernel
theorem d_Law_law_660 : decode Y_Law_law.2.1 660 = .ok (.iload_n 3, 1) := by decide +kernel
theorem d_Law_law_661 : decode Y_Law_law.2.1 661 = .ok (.iconst 1, 1) := by decide +kernel
theorem d_Law_law_662 : decode Y_Law_law.2.1 662 = .ok (.iadd, 1) := by decide +kernel
theorem d_Law_law_663 : decode Y_Law_law.2.1 663 = .ok (.iaload, 1) := by decide +kernel
theorem d_Law_law_664 : decode Y_Law_law.2.1 664 = .ok (.aload_n 0, 1) := by decide +kernel
theorem d_Law_law_665 : decode Y_Law_law.2.1 665 = .ok (.iload_n 3, 1) := by decide +kernel
theorem d_Law_law_666 : decode Y_Law_law.2.1 666 = .ok (.iconst 2, 1) := by decide +kernel
theorem d_Law_law_667 : decode Y_Law_law.2.1 667 = .ok (.iadd, 1) := by decide +kernel
theorem d_Law_law_668 : decode Y_Law_law.2.1 668 = .ok (.iaload, 1) := by decide +kernel
theorem d_Law_law_669 : decode Y_Law_law.2.1 669 = .ok (.invokevirtual 77, 3) := by decide +kernel
theorem d_Law_law_672 : decode Y_Law_law.2.1 672 = .ok (.if_icmp .eq 121, 3) := by decide +kernel
theorem d_Law_law_675 : decode Y_Law_law.2.1 675 = .ok (.iconst 0, 1) := by decide +kernel
theorem d_Law_law_676 : decode Y_Law_law.2.1 676 = .ok (.ireturn, 1) := by decide +kernel
theorem d_Law_law_677 : decode Y_Law_law.2.1 677 = .ok (.aload_n 1, 1) := by decide +kernel
theorem d_Law_law_678 : decode Y_Law_law.2.1 678 = .ok (.aload_n 0, 1) := by decide +kernel
theorem d_Law_law_679 : decode Y_Law_law.2.1 679 = .ok (.iload_n 3, 1) := by decide +kernel
theorem d_Law_law_680 : decode Y_Law_law.2.1 680 = .ok (.iconst 1, 1) := by decide +kernel
theorem d_Law_law_681 : decode Y_Law_law.2.1 681 = .ok (.iadd, 1) := by decide +kernel
theorem d_Law_law_682 : decode Y_Law_law.2.1 682 = .ok (.iaload, 1) := by decide +kernel
theorem d_Law_law_683 : decode Y_Law_law.2.1 683 = .ok (.i2l, 1) := by decide +kernel
theorem d_Law_law_684 : decode Y_Law_law.2.1 684 = .ok (.bipush 32, 2) := by decide +kernel
theorem d_Law_law_686 : decode Y_Law_law.2.1 686 = .ok (.lshl, 1) := by decide +kernel
theorem d_Law_law_687 : decode Y_Law_law.2.1 687 = .ok (.aload_n 0, 1) := by decide +kernel
theorem d_Law_law_688 : decode Y_Law_law.2.1 688 = .ok (.iload_n 3, 1) := by decide +kernel
theorem d_Law_law_689 : decode Y_Law_law.2.1 689 = .ok (.iconst 2, 1) := by decide +kernel
theorem d_Law_law_690 : decode Y_Law_law.2.1 690 = .ok (.iadd, 1) := by decide +kernel
theorem d_Law_law_691 : decode Y_Law_law.2.1 691 = .ok (.iaload, 1) := by decide +kernel
theorem d_Law_law_692 : decode Y_Law_law.2.1 692 = .ok (.i2l, 1) := by decide +kernel
theorem d_Law_law_693 : decode Y_Law_law.2.1 693 = .ok (.ldc2_w 78, 3) := by decide +kernel
theorem d_Law_law_696 : decode Y_Law_law.2.1 696 = .ok (.land, 1) := by decide +kernel
theorem d_Law_law_697 : decode Y_Law_law.2.1 697 = .ok (.lor, 1) := by decide +kernel
theorem d_Law_law_698 : decode Y_Law_law.2.1 698 = .ok (.aload_n 0, 1) := by decide +kernel
theorem d_Law_law_699 : decode Y_Law_law.2.1 699 = .ok (.iload_n 3, 1) := by decide +kernel
theorem d_Law_law_700 : decode Y_Law_law.2.1 700 = .ok (.iconst 3, 1) := by decide +kernel
theorem d_Law_law_701 : decode Y_Law_law.2.1 701 = .ok (.iadd, 1) := by decide +kernel
theorem d_Law_law_702 : decode Y_Law_law.2.1 702 = .ok (.iaload, 1) := by decide +kernel
theorem d_Law_law_703 : decode Y_Law_law.2.1 703 = .ok (.invokevirtual 80, 3) := by decide +kernel
theorem d_Law_law_706 : decode Y_Law_law.2.1 706 = .ok (.aload_n 2, 1) := by decide +kernel
theorem d_Law_law_707 : decode Y_Law_law.2.1 707 = .ok (.aload_n 0, 1) := by decide +kernel
theorem d_Law_law_708 : decode Y_Law_law.2.1 708 = .ok (.iload_n 3, 1) := by decide +kernel
theorem d_Law_law_709 : decode Y_Law_law.2.1 709 = .ok (.iconst 1, 1) := by decide +kernel
theorem d_Law_law_710 : decode Y_Law_law.2.1 710 = .ok (.iadd, 1) := by decide +kernel
theorem d_Law_law_711 : decode Y_Law_law.2.1 711 = .ok (.iaload, 1) := by decide +kernel
theorem d_Law_law_712 : decode Y_Law_law.2.1 712 = .ok (.i2l, 1) := by decide +kernel
theorem d_Law_law_713 : decode Y_Law_law.2.1 713 = .ok (.bipush 32, 2) := by decide +kernel
theorem d_Law_law_715 : decode Y_Law_law.2.1 715 = .ok (.lshl, 1) := by decide +kernel
theorem d_Law_law_716 : decode Y_Law_law.2.1 716 = .ok (.aload_n 0, 1) := by decide +kernel
theorem d_Law_law_717 : decode Y_Law_law.2.1 717 = .ok (.iload_n 3, 1) := by decide +kernel
theorem d_Law_law_718 : decode Y_Law_law.2.1 718 = .ok (.iconst 2, 1) := by decide +kernel
theorem d_Law_law_719 : decode Y_Law_law.2.1 719 = .ok (.iadd, 1) := by decide +kernel
theorem d_Law_law_720 : decode Y_Law_law.2.1 720 = .ok (.iaload, 1) := by decide +kernel
theorem d_Law_law_721 : decode Y_Law_law.2.1 721 = .ok (.i2l, 1) := by decide +kernel
theorem d_Law_law_722 : decode Y_Law_law.2.1 722 = .ok (.ldc2_w 78, 3) := by decide +kernel
theorem d_Law_law_725 : decode Y_Law_law.2.1 725 = .ok (.land, 1) := by decide +kernel
theorem d_Law_law_726 : decode Y_Law_law.2.1 726 = .ok (.lor, 1) := by decide +kernel
theorem d_Law_law_727 : decode Y_Law_law.2.1 727 = .ok (.aload_n 0, 1) := by decide +kernel
theorem d_Law_law_728 : decode Y_Law_law.2.1 728 = .ok (.iload_n 3, 1) := by decide +kernel
theorem d_Law_law_729 : decode Y_Law_law.2.1 729 = .ok (.iconst 3, 1) := by decide +kernel
theorem d_Law_law_730 : decode Y_Law_law.2.1 730 = .ok (.iadd, 1) := by decide +kernel
theorem d_Law_law_731 : decode Y_Law_law.2.1 731 = .ok (.iaload, 1) := by decide +kernel
theorem d_Law_law_732 : decode Y_Law_law.2.1 732 = .ok (.invokevirtual 84, 3) := by decide +kernel
theorem d_Law_law_735 : decode Y_Law_law.2.1 735 = .ok (.if_icmp .eq 58, 3) := by decide +kernel
theorem d_Law_law_738 : decode Y_Law_law.2.1 738 = .ok (.iconst 0, 1) := by decide +kernel
theorem d_Law_law_739 : decode Y_Law_law.2.1 739 = .ok (.ireturn, 1) := by decide +kernel
theorem d_Law_law_740 : decode Y_Law_law.2.1 740 = .ok (.aload_n 1, 1) := by decide +kernel
theorem d_Law_law_741 : decode Y_Law_law.2.1 741 = .ok (.aload_n 0, 1) := by decide +kernel
theorem d_Law_law_742 : decode Y_Law_law.2.1 742 = .ok (.iload_n 3, 1) := by decide +kernel
theorem d_Law_law_743 : decode Y_Law_law.2.1 743 = .ok (.iconst 1, 1) := by decide +kernel
theorem d_Law_law_744 : decode Y_Law_law.2.1 744 = .ok (.iadd, 1) := by decide +kernel
theorem d_Law_law_745 : decode Y_Law_law.2.1 745 = .ok (.iaload, 1) := by decide +kernel
theorem d_Law_law_746 : decode Y_Law_law.2.1 746 = .ok (.i2l, 1) := by decide +kernel
theorem d_Law_law_747 : decode Y_Law_law.2.1 747 = .ok (.bipush 32, 2) := by decide +kernel
theorem d_Law_law_749 : decode Y_Law_law.2.1 749 = .ok (.lshl, 1) := by decide +kernel
theorem d_Law_law_750 : decode Y_Law_law.2.1 750 = .ok (.aload_n 0, 1) := by decide +kernel
theorem d_Law_law_751 : decode Y_Law_law.2.1 751 = .ok (.iload_n 3, 1) := by decide +kernel
theorem d_Law_law_752 : decode Y_Law_law.2.1 752 = .ok (.iconst 2, 1) := by decide +kernel
theorem d_Law_law_753 : decode Y_Law_law.2.1 753 = .ok (.iadd, 1) := by decide +kernel
theorem d_Law_law_754 : decode Y_Law_law.2.1 754 = .ok (.iaload, 1) := by decide +kernel
theorem d_Law_law_755 : decode Y_Law_law.2.1 755 = .ok (.i2l, 1) := by decide +kernel
theorem d_Law_law_756 : decode Y_Law_law.2.1 756 = .ok (.ldc2_w 78, 3) := by decide +kernel
theorem d_Law_law_759 : decode Y_Law_law.2.1 759 = .ok (.land, 1) := by decide +kernel
theorem d_Law_law_760 : decode Y_Law_law.2.1 760 = .ok (.lor, 1) := by decide +kernel
theorem d_Law_law_761 : decode Y_Law_law.2.1 761 = .ok (.invokevirtual 85, 3) := by decide +kernel
theorem d_Law_law_764 : decode Y_Law_law.2.1 764 = .ok (.aload_n 2, 1) := by decide +kernel
theorem d_Law_law_765 : decode Y_Law_law.2.1 765 = .ok (.aload_n 0, 1) := by decide +kernel
theorem d_Law_law_766 : decode Y_Law_law.2.1 766 = .ok (.iload_n 3, 1) := by decide +kernel
theorem d_Law_law_767 : decode Y_Law_law.2.1 767 = .ok (.iconst 1, 1) := by decide +kernel
theorem d_Law_law_768 : decode Y_Law_law.2.1 768 = .ok (.iadd, 1) := by decide +kernel
theorem d_Law_law_769 : decode Y_Law_law.2.1 769 = .ok (.iaload, 1) := by decide +kernel
theorem d_Law_law_770 : decode Y_Law_law.2.1 770 = .ok (.i2l, 1) := by decide +kernel
theorem d_Law_law_771 : decode Y_Law_law.2.1 771 = .ok (.bipush 32, 2) := by decide +kernel
theorem d_Law_law_773 : decode Y_Law_law.2.1 773 = .ok (.lshl, 1) := by decide +kernel
theorem d_Law_law_774 : decode Y_Law_law.2.1 774 = .ok (.aload_n 0, 1) := by decide +kernel
theorem d_Law_law_775 : decode Y_Law_law.2.1 775 = .ok (.iload_n 3, 1) := by decide +kernel
theorem d_Law_law_776 : decode Y_Law_law.2.1 776 = .ok (.iconst 2, 1) := by decide +kernel
theorem d_Law_law_777 : decode Y_Law_law.2.1 777 = .ok (.iadd, 1) := by decide +kernel
theorem d_Law_law_778 : decode Y_Law_law.2.1 778 = .ok (.iaload, 1) := by decide +kernel
theorem d_Law_law_779 : decode Y_Law_law.2.1 779 = .ok (.i2l, 1) := by decide +kernel
theorem d_Law_law_780 : decode Y_Law_law.2.1 780 = .ok (.ldc2_w 78, 3) := by decide +kernel
theorem d_Law_law_783 : decode Y_Law_law.2.1 783 = .ok (.land, 1) := by decide +kernel
theorem d_Law_law_784 : decode Y_Law_law.2.1 784 = .ok (.lor, 1) := by decide +kernel
theorem d_Law_law_785 : decode Y_Law_law.2.1 785 = .ok (.invokevirtual 89, 3) := by decide +kernel
theorem d_Law_law_788 : decode Y_Law_law.2.1 788 = .ok (.if_icmp .eq 5, 3) := by decide +kernel
theorem d_Law_law_791 : decode Y_Law_law.2.1 791 = .ok (.iconst 0, 1) := by decide +kernel
theorem d_Law_law_792 : decode Y_Law_law.2.1 792 = .ok (.ireturn, 1) := by decide +kernel
theorem d_Law_law_793 : decode Y_Law_law.2.1 793 = .ok (.iinc 3 5, 3) := by decide +kernel
theorem d_Law_law_796 : decode Y_Law_law.2.1 796 = .ok (.goto (-778), 3) := by decide +kernel
theorem d_Law_law_799 : decode Y_Law_law.2.1 799 = .ok (.iconst 1, 1) := by decide +kernel
theorem d_Law_law_800 : decode Y_Law_law.2.1 800 = .ok (.ireturn, 1) := by decide +kernel
theorem s_Law_law_0 {l : Launch} {D : DD} {d kc ks : Nat} {h : Hp} {Φ : Option AV → Hp → Prop} {x0 : Nat} (v : ∃ a1 : Nat, 16 ≤ a1 ∧ xK h a1 = 0 ∧ (∀ h1 : Hp, h1 = nw h a1 1 0 → (¬ xK h1 a1 = 0 ∧ Ev l D Y_G_init d 65 2985 0 [some (vr a1)] [] h1 (kv (fun h2 => ∃ a2 : Nat, 16 ≤ a2 ∧ xK h2 a2 = 0 ∧ (∀ h3 : Hp, h3 = nw h2 a2 12 0 → (¬ xK h3 a2 = 0 ∧ Ev l D Y_M_init d 36 19848 0 [some (vr a2)] [] h3 (kv (fun h4 => Ev l D Y_Law_law (d + 1) (kc + 5) (ks + 58) 18 [some (vr x0), some (vr a1), some (vr a2), some (vi (0 : Int))] [] h4 Φ))))))))) : Ev l D Y_Law_law (d + 1) (kc + 108) (ks + 22956) 0 [some (vr x0), none, none, none] [] h Φ := by
  obtain ⟨a1, c1, c2, v⟩ := v
  have v := v _ rfl
  refine a_new (kd := 1) (kc' := kc + 107) (ks' := ks + 22941) a1 d_Law_law_0 (by decide) cl_Law_7 (by omega) (nfle (n := 15) rfl (by omega)) c1 c2 ?_
  refine a_dup d_Law_law_3 rfl ?_
  obtain ⟨c6, v⟩ := v
  refine b_callI (as := []) (b := a1) (st := [vr a1]) (kc1 := 65) (ks1 := 2985) (kc2 := kc + 42) (ks2 := ks + 19956) (d' := d) ml_Law_9 rfl d_Law_law_4 rfl rfl (Nat.le_of_ble_eq_true rfl) rfl (Nat.le_refl _) (by omega) (by omega) c6 ?_
  refine Ev.mono v ?_
  intro u h2 v
  obtain ⟨rfl, v⟩ := kv_el v
  change Ev l D Y_Law_law _ _ _ 7 [some (vr x0), none, none, none] [vr a1] _ _
  refine a_astore_n (L' := [some (vr x0), some (vr a1), none, none]) d_Law_law_7 (Nat.le_of_ble_eq_true rfl) rfl rfl ?_
  obtain ⟨a2, c3, c4, v⟩ := v
  have v := v _ rfl
  refine a_new (kd := 12) (kc' := kc + 41) (ks' := ks + 19906) a2 d_Law_law_8 (by decide) cl_Law_10 (by omega) (nfle (n := 50) rfl (by omega)) c3 c4 ?_
  refine a_dup d_Law_law_11 rfl ?_
  obtain ⟨c5, v⟩ := v
  refine b_callI (as := []) (b := a2) (st := [vr a2]) (kc1 := 36) (ks1 := 19848) (kc2 := kc + 5) (ks2 := ks + 58) (d' := d) ml_Law_12 rfl d_Law_law_12 rfl rfl (Nat.le_of_ble_eq_true rfl) rfl (Nat.le_refl _) (by omega) (by omega) c5 ?_
  refine Ev.mono v ?_
  intro u h4 v
  obtain ⟨rfl, v⟩ := kv_el v
  change Ev l D Y_Law_law _ _ _ 15 [some (vr x0), some (vr a1), none, none] [vr a2] _ _
  refine a_astore_n (L' := [some (vr x0), some (vr a1), some (vr a2), none]) d_Law_law_15 (Nat.le_of_ble_eq_true rfl) rfl rfl ?_
  refine a_iconst d_Law_law_16 ⟨by decide, by decide⟩ ?_
  refine a_istore_n (L' := [some (vr x0), some (vr a1), some (vr a2), some (vi (0 : Int))]) d_Law_law_17 (Nat.le_of_ble_eq_true rfl) rfl rfl ?_
  exact v
theorem s_Law_law_18 {l : Launch} {D : DD} {d kc ks : Nat} {h : Hp} {Φ : Option AV → Hp → Prop} {x0 : Nat} {x1 : Nat} {x2 : Nat} {x3 : Int} (v : (20 ≤ xK h x0 ∧ xK h x0 < 29) ∧ ((x3 > wr ((xN h x0 : Int) - (5 : Int)) → (Φ (some (vi (1 : Int))) h)) ∧ (x3 ≤ wr ((xN h x0 : Int) - (5 : Int)) → (xK h x0 = 28 ∧ 0 ≤ x3 ∧ x3 < xN h x0 ∧ ((iandV (xI h x0 (x3).toNat) (31 : Int) = (0 : Int) → (Ev l D Y_Law_law (d + 1) (kc + 5) (ks + 58) 116 [some (vr x0), some (vr x1), some (vr x2), some (vi x3)] [] h Φ)) ∧ (iandV (xI h x0 (x3).toNat) (31 : Int) = (1 : Int) → (Ev l D Y_Law_law (d + 1) (kc + 5) (ks + 58) 149 [some (vr x0), some (vr x1), some (vr x2), some (vi x3)] [] h Φ)) ∧ (iandV (xI h x0 (x3).toNat) (31 : Int) = (2 : Int) → (Ev l D Y_Law_law (d + 1) (kc + 5) (ks + 58) 182 [some (vr x0), some (vr x1), some (vr x2), some (vi x3)] [] h Φ)) ∧ (iandV (xI h x0 (x3).toNat) (31 : Int) = (3 : Int) → (Ev l D Y_Law_law (d + 1) (kc + 5) (ks + 58) 225 [some (vr x0), some (vr x1), some (vr x2), some (vi x3)] [] h Φ)) ∧ (iandV (xI h x0 (x3).toNat) (31 : Int) = (4 : Int) → (Ev l D Y_Law_law (d + 1) (kc + 5) (ks + 58) 278 [some (vr x0), some (vr x1), some (vr x2), some (vi x3)] [] h Φ)) ∧ (iandV (xI h x0 (x3).toNat) (31 : Int) = (5 : Int) → (Ev l D Y_Law_law (d + 1) (kc + 5) (ks + 58) 327 [some (vr x0), some (vr x1), some (vr x2), some (vi x3)] [] h Φ)) ∧ (iandV (xI h x0 (x3).toNat) (31 : Int) = (6 : Int) → (Ev l D Y_Law_law (d + 1) (kc + 5) (ks + 58) 350 [some (vr x0), some (vr x1), some (vr x2), some (vi x3)] [] h Φ)) ∧ (iandV (xI h x0 (x3).toNat) (31 : Int) = (7 : Int) → (Ev l D Y_Law_law (d + 1) (kc + 5) (ks + 58) 383 [some (vr x0), some (vr x1), some (vr x2), some (vi x3)] [] h Φ)) ∧ (iandV (xI h x0 (x3).toNat) (31 : Int) = (8 : Int) → (Ev l D Y_Law_law (d + 1) (kc + 5) (ks + 58) 416 [some (vr x0), some (vr x1), some (vr x2), some (vi x3)] [] h Φ)) ∧ (iandV (xI h x0 (x3).toNat) (31 : Int) = (9 : Int) → (Ev l D Y_Law_law (d + 1) (kc + 5) (ks + 58) 459 [some (vr x0), some (vr x1), some (vr x2), some (vi x3)] [] h Φ)) ∧ (iandV (xI h x0 (x3).toNat) (31 : Int) = (10 : Int) → (Ev l D Y_Law_law (d + 1) (kc + 5) (ks + 58) 492 [some (vr x0), some (vr x1), some (vr x2), some (vi x3)] [] h Φ)) ∧ (iandV (xI h x0 (x3).toNat) (31 : Int) = (11 : Int) → (Ev l D Y_Law_law (d + 1) (kc + 5) (ks + 58) 525 [some (vr x0), some (vr x1), some (vr x2), some (vi x3)] [] h Φ)) ∧ (iandV (xI h x0 (x3).toNat) (31 : Int) = (12 : Int) → (Ev l D Y_Law_law (d + 1) (kc + 5) (ks + 58) 568 [some (vr x0), some (vr x1), some (vr x2), some (vi x3)] [] h Φ)) ∧ (iandV (xI h x0 (x3).toNat) (31 : Int) = (13 : Int) → (Ev l D Y_Law_law (d + 1) (kc + 5) (ks + 58) 611 [some (vr x0), some (vr x1), some (vr x2), some (vi x3)] [] h Φ)) ∧ (iandV (xI h x0 (x3).toNat) (31 : Int) = (14 : Int) → (Ev l D Y_Law_law (d + 1) (kc + 5) (ks + 58) 644 [some (vr x0), some (vr x1), some (vr x2), some (vi x3)] [] h Φ)) ∧ (iandV (xI h x0 (x3).toNat) (31 : Int) = (15 : Int) → (Ev l D Y_Law_law (d + 1) (kc + 5) (ks + 58) 677 [some (vr x0), some (vr x1), some (vr x2), some (vi x3)] [] h Φ)) ∧ (iandV (xI h x0 (x3).toNat) (31 : Int) = (16 : Int) → (Ev l D Y_Law_law (d + 1) (kc + 5) (ks + 58) 740 [some (vr x0), some (vr x1), some (vr x2), some (vi x3)] [] h Φ)) ∧ (iandV (xI h x0 (x3).toNat) (31 : Int) < (0 : Int) ∨ (16 : Int) < iandV (xI h x0 (x3).toNat) (31 : Int) → (Ev l D Y_Law_law (d + 1) (kc + 5) (ks + 58) 793 [some (vr x0), some (vr x1), some (vr x2), some (vi x3)] [] h Φ))))))) : Ev l D Y_Law_law (d + 1) (kc + 5) (ks + 58) 18 [some (vr x0), some (vr x1), some (vr x2), some (vi x3)] [] h Φ := by
  refine a_iload_n d_Law_law_18 rfl ?_
  refine a_aload_n d_Law_law_19 rfl ?_
  obtain ⟨c1, v⟩ := v
  refine a_alen d_Law_law_20 c1 ?_
  refine a_iconst d_Law_law_21 ⟨by decide, by decide⟩ ?_
  refine a_isub d_Law_law_22 ?_
  obtain ⟨vt, vf⟩ := v
  refine a_icmp_gt (tgt := 799) d_Law_law_23 (by decide) (fun c => ?_) (fun c => ?_)
  · have v := vt (c); clear vt vf
    refine a_iconst d_Law_law_799 ⟨by decide, by decide⟩ ?_
    exact a_zret d_Law_law_800 rfl (Or.inr rfl) v
  · have v := vf (Int.not_lt.mp c); clear vt vf
    refine a_aload_n d_Law_law_26 rfl ?_
    refine a_iload_n d_Law_law_27 rfl ?_
    obtain ⟨c2, c3, c4, v⟩ := v
    refine a_iald d_Law_law_28 (Or.inr c2) c3 c4 ?_
    refine a_bipush d_Law_law_29 ⟨by decide, by decide⟩ (by decide) ?_
    refine a_iand d_Law_law_31 ?_
    obtain ⟨v0, v1, v2, v3, v4, v5, v6, v7, v8, v9, v10, v11, v12, v13, v14, v15, v16, vd⟩ := v
    refine a_tab (tgt := 793) [116, 149, 182, 225, 278, 327, 350, 383, 416, 459, 492, 525, 568, 611, 644, 677, 740] d_Law_law_32 (by decide) (by decide) (by decide) (fun c => ?_) (fun i t hi c => ?_)
    · have v := vd c; clear vd v0 v1 v2 v3 v4 v5 v6 v7 v8 v9 v10 v11 v12 v13 v14 v15 v16
      exact v
    · match i, hi, c with
      | 0, hi, c =>
        obtain rfl : 116 = t := Option.some.inj hi
        have v := v0 (by omega); clear vd v0 v1 v2 v3 v4 v5 v6 v7 v8 v9 v10 v11 v12 v13 v14 v15 v16
        exact v
      | 1, hi, c =>
        obtain rfl : 149 = t := Option.some.inj hi
        have v := v1 (by omega); clear vd v0 v1 v2 v3 v4 v5 v6 v7 v8 v9 v10 v11 v12 v13 v14 v15 v16
        exact v
      | 2, hi, c =>
        obtain rfl : 182 = t := Option.some.inj hi
        have v := v2 (by omega); clear vd v0 v1 v2 v3 v4 v5 v6 v7 v8 v9 v10 v11 v12 v13 v14 v15 v16
        exact v
      | 3, hi, c =>
        obtain rfl : 225 = t := Option.some.inj hi
        have v := v3 (by omega); clear vd v0 v1 v2 v3 v4 v5 v6 v7 v8 v9 v10 v11 v12 v13 v14 v15 v16
        exact v
      | 4, hi, c =>
        obtain rfl : 278 = t := Option.some.inj hi
        have v := v4 (by omega); clear vd v0 v1 v2 v3 v4 v5 v6 v7 v8 v9 v10 v11 v12 v13 v14 v15 v16
        exact v
      | 5, hi, c =>
        obtain rfl : 327 = t := Option.some.inj hi
        have v := v5 (by omega); clear vd v0 v1 v2 v3 v4 v5 v6 v7 v8 v9 v10 v11 v12 v13 v14 v15 v16
        exact v
      | 6, hi, c =>
        obtain rfl : 350 = t := Option.some.inj hi
        have v := v6 (by omega); clear vd v0 v1 v2 v3 v4 v5 v6 v7 v8 v9 v10 v11 v12 v13 v14 v15 v16
        exact v
      | 7, hi, c =>
        obtain rfl : 383 = t := Option.some.inj hi
        have v := v7 (by omega); clear vd v0 v1 v2 v3 v4 v5 v6 v7 v8 v9 v10 v11 v12 v13 v14 v15 v16
        exact v
      | 8, hi, c =>
        obtain rfl : 416 = t := Option.some.inj hi
        have v := v8 (by omega); clear vd v0 v1 v2 v3 v4 v5 v6 v7 v8 v9 v10 v11 v12 v13 v14 v15 v16
        exact v
      | 9, hi, c =>
        obtain rfl : 459 = t := Option.some.inj hi
        have v := v9 (by omega); clear vd v0 v1 v2 v3 v4 v5 v6 v7 v8 v9 v10 v11 v12 v13 v14 v15 v16
        exact v
      | 10, hi, c =>
        obtain rfl : 492 = t := Option.some.inj hi
        have v := v10 (by omega); clear vd v0 v1 v2 v3 v4 v5 v6 v7 v8 v9 v10 v11 v12 v13 v14 v15 v16
        exact v
      | 11, hi, c =>
        obtain rfl : 525 = t := Option.some.inj hi
        have v := v11 (by omega); clear vd v0 v1 v2 v3 v4 v5 v6 v7 v8 v9 v10 v11 v12 v13 v14 v15 v16
        exact v
      | 12, hi, c =>
        obtain rfl : 568 = t := Option.some.inj hi
        have v := v12 (by omega); clear vd v0 v1 v2 v3 v4 v5 v6 v7 v8 v9 v10 v11 v12 v13 v14 v15 v16
        exact v
      | 13, hi, c =>
        obtain rfl : 611 = t := Option.some.inj hi
        have v := v13 (by omega); clear vd v0 v1 v2 v3 v4 v5 v6 v7 v8 v9 v10 v11 v12 v13 v14 v15 v16
        exact v
      | 14, hi, c =>
        obtain rfl : 644 = t := Option.some.inj hi
        have v := v14 (by omega); clear vd v0 v1 v2 v3 v4 v5 v6 v7 v8 v9 v10 v11 v12 v13 v14 v15 v16
        exact v
      | 15, hi, c =>
        obtain rfl : 677 = t := Option.some.inj hi
        have v := v15 (by omega); clear vd v0 v1 v2 v3 v4 v5 v6 v7 v8 v9 v10 v11 v12 v13 v14 v15 v16
        exact v
      | 16, hi, c =>
        obtain rfl : 740 = t := Option.some.inj hi
        have v := v16 (by omega); clear vd v0 v1 v2 v3 v4 v5 v6 v7 v8 v9 v10 v11 v12 v13 v14 v15 v16
        exact v
      | i + 17, hi, c => exact absurd hi (by simp)
theorem s_Law_law_116 {l : Launch} {D : DD} {d kc ks : Nat} {h : Hp} {Φ : Option AV → Hp → Prop} {x0 : Nat} {x1 : Nat} {x2 : Nat} {x3 : Int} (v : xK h x0 = 28 ∧ 0 ≤ wr (x3 + (1 : Int)) ∧ wr (x3 + (1 : Int)) < xN h x0 ∧ (xK h x0 = 28 ∧ 0 ≤ wr (x3 + (2 : Int)) ∧ wr (x3 + (2 : Int)) < xN h x0 ∧ (xK h x1 = 1 ∧ Ev l D Y_G_type d 5 40 0 [some (vr x1), some (vi (xI h x0 (wr (x3 + (1 : Int))).toNat)), some (vi (xI h x0 (wr (x3 + (2 : Int))).toNat))] [] h (ki (fun r1 h1 => xK h1 x0 = 28 ∧ 0 ≤ wr (x3 + (1 : Int)) ∧ wr (x3 + (1 : Int)) < xN h1 x0 ∧ (xK h1 x0 = 28 ∧ 0 ≤ wr (x3 + (2 : Int)) ∧ wr (x3 + (2 : Int)) < xN h1 x0 ∧ (xK h1 x2 = 12 ∧ Ev l D Y_M_type d 0 0 0 [some (vr x2), some (vi (xI h1 x0 (wr (x3 + (1 : Int))).toNat)), some (vi (xI h1 x0 (wr (x3 + (2 : Int))).toNat))] [] h1 (ki (fun r2 h2 => (r1 = r2 → (Ev l D Y_Law_law (d + 1) kc (ks + 18) 793 [some (vr x0), some (vr x1), some (vr x2), some (vi x3)] [] h2 Φ)) ∧ (¬ r1 = r2 → (Φ (some (vi (0 : Int))) h2))))))))))) : Ev l D Y_Law_law (d + 1) (kc + 5) (ks + 58) 116 [some (vr x0), some (vr x1), some (vr x2), some (vi x3)] [] h Φ := by
  refine a_aload_n d_Law_law_116 rfl ?_
  refine a_aload_n d_Law_law_117 rfl ?_
  refine a_iload_n d_Law_law_118 rfl ?_
  refine a_iconst d_Law_law_119 ⟨by decide, by decide⟩ ?_
  refine a_iadd d_Law_law_120 ?_
  obtain ⟨c1, c2, c3, v⟩ := v
  refine a_iald d_Law_law_121 (Or.inr c1) c2 c3 ?_
  refine a_aload_n d_Law_law_122 rfl ?_
  refine a_iload_n d_Law_law_123 rfl ?_
  refine a_iconst d_Law_law_124 ⟨by decide, by decide⟩ ?_
  refine a_iadd d_Law_law_125 ?_
  obtain ⟨c4, c5, c6, v⟩ := v
  refine a_iald d_Law_law_126 (Or.inr c4) c5 c6 ?_
  obtain ⟨c14, v⟩ := v
  refine b_callV (as := [vi (xI h x0 (wr (x3 + (1 : Int))).toNat), vi (xI h x0 (wr (x3 + (2 : Int))).toNat)]) (b := x1) (st := []) (kd := 1) (kc1 := 5) (ks1 := 40) (kc2 := kc) (ks2 := ks + 18) (d' := d) ml_Law_13 rfl d_Law_law_127 rfl rfl (Nat.le_of_ble_eq_true rfl) (by decide) rfl (Nat.le_refl _) (by omega) (by omega) c14 ?_
  refine Ev.mono v ?_
  intro u h1 v
  obtain ⟨r1, rfl, v⟩ := ki_el v
  change Ev l D Y_Law_law _ _ _ 130 [some (vr x0), some (vr x1), some (vr x2), some (vi x3)] [vi r1] _ _
  refine a_aload_n d_Law_law_130 rfl ?_
  refine a_aload_n d_Law_law_131 rfl ?_
  refine a_iload_n d_Law_law_132 rfl ?_
  refine a_iconst d_Law_law_133 ⟨by decide, by decide⟩ ?_
  refine a_iadd d_Law_law_134 ?_
  obtain ⟨c7, c8, c9, v⟩ := v
  refine a_iald d_Law_law_135 (Or.inr c7) c8 c9 ?_
  refine a_aload_n d_Law_law_136 rfl ?_
  refine a_iload_n d_Law_law_137 rfl ?_
  refine a_iconst d_Law_law_138 ⟨by decide, by decide⟩ ?_
  refine a_iadd d_Law_law_139 ?_
  obtain ⟨c10, c11, c12, v⟩ := v
  refine a_iald d_Law_law_140 (Or.inr c10) c11 c12 ?_
  obtain ⟨c13, v⟩ := v
  refine b_callV (as := [vi (xI h1 x0 (wr (x3 + (1 : Int))).toNat), vi (xI h1 x0 (wr (x3 + (2 : Int))).toNat)]) (b := x2) (st := [vi r1]) (kd := 12) (kc1 := 0) (ks1 := 0) (kc2 := kc) (ks2 := ks + 18) (d' := d) ml_Law_17 rfl d_Law_law_141 rfl rfl (Nat.le_of_ble_eq_true rfl) (by decide) rfl (Nat.le_refl _) (by omega) (by omega) c13 ?_
  refine Ev.mono v ?_
  intro u h2 v
  obtain ⟨r2, rfl, v⟩ := ki_el v
  change Ev l D Y_Law_law _ _ _ 144 [some (vr x0), some (vr x1), some (vr x2), some (vi x3)] [vi r2, vi r1] _ _
  obtain ⟨vt, vf⟩ := v
  refine a_icmp_eq (tgt := 793) d_Law_law_144 (by decide) (fun c => ?_) (fun c => ?_)
  · have v := vt (c); clear vt vf
    exact v
  · have v := vf (c); clear vt vf
    refine a_iconst d_Law_law_147 ⟨by decide, by decide⟩ ?_
    exact a_zret d_Law_law_148 rfl (Or.inl rfl) v
theorem s_Law_law_149 {l : Launch} {D : DD} {d kc ks : Nat} {h : Hp} {Φ : Option AV → Hp → Prop} {x0 : Nat} {x1 : Nat} {x2 : Nat} {x3 : Int} (v : xK h x0 = 28 ∧ 0 ≤ wr (x3 + (1 : Int)) ∧ wr (x3 + (1 : Int)) < xN h x0 ∧ (xK h x0 = 28 ∧ 0 ≤ wr (x3 + (2 : Int)) ∧ wr (x3 + (2 : Int)) < xN h x0 ∧ (xK h x1 = 1 ∧ Ev l D Y_G_face d 0 0 0 [some (vr x1), some (vi (xI h x0 (wr (x3 + (1 : Int))).toNat)), some (vi (xI h x0 (wr (x3 + (2 : Int))).toNat)), none, none, none] [] h (ki (fun r1 h1 => xK h1 x0 = 28 ∧ 0 ≤ wr (x3 + (1 : Int)) ∧ wr (x3 + (1 : Int)) < xN h1 x0 ∧ (xK h1 x0 = 28 ∧ 0 ≤ wr (x3 + (2 : Int)) ∧ wr (x3 + (2 : Int)) < xN h1 x0 ∧ (xK h1 x2 = 12 ∧ Ev l D Y_M_face d 0 0 0 [some (vr x2), some (vi (xI h1 x0 (wr (x3 + (1 : Int))).toNat)), some (vi (xI h1 x0 (wr (x3 + (2 : Int))).toNat)), none] [] h1 (ki (fun r2 h2 => (r1 = r2 → (Ev l D Y_Law_law (d + 1) (kc + 5) (ks + 58) 793 [some (vr x0), some (vr x1), some (vr x2), some (vi x3)] [] h2 Φ)) ∧ (¬ r1 = r2 → (Φ (some (vi (0 : Int))) h2))))))))))) : Ev l D Y_Law_law (d + 1) (kc + 5) (ks + 58) 149 [some (vr x0), some (vr x1), some (vr x2), some (vi x3)] [] h Φ := by
  refine a_aload_n d_Law_law_149 rfl ?_
  refine a_aload_n d_Law_law_150 rfl ?_
  refine a_iload_n d_Law_law_151 rfl ?_
  refine a_iconst d_Law_law_152 ⟨by decide, by decide⟩ ?_
  refine a_iadd d_Law_law_153 ?_
  obtain ⟨c1, c2, c3, v⟩ := v
  refine a_iald d_Law_law_154 (Or.inr c1) c2 c3 ?_
  refine a_aload_n d_Law_law_155 rfl ?_
  refine a_iload_n d_Law_law_156 rfl ?_
  refine a_iconst d_Law_law_157 ⟨by decide, by decide⟩ ?_
  refine a_iadd d_Law_law_158 ?_
  obtain ⟨c4, c5, c6, v⟩ := v
  refine a_iald d_Law_law_159 (Or.inr c4) c5 c6 ?_
  obtain ⟨c14, v⟩ := v
  refine b_callV (as := [vi (xI h x0 (wr (x3 + (1 : Int))).toNat), vi (xI h x0 (wr (x3 + (2 : Int))).toNat)]) (b := x1) (st := []) (kd := 1) (kc1 := 0) (ks1 := 0) (kc2 := kc + 5) (ks2 := ks + 58) (d' := d) ml_Law_18 rfl d_Law_law_160 rfl rfl (Nat.le_of_ble_eq_true rfl) (by decide) rfl (Nat.le_refl _) (by omega) (by omega) c14 ?_
  refine Ev.mono v ?_
  intro u h1 v
  obtain ⟨r1, rfl, v⟩ := ki_el v
  change Ev l D Y_Law_law _ _ _ 163 [some (vr x0), some (vr x1), some (vr x2), some (vi x3)] [vi r1] _ _
  refine a_aload_n d_Law_law_163 rfl ?_
  refine a_aload_n d_Law_law_164 rfl ?_
  refine a_iload_n d_Law_law_165 rfl ?_
  refine a_iconst d_Law_law_166 ⟨by decide, by decide⟩ ?_
  refine a_iadd d_Law_law_167 ?_
  obtain ⟨c7, c8, c9, v⟩ := v
  refine a_iald d_Law_law_168 (Or.inr c7) c8 c9 ?_
  refine a_aload_n d_Law_law_169 rfl ?_
  refine a_iload_n d_Law_law_170 rfl ?_
  refine a_iconst d_Law_law_171 ⟨by decide, by decide⟩ ?_
  refine a_iadd d_Law_law_172 ?_
  obtain ⟨c10, c11, c12, v⟩ := v
  refine a_iald d_Law_law_173 (Or.inr c10) c11 c12 ?_
  obtain ⟨c13, v⟩ := v
  refine b_callV (as := [vi (xI h1 x0 (wr (x3 + (1 : Int))).toNat), vi (xI h1 x0 (wr (x3 + (2 : Int))).toNat)]) (b := x2) (st := [vi r1]) (kd := 12) (kc1 := 0) (ks1 := 0) (kc2 := kc + 5) (ks2 := ks + 58) (d' := d) ml_Law_21 rfl d_Law_law_174 rfl rfl (Nat.le_of_ble_eq_true rfl) (by decide) rfl (Nat.le_refl _) (by omega) (by omega) c13 ?_
  refine Ev.mono v ?_
  intro u h2 v
  obtain ⟨r2, rfl, v⟩ := ki_el v
  change Ev l D Y_Law_law _ _ _ 177 [some (vr x0), some (vr x1), some (vr x2), some (vi x3)] [vi r2, vi r1] _ _
  obtain ⟨vt, vf⟩ := v
  refine a_icmp_eq (tgt := 793) d_Law_law_177 (by decide) (fun c => ?_) (fun c => ?_)
  · have v := vt (c); clear vt vf
    exact v
  · have v := vf (c); clear vt vf
    refine a_iconst d_Law_law_180 ⟨by decide, by decide⟩ ?_
    exact a_zret d_Law_law_181 rfl (Or.inl rfl) v
theorem s_Law_law_182 {l : Launch} {D : DD} {d kc ks : Nat} {h : Hp} {Φ : Option AV → Hp → Prop} {x0 : Nat} {x1 : Nat} {x2 : Nat} {x3 : Int} (v : xK h x0 = 28 ∧ 0 ≤ wr (x3 + (1 : Int)) ∧ wr (x3 + (1 : Int)) < xN h x0 ∧ (xK h x0 = 28 ∧ 0 ≤ wr (x3 + (2 : Int)) ∧ wr (x3 + (2 : Int)) < xN h x0 ∧ (xK h x0 = 28 ∧ 0 ≤ wr (x3 + (3 : Int)) ∧ wr (x3 + (3 : Int)) < xN h x0 ∧ (xK h x1 = 1 ∧ Ev l D Y_G_member d 3 37 0 [some (vr x1), some (vi (xI h x0 (wr (x3 + (1 : Int))).toNat)), some (vi (xI h x0 (wr (x3 + (2 : Int))).toNat)), some (vi (xI h x0 (wr (x3 + (3 : Int))).toNat)), none, none] [] h (ki (fun r1 h1 => xK h1 x0 = 28 ∧ 0 ≤ wr (x3 + (1 : Int)) ∧ wr (x3 + (1 : Int)) < xN h1 x0 ∧ (xK h1 x0 = 28 ∧ 0 ≤ wr (x3 + (2 : Int)) ∧ wr (x3 + (2 : Int)) < xN h1 x0 ∧ (xK h1 x0 = 28 ∧ 0 ≤ wr (x3 + (3 : Int)) ∧ wr (x3 + (3 : Int)) < xN h1 x0 ∧ (xK h1 x2 = 12 ∧ Ev l D Y_M_member d 0 0 0 [some (vr x2), some (vi (xI h1 x0 (wr (x3 + (1 : Int))).toNat)), some (vi (xI h1 x0 (wr (x3 + (2 : Int))).toNat)), some (vi (xI h1 x0 (wr (x3 + (3 : Int))).toNat)), none] [] h1 (ki (fun r2 h2 => (r1 = r2 → (Ev l D Y_Law_law (d + 1) (kc + 2) (ks + 21) 793 [some (vr x0), some (vr x1), some (vr x2), some (vi x3)] [] h2 Φ)) ∧ (¬ r1 = r2 → (Φ (some (vi (0 : Int))) h2))))))))))))) : Ev l D Y_Law_law (d + 1) (kc + 5) (ks + 58) 182 [some (vr x0), some (vr x1), some (vr x2), some (vi x3)] [] h Φ := by
  refine a_aload_n d_Law_law_182 rfl ?_
  refine a_aload_n d_Law_law_183 rfl ?_
  refine a_iload_n d_Law_law_184 rfl ?_
  refine a_iconst d_Law_law_185 ⟨by decide, by decide⟩ ?_
  refine a_iadd d_Law_law_186 ?_
  obtain ⟨c1, c2, c3, v⟩ := v
  refine a_iald d_Law_law_187 (Or.inr c1) c2 c3 ?_
  refine a_aload_n d_Law_law_188 rfl ?_
  refine a_iload_n d_Law_law_189 rfl ?_
  refine a_iconst d_Law_law_190 ⟨by decide, by decide⟩ ?_
  refine a_iadd d_Law_law_191 ?_
  obtain ⟨c4, c5, c6, v⟩ := v
  refine a_iald d_Law_law_192 (Or.inr c4) c5 c6 ?_
  refine a_aload_n d_Law_law_193 rfl ?_
  refine a_iload_n d_Law_law_194 rfl ?_
  refine a_iconst d_Law_law_195 ⟨by decide, by decide⟩ ?_
  refine a_iadd d_Law_law_196 ?_
  obtain ⟨c7, c8, c9, v⟩ := v
  refine a_iald d_Law_law_197 (Or.inr c7) c8 c9 ?_
  obtain ⟨c20, v⟩ := v
  refine b_callV (as := [vi (xI h x0 (wr (x3 + (1 : Int))).toNat), vi (xI h x0 (wr (x3 + (2 : Int))).toNat), vi (xI h x0 (wr (x3 + (3 : Int))).toNat)]) (b := x1) (st := []) (kd := 1) (kc1 := 3) (ks1 := 37) (kc2 := kc + 2) (ks2 := ks + 21) (d' := d) ml_Law_22 rfl d_Law_law_198 rfl rfl (Nat.le_of_ble_eq_true rfl) (by decide) rfl (Nat.le_refl _) (by omega) (by omega) c20 ?_
  refine Ev.mono v ?_
  intro u h1 v
  obtain ⟨r1, rfl, v⟩ := ki_el v
  change Ev l D Y_Law_law _ _ _ 201 [some (vr x0), some (vr x1), some (vr x2), some (vi x3)] [vi r1] _ _
  refine a_aload_n d_Law_law_201 rfl ?_
  refine a_aload_n d_Law_law_202 rfl ?_
  refine a_iload_n d_Law_law_203 rfl ?_
  refine a_iconst d_Law_law_204 ⟨by decide, by decide⟩ ?_
  refine a_iadd d_Law_law_205 ?_
  obtain ⟨c10, c11, c12, v⟩ := v
  refine a_iald d_Law_law_206 (Or.inr c10) c11 c12 ?_
  refine a_aload_n d_Law_law_207 rfl ?_
  refine a_iload_n d_Law_law_208 rfl ?_
  refine a_iconst d_Law_law_209 ⟨by decide, by decide⟩ ?_
  refine a_iadd d_Law_law_210 ?_
  obtain ⟨c13, c14, c15, v⟩ := v
  refine a_iald d_Law_law_211 (Or.inr c13) c14 c15 ?_
  refine a_aload_n d_Law_law_212 rfl ?_
  refine a_iload_n d_Law_law_213 rfl ?_
  refine a_iconst d_Law_law_214 ⟨by decide, by decide⟩ ?_
  refine a_iadd d_Law_law_215 ?_
  obtain ⟨c16, c17, c18, v⟩ := v
  refine a_iald d_Law_law_216 (Or.inr c16) c17 c18 ?_
  obtain ⟨c19, v⟩ := v
  refine b_callV (as := [vi (xI h1 x0 (wr (x3 + (1 : Int))).toNat), vi (xI h1 x0 (wr (x3 + (2 : Int))).toNat), vi (xI h1 x0 (wr (x3 + (3 : Int))).toNat)]) (b := x2) (st := [vi r1]) (kd := 12) (kc1 := 0) (ks1 := 0) (kc2 := kc + 2) (ks2 := ks + 21) (d' := d) ml_Law_26 rfl d_Law_law_217 rfl rfl (Nat.le_of_ble_eq_true rfl) (by decide) rfl (Nat.le_refl _) (by omega) (by omega) c19 ?_
  refine Ev.mono v ?_
  intro u h2 v
  obtain ⟨r2, rfl, v⟩ := ki_el v
  change Ev l D Y_Law_law _ _ _ 220 [some (vr x0), some (vr x1), some (vr x2), some (vi x3)] [vi r2, vi r1] _ _
  obtain ⟨vt, vf⟩ := v
  refine a_icmp_eq (tgt := 793) d_Law_law_220 (by decide) (fun c => ?_) (fun c => ?_)
  · have v := vt (c); clear vt vf
    exact v
  · have v := vf (c); clear vt vf
    refine a_iconst d_Law_law_223 ⟨by decide, by decide⟩ ?_
    exact a_zret d_Law_law_224 rfl (Or.inl rfl) v
theorem s_Law_law_225 {l : Launch} {D : DD} {d kc ks : Nat} {h : Hp} {Φ : Option AV → Hp → Prop} {x0 : Nat} {x1 : Nat} {x2 : Nat} {x3 : Int} (v : xK h x0 = 28 ∧ 0 ≤ wr (x3 + (1 : Int)) ∧ wr (x3 + (1 : Int)) < xN h x0 ∧ (xK h x0 = 28 ∧ 0 ≤ wr (x3 + (2 : Int)) ∧ wr (x3 + (2 : Int)) < xN h x0 ∧ (xK h x0 = 28 ∧ 0 ≤ wr (x3 + (3 : Int)) ∧ wr (x3 + (3 : Int)) < xN h x0 ∧ (xK h x0 = 28 ∧ 0 ≤ wr (x3 + (4 : Int)) ∧ wr (x3 + (4 : Int)) < xN h x0 ∧ (xK h x1 = 1 ∧ Ev l D Y_G_op d 3 58 0 [some (vr x1), some (vi (xI h x0 (wr (x3 + (1 : Int))).toNat)), some (vi (xI h x0 (wr (x3 + (2 : Int))).toNat)), some (vi (xI h x0 (wr (x3 + (3 : Int))).toNat)), some (vi (xI h x0 (wr (x3 + (4 : Int))).toNat)), none] [] h (ki (fun r1 h1 => xK h1 x0 = 28 ∧ 0 ≤ wr (x3 + (1 : Int)) ∧ wr (x3 + (1 : Int)) < xN h1 x0 ∧ (xK h1 x0 = 28 ∧ 0 ≤ wr (x3 + (2 : Int)) ∧ wr (x3 + (2 : Int)) < xN h1 x0 ∧ (xK h1 x0 = 28 ∧ 0 ≤ wr (x3 + (3 : Int)) ∧ wr (x3 + (3 : Int)) < xN h1 x0 ∧ (xK h1 x0 = 28 ∧ 0 ≤ wr (x3 + (4 : Int)) ∧ wr (x3 + (4 : Int)) < xN h1 x0 ∧ (xK h1 x2 = 12 ∧ Ev l D Y_M_op d 0 0 0 [some (vr x2), some (vi (xI h1 x0 (wr (x3 + (1 : Int))).toNat)), some (vi (xI h1 x0 (wr (x3 + (2 : Int))).toNat)), some (vi (xI h1 x0 (wr (x3 + (3 : Int))).toNat)), some (vi (xI h1 x0 (wr (x3 + (4 : Int))).toNat))] [] h1 (ki (fun r2 h2 => (r1 = r2 → (Ev l D Y_Law_law (d + 1) (kc + 2) ks 793 [some (vr x0), some (vr x1), some (vr x2), some (vi x3)] [] h2 Φ)) ∧ (¬ r1 = r2 → (Φ (some (vi (0 : Int))) h2))))))))))))))) : Ev l D Y_Law_law (d + 1) (kc + 5) (ks + 58) 225 [some (vr x0), some (vr x1), some (vr x2), some (vi x3)] [] h Φ := by
  refine a_aload_n d_Law_law_225 rfl ?_
  refine a_aload_n d_Law_law_226 rfl ?_
  refine a_iload_n d_Law_law_227 rfl ?_
  refine a_iconst d_Law_law_228 ⟨by decide, by decide⟩ ?_
  refine a_iadd d_Law_law_229 ?_
  obtain ⟨c1, c2, c3, v⟩ := v
  refine a_iald d_Law_law_230 (Or.inr c1) c2 c3 ?_
  refine a_aload_n d_Law_law_231 rfl ?_
  refine a_iload_n d_Law_law_232 rfl ?_
  refine a_iconst d_Law_law_233 ⟨by decide, by decide⟩ ?_
  refine a_iadd d_Law_law_234 ?_
  obtain ⟨c4, c5, c6, v⟩ := v
  refine a_iald d_Law_law_235 (Or.inr c4) c5 c6 ?_
  refine a_aload_n d_Law_law_236 rfl ?_
  refine a_iload_n d_Law_law_237 rfl ?_
  refine a_iconst d_Law_law_238 ⟨by decide, by decide⟩ ?_
  refine a_iadd d_Law_law_239 ?_
  obtain ⟨c7, c8, c9, v⟩ := v
  refine a_iald d_Law_law_240 (Or.inr c7) c8 c9 ?_
  refine a_aload_n d_Law_law_241 rfl ?_
  refine a_iload_n d_Law_law_242 rfl ?_
  refine a_iconst d_Law_law_243 ⟨by decide, by decide⟩ ?_
  refine a_iadd d_Law_law_244 ?_
  obtain ⟨c10, c11, c12, v⟩ := v
  refine a_iald d_Law_law_245 (Or.inr c10) c11 c12 ?_
  obtain ⟨c26, v⟩ := v
  refine b_callV (as := [vi (xI h x0 (wr (x3 + (1 : Int))).toNat), vi (xI h x0 (wr (x3 + (2 : Int))).toNat), vi (xI h x0 (wr (x3 + (3 : Int))).toNat), vi (xI h x0 (wr (x3 + (4 : Int))).toNat)]) (b := x1) (st := []) (kd := 1) (kc1 := 3) (ks1 := 58) (kc2 := kc + 2) (ks2 := ks) (d' := d) ml_Law_27 rfl d_Law_law_246 rfl rfl (Nat.le_of_ble_eq_true rfl) (by decide) rfl (Nat.le_refl _) (by omega) (by omega) c26 ?_
  refine Ev.mono v ?_
  intro u h1 v
  obtain ⟨r1, rfl, v⟩ := ki_el v
  change Ev l D Y_Law_law _ _ _ 249 [some (vr x0), some (vr x1), some (vr x2), some (vi x3)] [vi r1] _ _
  refine a_aload_n d_Law_law_249 rfl ?_
  refine a_aload_n d_Law_law_250 rfl ?_
  refine a_iload_n d_Law_law_251 rfl ?_
  refine a_iconst d_Law_law_252 ⟨by decide, by decide⟩ ?_
  refine a_iadd d_Law_law_253 ?_
  obtain ⟨c13, c14, c15, v⟩ := v
  refine a_iald d_Law_law_254 (Or.inr c13) c14 c15 ?_
  refine a_aload_n d_Law_law_255 rfl ?_
  refine a_iload_n d_Law_law_256 rfl ?_
  refine a_iconst d_Law_law_257 ⟨by decide, by decide⟩ ?_
  refine a_iadd d_Law_law_258 ?_
  obtain ⟨c16, c17, c18, v⟩ := v
  refine a_iald d_Law_law_259 (Or.inr c16) c17 c18 ?_
  refine a_aload_n d_Law_law_260 rfl ?_
  refine a_iload_n d_Law_law_261 rfl ?_
  refine a_iconst d_Law_law_262 ⟨by decide, by decide⟩ ?_
  refine a_iadd d_Law_law_263 ?_
  obtain ⟨c19, c20, c21, v⟩ := v
  refine a_iald d_Law_law_264 (Or.inr c19) c20 c21 ?_
  refine a_aload_n d_Law_law_265 rfl ?_
  refine a_iload_n d_Law_law_266 rfl ?_
  refine a_iconst d_Law_law_267 ⟨by decide, by decide⟩ ?_
  refine a_iadd d_Law_law_268 ?_
  obtain ⟨c22, c23, c24, v⟩ := v
  refine a_iald d_Law_law_269 (Or.inr c22) c23 c24 ?_
  obtain ⟨c25, v⟩ := v
  refine b_callV (as := [vi (xI h1 x0 (wr (x3 + (1 : Int))).toNat), vi (xI h1 x0 (wr (x3 + (2 : Int))).toNat), vi (xI h1 x0 (wr (x3 + (3 : Int))).toNat), vi (xI h1 x0 (wr (x3 + (4 : Int))).toNat)]) (b := x2) (st := [vi r1]) (kd := 12) (kc1 := 0) (ks1 := 0) (kc2 := kc + 2) (ks2 := ks) (d' := d) ml_Law_31 rfl d_Law_law_270 rfl rfl (Nat.le_of_ble_eq_true rfl) (by decide) rfl (Nat.le_refl _) (by omega) (by omega) c25 ?_
  refine Ev.mono v ?_
  intro u h2 v
  obtain ⟨r2, rfl, v⟩ := ki_el v
  change Ev l D Y_Law_law _ _ _ 273 [some (vr x0), some (vr x1), some (vr x2), some (vi x3)] [vi r2, vi r1] _ _
  obtain ⟨vt, vf⟩ := v
  refine a_icmp_eq (tgt := 793) d_Law_law_273 (by decide) (fun c => ?_) (fun c => ?_)
  · have v := vt (c); clear vt vf
    exact v
  · have v := vf (c); clear vt vf
    refine a_iconst d_Law_law_276 ⟨by decide, by decide⟩ ?_
    exact a_zret d_Law_law_277 rfl (Or.inl rfl) v
theorem s_Law_law_278 {l : Launch} {D : DD} {d kc ks : Nat} {h : Hp} {Φ : Option AV → Hp → Prop} {x0 : Nat} {x1 : Nat} {x2 : Nat} {x3 : Int} (v : xK h x0 = 28 ∧ 0 ≤ wr (x3 + (1 : Int)) ∧ wr (x3 + (1 : Int)) < xN h x0 ∧ (xK h x0 = 28 ∧ 0 ≤ wr (x3 + (2 : Int)) ∧ wr (x3 + (2 : Int)) < xN h x0 ∧ ((xI h x0 (wr (x3 + (2 : Int))).toNat = 0 → (xK h x1 = 1 ∧ Ev l D Y_G_root d 0 0 0 [some (vr x1), some (vi (xI h x0 (wr (x3 + (1 : Int))).toNat)), some (vi (0 : Int)), none, none] [] h (ki (fun r1 h1 => xK h1 x0 = 28 ∧ 0 ≤ wr (x3 + (1 : Int)) ∧ wr (x3 + (1 : Int)) < xN h1 x0 ∧ (xK h1 x0 = 28 ∧ 0 ≤ wr (x3 + (2 : Int)) ∧ wr (x3 + (2 : Int)) < xN h1 x0 ∧ ((xI h1 x0 (wr (x3 + (2 : Int))).toNat = 0 → (xK h1 x2 = 12 ∧ Ev l D Y_M_root d 0 0 0 [some (vr x2), some (vi (xI h1 x0 (wr (x3 + (1 : Int))).toNat)), some (vi (0 : Int)), none] [] h1 (ki (fun r2 h2 => (r1 = r2 → (Ev l D Y_Law_law (d + 1) (kc + 5) (ks + 58) 793 [some (vr x0), some (vr x1), some (vr x2), some (vi x3)] [] h2 Φ)) ∧ (¬ r1 = r2 → (Φ (some (vi (0 : Int))) h2)))))) ∧ (¬ xI h1 x0 (wr (x3 + (2 : Int))).toNat = 0 → (xK h1 x2 = 12 ∧ Ev l D Y_M_root d 0 0 0 [some (vr x2), some (vi (xI h1 x0 (wr (x3 + (1 : Int))).toNat)), some (vi (1 : Int)), none] [] h1 (ki (fun r3 h3 => (r1 = r3 → (Ev l D Y_Law_law (d + 1) (kc + 5) (ks + 58) 793 [some (vr x0), some (vr x1), some (vr x2), some (vi x3)] [] h3 Φ)) ∧ (¬ r1 = r3 → (Φ (some (vi (0 : Int))) h3)))))))))))) ∧ (¬ xI h x0 (wr (x3 + (2 : Int))).toNat = 0 → (xK h x1 = 1 ∧ Ev l D Y_G_root d 0 0 0 [some (vr x1), some (vi (xI h x0 (wr (x3 + (1 : Int))).toNat)), some (vi (1 : Int)), none, none] [] h (ki (fun r4 h4 => xK h4 x0 = 28 ∧ 0 ≤ wr (x3 + (1 : Int)) ∧ wr (x3 + (1 : Int)) < xN h4 x0 ∧ (xK h4 x0 = 28 ∧ 0 ≤ wr (x3 + (2 : Int)) ∧ wr (x3 + (2 : Int)) < xN h4 x0 ∧ ((xI h4 x0 (wr (x3 + (2 : Int))).toNat = 0 → (xK h4 x2 = 12 ∧ Ev l D Y_M_root d 0 0 0 [some (vr x2), some (vi (xI h4 x0 (wr (x3 + (1 : Int))).toNat)), some (vi (0 : Int)), none] [] h4 (ki (fun r5 h5 => (r4 = r5 → (Ev l D Y_Law_law (d + 1) (kc + 5) (ks + 58) 793 [some (vr x0), some (vr x1), some (vr x2), some (vi x3)] [] h5 Φ)) ∧ (¬ r4 = r5 → (Φ (some (vi (0 : Int))) h5)))))) ∧ (¬ xI h4 x0 (wr (x3 + (2 : Int))).toNat = 0 → (xK h4 x2 = 12 ∧ Ev l D Y_M_root d 0 0 0 [some (vr x2), some (vi (xI h4 x0 (wr (x3 + (1 : Int))).toNat)), some (vi (1 : Int)), none] [] h4 (ki (fun r6 h6 => (r4 = r6 → (Ev l D Y_Law_law (d + 1) (kc + 5) (ks + 58) 793 [some (vr x0), some (vr x1), some (vr x2), some (vi x3)] [] h6 Φ)) ∧ (¬ r4 = r6 → (Φ (some (vi (0 : Int))) h6))))))))))))))) : Ev l D Y_Law_law (d + 1) (kc + 5) (ks + 58) 278 [some (vr x0), some (vr x1), some (vr x2), some (vi x3)] [] h Φ := by
  refine a_aload_n d_Law_law_278 rfl ?_
  refine a_aload_n d_Law_law_279 rfl ?_
  refine a_iload_n d_Law_law_280 rfl ?_
  refine a_iconst d_Law_law_281 ⟨by decide, by decide⟩ ?_
  refine a_iadd d_Law_law_282 ?_
  obtain ⟨c1, c2, c3, v⟩ := v
  refine a_iald d_Law_law_283 (Or.inr c1) c2 c3 ?_
  refine a_aload_n d_Law_law_284 rfl ?_
  refine a_iload_n d_Law_law_285 rfl ?_
  refine a_iconst d_Law_law_286 ⟨by decide, by decide⟩ ?_
  refine a_iadd d_Law_law_287 ?_
  obtain ⟨c4, c5, c6, v⟩ := v
  refine a_iald d_Law_law_288 (Or.inr c4) c5 c6 ?_
  obtain ⟨vt, vf⟩ := v
  refine a_if_eq (tgt := 296) d_Law_law_289 (by decide) (fun c => ?_) (fun c => ?_)
  · have v := vt (c); clear vt vf
    refine a_iconst d_Law_law_296 ⟨by decide, by decide⟩ ?_
    obtain ⟨c15, v⟩ := v
    refine b_callV (as := [vi (xI h x0 (wr (x3 + (1 : Int))).toNat), vi (0 : Int)]) (b := x1) (st := []) (kd := 1) (kc1 := 0) (ks1 := 0) (kc2 := kc + 5) (ks2 := ks + 58) (d' := d) ml_Law_32 rfl d_Law_law_297 rfl rfl (Nat.le_of_ble_eq_true rfl) (by decide) rfl (Nat.le_refl _) (by omega) (by omega) c15 ?_
    refine Ev.mono v ?_
    intro u h1 v
    obtain ⟨r1, rfl, v⟩ := ki_el v
    change Ev l D Y_Law_law _ _ _ 300 [some (vr x0), some (vr x1), some (vr x2), some (vi x3)] [vi r1] _ _
    refine a_aload_n d_Law_law_300 rfl ?_
    refine a_aload_n d_Law_law_301 rfl ?_
    refine a_iload_n d_Law_law_302 rfl ?_
    refine a_iconst d_Law_law_303 ⟨by decide, by decide⟩ ?_
    refine a_iadd d_Law_law_304 ?_
    obtain ⟨c7, c8, c9, v⟩ := v
    refine a_iald d_Law_law_305 (Or.inr c7) c8 c9 ?_
    refine a_aload_n d_Law_law_306 rfl ?_
    refine a_iload_n d_Law_law_307 rfl ?_
    refine a_iconst d_Law_law_308 ⟨by decide, by decide⟩ ?_
    refine a_iadd d_Law_law_309 ?_
    obtain ⟨c10, c11, c12, v⟩ := v
    refine a_iald d_Law_law_310 (Or.inr c10) c11 c12 ?_
    obtain ⟨vt, vf⟩ := v
    refine a_if_eq (tgt := 318) d_Law_law_311 (by decide) (fun c => ?_) (fun c => ?_)
    · have v := vt (c); clear vt vf
      refine a_iconst d_Law_law_318 ⟨by decide, by decide⟩ ?_
      obtain ⟨c13, v⟩ := v
      refine b_callV (as := [vi (xI h1 x0 (wr (x3 + (1 : Int))).toNat), vi (0 : Int)]) (b := x2) (st := [vi r1]) (kd := 12) (kc1 := 0) (ks1 := 0) (kc2 := kc + 5) (ks2 := ks + 58) (d' := d) ml_Law_36 rfl d_Law_law_319 rfl rfl (Nat.le_of_ble_eq_true rfl) (by decide) rfl (Nat.le_refl _) (by omega) (by omega) c13 ?_
      refine Ev.mono v ?_
      intro u h2 v
      obtain ⟨r2, rfl, v⟩ := ki_el v
      change Ev l D Y_Law_law _ _ _ 322 [some (vr x0), some (vr x1), some (vr x2), some (vi x3)] [vi r2, vi r1] _ _
      obtain ⟨vt, vf⟩ := v
      refine a_icmp_eq (tgt := 793) d_Law_law_322 (by decide) (fun c => ?_) (fun c => ?_)
      · have v := vt (c); clear vt vf
        exact v
      · have v := vf (c); clear vt vf
        refine a_iconst d_Law_law_325 ⟨by decide, by decide⟩ ?_
        exact a_zret d_Law_law_326 rfl (Or.inl rfl) v
    · have v := vf (c); clear vt vf
      refine a_iconst d_Law_law_314 ⟨by decide, by decide⟩ ?_
      refine a_goto (tgt := 319) d_Law_law_315 (by decide) ?_
      obtain ⟨c14, v⟩ := v
      refine b_callV (as := [vi (xI h1 x0 (wr (x3 + (1 : Int))).toNat), vi (1 : Int)]) (b := x2) (st := [vi r1]) (kd := 12) (kc1 := 0) (ks1 := 0) (kc2 := kc + 5) (ks2 := ks + 58) (d' := d) ml_Law_36 rfl d_Law_law_319 rfl rfl (Nat.le_of_ble_eq_true rfl) (by decide) rfl (Nat.le_refl _) (by omega) (by omega) c14 ?_
      refine Ev.mono v ?_
      intro u h3 v
      obtain ⟨r3, rfl, v⟩ := ki_el v
      change Ev l D Y_Law_law _ _ _ 322 [some (vr x0), some (vr x1), some (vr x2), some (vi x3)] [vi r3, vi r1] _ _
      obtain ⟨vt, vf⟩ := v
      refine a_icmp_eq (tgt := 793) d_Law_law_322 (by decide) (fun c => ?_) (fun c => ?_)
      · have v := vt (c); clear vt vf
        exact v
      · have v := vf (c); clear vt vf
        refine a_iconst d_Law_law_325 ⟨by decide, by decide⟩ ?_
        exact a_zret d_Law_law_326 rfl (Or.inl rfl) v
  · have v := vf (c); clear vt vf
    refine a_iconst d_Law_law_292 ⟨by decide, by decide⟩ ?_
    refine a_goto (tgt := 297) d_Law_law_293 (by decide) ?_
    obtain ⟨c24, v⟩ := v
    refine b_callV (as := [vi (xI h x0 (wr (x3 + (1 : Int))).toNat), vi (1 : Int)]) (b := x1) (st := []) (kd := 1) (kc1 := 0) (ks1 := 0) (kc2 := kc + 5) (ks2 := ks + 58) (d' := d) ml_Law_32 rfl d_Law_law_297 rfl rfl (Nat.le_of_ble_eq_true rfl) (by decide) rfl (Nat.le_refl _) (by omega) (by omega) c24 ?_
    refine Ev.mono v ?_
    intro u h4 v
    obtain ⟨r4, rfl, v⟩ := ki_el v
    change Ev l D Y_Law_law _ _ _ 300 [some (vr x0), some (vr x1), some (vr x2), some (vi x3)] [vi r4] _ _
    refine a_aload_n d_Law_law_300 rfl ?_
    refine a_aload_n d_Law_law_301 rfl ?_
    refine a_iload_n d_Law_law_302 rfl ?_
    refine a_iconst d_Law_law_303 ⟨by decide, by decide⟩ ?_
    refine a_iadd d_Law_law_304 ?_
    obtain ⟨c16, c17, c18, v⟩ := v
    refine a_iald d_Law_law_305 (Or.inr c16) c17 c18 ?_
    refine a_aload_n d_Law_law_306 rfl ?_
    refine a_iload_n d_Law_law_307 rfl ?_
    refine a_iconst d_Law_law_308 ⟨by decide, by decide⟩ ?_
    refine a_iadd d_Law_law_309 ?_
    obtain ⟨c19, c20, c21, v⟩ := v
    refine a_iald d_Law_law_310 (Or.inr c19) c20 c21 ?_
    obtain ⟨vt, vf⟩ := v
    refine a_if_eq (tgt := 318) d_Law_law_311 (by decide) (fun c => ?_) (fun c => ?_)
    · have v := vt (c); clear vt vf
      refine a_iconst d_Law_law_318 ⟨by decide, by decide⟩ ?_
      obtain ⟨c22, v⟩ := v
      refine b_callV (as := [vi (xI h4 x0 (wr (x3 + (1 : Int))).toNat), vi (0 : Int)]) (b := x2) (st := [vi r4]) (kd := 12) (kc1 := 0) (ks1 := 0) (kc2 := kc + 5) (ks2 := ks + 58) (d' := d) ml_Law_36 rfl d_Law_law_319 rfl rfl (Nat.le_of_ble_eq_true rfl) (by decide) rfl (Nat.le_refl _) (by omega) (by omega) c22 ?_
      refine Ev.mono v ?_
      intro u h5 v
      obtain ⟨r5, rfl, v⟩ := ki_el v
      change Ev l D Y_Law_law _ _ _ 322 [some (vr x0), some (vr x1), some (vr x2), some (vi x3)] [vi r5, vi r4] _ _
      obtain ⟨vt, vf⟩ := v
      refine a_icmp_eq (tgt := 793) d_Law_law_322 (by decide) (fun c => ?_) (fun c => ?_)
      · have v := vt (c); clear vt vf
        exact v
      · have v := vf (c); clear vt vf
        refine a_iconst d_Law_law_325 ⟨by decide, by decide⟩ ?_
        exact a_zret d_Law_law_326 rfl (Or.inl rfl) v
    · have v := vf (c); clear vt vf
      refine a_iconst d_Law_law_314 ⟨by decide, by decide⟩ ?_
      refine a_goto (tgt := 319) d_Law_law_315 (by decide) ?_
      obtain ⟨c23, v⟩ := v
      refine b_callV (as := [vi (xI h4 x0 (wr (x3 + (1 : Int))).toNat), vi (1 : Int)]) (b := x2) (st := [vi r4]) (kd := 12) (kc1 := 0) (ks1 := 0) (kc2 := kc + 5) (ks2 := ks + 58) (d' := d) ml_Law_36 rfl d_Law_law_319 rfl rfl (Nat.le_of_ble_eq_true rfl) (by decide) rfl (Nat.le_refl _) (by omega) (by omega) c23 ?_
      refine Ev.mono v ?_
      intro u h6 v
      obtain ⟨r6, rfl, v⟩ := ki_el v
      change Ev l D Y_Law_law _ _ _ 322 [some (vr x0), some (vr x1), some (vr x2), some (vi x3)] [vi r6, vi r4] _ _
      obtain ⟨vt, vf⟩ := v
      refine a_icmp_eq (tgt := 793) d_Law_law_322 (by decide) (fun c => ?_) (fun c => ?_)
      · have v := vt (c); clear vt vf
        exact v
      · have v := vf (c); clear vt vf
        refine a_iconst d_Law_law_325 ⟨by decide, by decide⟩ ?_
        exact a_zret d_Law_law_326 rfl (Or.inl rfl) v
theorem s_Law_law_327 {l : Launch} {D : DD} {d kc ks : Nat} {h : Hp} {Φ : Option AV → Hp → Prop} {x0 : Nat} {x1 : Nat} {x2 : Nat} {x3 : Int} (v : xK h x0 = 28 ∧ 0 ≤ wr (x3 + (1 : Int)) ∧ wr (x3 + (1 : Int)) < xN h x0 ∧ (xK h x1 = 1 ∧ Ev l D Y_G_count d 0 0 0 [some (vr x1), some (vi (xI h x0 (wr (x3 + (1 : Int))).toNat)), none, none] [] h (ki (fun r1 h1 => xK h1 x0 = 28 ∧ 0 ≤ wr (x3 + (1 : Int)) ∧ wr (x3 + (1 : Int)) < xN h1 x0 ∧ (xK h1 x2 = 12 ∧ Ev l D Y_M_count d 0 0 0 [some (vr x2), some (vi (xI h1 x0 (wr (x3 + (1 : Int))).toNat))] [] h1 (ki (fun r2 h2 => (r1 = r2 → (Ev l D Y_Law_law (d + 1) (kc + 5) (ks + 58) 793 [some (vr x0), some (vr x1), some (vr x2), some (vi x3)] [] h2 Φ)) ∧ (¬ r1 = r2 → (Φ (some (vi (0 : Int))) h2))))))))) : Ev l D Y_Law_law (d + 1) (kc + 5) (ks + 58) 327 [some (vr x0), some (vr x1), some (vr x2), some (vi x3)] [] h Φ := by
  refine a_aload_n d_Law_law_327 rfl ?_
  refine a_aload_n d_Law_law_328 rfl ?_
  refine a_iload_n d_Law_law_329 rfl ?_
  refine a_iconst d_Law_law_330 ⟨by decide, by decide⟩ ?_
  refine a_iadd d_Law_law_331 ?_
  obtain ⟨c1, c2, c3, v⟩ := v
  refine a_iald d_Law_law_332 (Or.inr c1) c2 c3 ?_
  obtain ⟨c8, v⟩ := v
  refine b_callV (as := [vi (xI h x0 (wr (x3 + (1 : Int))).toNat)]) (b := x1) (st := []) (kd := 1) (kc1 := 0) (ks1 := 0) (kc2 := kc + 5) (ks2 := ks + 58) (d' := d) ml_Law_37 rfl d_Law_law_333 rfl rfl (Nat.le_of_ble_eq_true rfl) (by decide) rfl (Nat.le_refl _) (by omega) (by omega) c8 ?_
  refine Ev.mono v ?_
  intro u h1 v
  obtain ⟨r1, rfl, v⟩ := ki_el v
  change Ev l D Y_Law_law _ _ _ 336 [some (vr x0), some (vr x1), some (vr x2), some (vi x3)] [vi r1] _ _
  refine a_aload_n d_Law_law_336 rfl ?_
  refine a_aload_n d_Law_law_337 rfl ?_
  refine a_iload_n d_Law_law_338 rfl ?_
  refine a_iconst d_Law_law_339 ⟨by decide, by decide⟩ ?_
  refine a_iadd d_Law_law_340 ?_
  obtain ⟨c4, c5, c6, v⟩ := v
  refine a_iald d_Law_law_341 (Or.inr c4) c5 c6 ?_
  obtain ⟨c7, v⟩ := v
  refine b_callV (as := [vi (xI h1 x0 (wr (x3 + (1 : Int))).toNat)]) (b := x2) (st := [vi r1]) (kd := 12) (kc1 := 0) (ks1 := 0) (kc2 := kc + 5) (ks2 := ks + 58) (d' := d) ml_Law_41 rfl d_Law_law_342 rfl rfl (Nat.le_of_ble_eq_true rfl) (by decide) rfl (Nat.le_refl _) (by omega) (by omega) c7 ?_
  refine Ev.mono v ?_
  intro u h2 v
  obtain ⟨r2, rfl, v⟩ := ki_el v
  change Ev l D Y_Law_law _ _ _ 345 [some (vr x0), some (vr x1), some (vr x2), some (vi x3)] [vi r2, vi r1] _ _
  obtain ⟨vt, vf⟩ := v
  refine a_icmp_eq (tgt := 793) d_Law_law_345 (by decide) (fun c => ?_) (fun c => ?_)
  · have v := vt (c); clear vt vf
    exact v
  · have v := vf (c); clear vt vf
    refine a_iconst d_Law_law_348 ⟨by decide, by decide⟩ ?_
    exact a_zret d_Law_law_349 rfl (Or.inl rfl) v
theorem s_Law_law_350 {l : Launch} {D : DD} {d kc ks : Nat} {h : Hp} {Φ : Option AV → Hp → Prop} {x0 : Nat} {x1 : Nat} {x2 : Nat} {x3 : Int} (v : xK h x0 = 28 ∧ 0 ≤ wr (x3 + (1 : Int)) ∧ wr (x3 + (1 : Int)) < xN h x0 ∧ (xK h x0 = 28 ∧ 0 ≤ wr (x3 + (2 : Int)) ∧ wr (x3 + (2 : Int)) < xN h x0 ∧ (xK h x1 = 1 ∧ Ev l D Y_G_under d 0 0 0 [some (vr x1), some (vi (xI h x0 (wr (x3 + (1 : Int))).toNat)), some (vi (xI h x0 (wr (x3 + (2 : Int))).toNat))] [] h (ki (fun r1 h1 => xK h1 x0 = 28 ∧ 0 ≤ wr (x3 + (1 : Int)) ∧ wr (x3 + (1 : Int)) < xN h1 x0 ∧ (xK h1 x0 = 28 ∧ 0 ≤ wr (x3 + (2 : Int)) ∧ wr (x3 + (2 : Int)) < xN h1 x0 ∧ (xK h1 x2 = 12 ∧ Ev l D Y_M_under d 0 0 0 [some (vr x2), some (vi (xI h1 x0 (wr (x3 + (1 : Int))).toNat)), some (vi (xI h1 x0 (wr (x3 + (2 : Int))).toNat))] [] h1 (ki (fun r2 h2 => (r1 = r2 → (Ev l D Y_Law_law (d + 1) (kc + 5) (ks + 58) 793 [some (vr x0), some (vr x1), some (vr x2), some (vi x3)] [] h2 Φ)) ∧ (¬ r1 = r2 → (Φ (some (vi (0 : Int))) h2))))))))))) : Ev l D Y_Law_law (d + 1) (kc + 5) (ks + 58) 350 [some (vr x0), some (vr x1), some (vr x2), some (vi x3)] [] h Φ := by
  refine a_aload_n d_Law_law_350 rfl ?_
  refine a_aload_n d_Law_law_351 rfl ?_
  refine a_iload_n d_Law_law_352 rfl ?_
  refine a_iconst d_Law_law_353 ⟨by decide, by decide⟩ ?_
  refine a_iadd d_Law_law_354 ?_
  obtain ⟨c1, c2, c3, v⟩ := v
  refine a_iald d_Law_law_355 (Or.inr c1) c2 c3 ?_
  refine a_aload_n d_Law_law_356 rfl ?_
  refine a_iload_n d_Law_law_357 rfl ?_
  refine a_iconst d_Law_law_358 ⟨by decide, by decide⟩ ?_
  refine a_iadd d_Law_law_359 ?_
  obtain ⟨c4, c5, c6, v⟩ := v
  refine a_iald d_Law_law_360 (Or.inr c4) c5 c6 ?_
  obtain ⟨c14, v⟩ := v
  refine b_callV (as := [vi (xI h x0 (wr (x3 + (1 : Int))).toNat), vi (xI h x0 (wr (x3 + (2 : Int))).toNat)]) (b := x1) (st := []) (kd := 1) (kc1 := 0) (ks1 := 0) (kc2 := kc + 5) (ks2 := ks + 58) (d' := d) ml_Law_42 rfl d_Law_law_361 rfl rfl (Nat.le_of_ble_eq_true rfl) (by decide) rfl (Nat.le_refl _) (by omega) (by omega) c14 ?_
  refine Ev.mono v ?_
  intro u h1 v
  obtain ⟨r1, rfl, v⟩ := ki_el v
  change Ev l D Y_Law_law _ _ _ 364 [some (vr x0), some (vr x1), some (vr x2), some (vi x3)] [vi r1] _ _
  refine a_aload_n d_Law_law_364 rfl ?_
  refine a_aload_n d_Law_law_365 rfl ?_
  refine a_iload_n d_Law_law_366 rfl ?_
  refine a_iconst d_Law_law_367 ⟨by decide, by decide⟩ ?_
  refine a_iadd d_Law_law_368 ?_
  obtain ⟨c7, c8, c9, v⟩ := v
  refine a_iald d_Law_law_369 (Or.inr c7) c8 c9 ?_
  refine a_aload_n d_Law_law_370 rfl ?_
  refine a_iload_n d_Law_law_371 rfl ?_
  refine a_iconst d_Law_law_372 ⟨by decide, by decide⟩ ?_
  refine a_iadd d_Law_law_373 ?_
  obtain ⟨c10, c11, c12, v⟩ := v
  refine a_iald d_Law_law_374 (Or.inr c10) c11 c12 ?_
  obtain ⟨c13, v⟩ := v
  refine b_callV (as := [vi (xI h1 x0 (wr (x3 + (1 : Int))).toNat), vi (xI h1 x0 (wr (x3 + (2 : Int))).toNat)]) (b := x2) (st := [vi r1]) (kd := 12) (kc1 := 0) (ks1 := 0) (kc2 := kc + 5) (ks2 := ks + 58) (d' := d) ml_Law_45 rfl d_Law_law_375 rfl rfl (Nat.le_of_ble_eq_true rfl) (by decide) rfl (Nat.le_refl _) (by omega) (by omega) c13 ?_
  refine Ev.mono v ?_
  intro u h2 v
  obtain ⟨r2, rfl, v⟩ := ki_el v
  change Ev l D Y_Law_law _ _ _ 378 [some (vr x0), some (vr x1), some (vr x2), some (vi x3)] [vi r2, vi r1] _ _
  obtain ⟨vt, vf⟩ := v
  refine a_icmp_eq (tgt := 793) d_Law_law_378 (by decide) (fun c => ?_) (fun c => ?_)
  · have v := vt (c); clear vt vf
    exact v
  · have v := vf (c); clear vt vf
    refine a_iconst d_Law_law_381 ⟨by decide, by decide⟩ ?_
    exact a_zret d_Law_law_382 rfl (Or.inl rfl) v
theorem s_Law_law_383 {l : Launch} {D : DD} {d kc ks : Nat} {h : Hp} {Φ : Option AV → Hp → Prop} {x0 : Nat} {x1 : Nat} {x2 : Nat} {x3 : Int} (v : xK h x0 = 28 ∧ 0 ≤ wr (x3 + (1 : Int)) ∧ wr (x3 + (1 : Int)) < xN h x0 ∧ (xK h x0 = 28 ∧ 0 ≤ wr (x3 + (2 : Int)) ∧ wr (x3 + (2 : Int)) < xN h x0 ∧ (xK h x1 = 1 ∧ Ev l D Y_G_found d 0 0 0 [some (vr x1), some (vi (xI h x0 (wr (x3 + (1 : Int))).toNat)), some (vi (xI h x0 (wr (x3 + (2 : Int))).toNat)), none] [] h (ki (fun r1 h1 => xK h1 x0 = 28 ∧ 0 ≤ wr (x3 + (1 : Int)) ∧ wr (x3 + (1 : Int)) < xN h1 x0 ∧ (xK h1 x0 = 28 ∧ 0 ≤ wr (x3 + (2 : Int)) ∧ wr (x3 + (2 : Int)) < xN h1 x0 ∧ (xK h1 x2 = 12 ∧ Ev l D Y_M_found d 0 0 0 [some (vr x2), some (vi (xI h1 x0 (wr (x3 + (1 : Int))).toNat)), some (vi (xI h1 x0 (wr (x3 + (2 : Int))).toNat))] [] h1 (ki (fun r2 h2 => (r1 = r2 → (Ev l D Y_Law_law (d + 1) (kc + 5) (ks + 58) 793 [some (vr x0), some (vr x1), some (vr x2), some (vi x3)] [] h2 Φ)) ∧ (¬ r1 = r2 → (Φ (some (vi (0 : Int))) h2))))))))))) : Ev l D Y_Law_law (d + 1) (kc + 5) (ks + 58) 383 [some (vr x0), some (vr x1), some (vr x2), some (vi x3)] [] h Φ := by
  refine a_aload_n d_Law_law_383 rfl ?_
  refine a_aload_n d_Law_law_384 rfl ?_
  refine a_iload_n d_Law_law_385 rfl ?_
  refine a_iconst d_Law_law_386 ⟨by decide, by decide⟩ ?_
  refine a_iadd d_Law_law_387 ?_
  obtain ⟨c1, c2, c3, v⟩ := v
  refine a_iald d_Law_law_388 (Or.inr c1) c2 c3 ?_
  refine a_aload_n d_Law_law_389 rfl ?_
  refine a_iload_n d_Law_law_390 rfl ?_
  refine a_iconst d_Law_law_391 ⟨by decide, by decide⟩ ?_
  refine a_iadd d_Law_law_392 ?_
  obtain ⟨c4, c5, c6, v⟩ := v
  refine a_iald d_Law_law_393 (Or.inr c4) c5 c6 ?_
  obtain ⟨c14, v⟩ := v
  refine b_callV (as := [vi (xI h x0 (wr (x3 + (1 : Int))).toNat), vi (xI h x0 (wr (x3 + (2 : Int))).toNat)]) (b := x1) (st := []) (kd := 1) (kc1 := 0) (ks1 := 0) (kc2 := kc + 5) (ks2 := ks + 58) (d' := d) ml_Law_46 rfl d_Law_law_394 rfl rfl (Nat.le_of_ble_eq_true rfl) (by decide) rfl (Nat.le_refl _) (by omega) (by omega) c14 ?_
  refine Ev.mono v ?_
  intro u h1 v
  obtain ⟨r1, rfl, v⟩ := ki_el v
  change Ev l D Y_Law_law _ _ _ 397 [some (vr x0), some (vr x1), some (vr x2), some (vi x3)] [vi r1] _ _
  refine a_aload_n d_Law_law_397 rfl ?_
  refine a_aload_n d_Law_law_398 rfl ?_
  refine a_iload_n d_Law_law_399 rfl ?_
  refine a_iconst d_Law_law_400 ⟨by decide, by decide⟩ ?_
  refine a_iadd d_Law_law_401 ?_
  obtain ⟨c7, c8, c9, v⟩ := v
  refine a_iald d_Law_law_402 (Or.inr c7) c8 c9 ?_
  refine a_aload_n d_Law_law_403 rfl ?_
  refine a_iload_n d_Law_law_404 rfl ?_
  refine a_iconst d_Law_law_405 ⟨by decide, by decide⟩ ?_
  refine a_iadd d_Law_law_406 ?_
  obtain ⟨c10, c11, c12, v⟩ := v
  refine a_iald d_Law_law_407 (Or.inr c10) c11 c12 ?_
  obtain ⟨c13, v⟩ := v
  refine b_callV (as := [vi (xI h1 x0 (wr (x3 + (1 : Int))).toNat), vi (xI h1 x0 (wr (x3 + (2 : Int))).toNat)]) (b := x2) (st := [vi r1]) (kd := 12) (kc1 := 0) (ks1 := 0) (kc2 := kc + 5) (ks2 := ks + 58) (d' := d) ml_Law_49 rfl d_Law_law_408 rfl rfl (Nat.le_of_ble_eq_true rfl) (by decide) rfl (Nat.le_refl _) (by omega) (by omega) c13 ?_
  refine Ev.mono v ?_
  intro u h2 v
  obtain ⟨r2, rfl, v⟩ := ki_el v
  change Ev l D Y_Law_law _ _ _ 411 [some (vr x0), some (vr x1), some (vr x2), some (vi x3)] [vi r2, vi r1] _ _
  obtain ⟨vt, vf⟩ := v
  refine a_icmp_eq (tgt := 793) d_Law_law_411 (by decide) (fun c => ?_) (fun c => ?_)
  · have v := vt (c); clear vt vf
    exact v
  · have v := vf (c); clear vt vf
    refine a_iconst d_Law_law_414 ⟨by decide, by decide⟩ ?_
    exact a_zret d_Law_law_415 rfl (Or.inl rfl) v
theorem s_Law_law_416 {l : Launch} {D : DD} {d kc ks : Nat} {h : Hp} {Φ : Option AV → Hp → Prop} {x0 : Nat} {x1 : Nat} {x2 : Nat} {x3 : Int} (v : xK h x0 = 28 ∧ 0 ≤ wr (x3 + (1 : Int)) ∧ wr (x3 + (1 : Int)) < xN h x0 ∧ (xK h x0 = 28 ∧ 0 ≤ wr (x3 + (2 : Int)) ∧ wr (x3 + (2 : Int)) < xN h x0 ∧ (xK h x0 = 28 ∧ 0 ≤ wr (x3 + (3 : Int)) ∧ wr (x3 + (3 : Int)) < xN h x0 ∧ (xK h x1 = 1 ∧ Ev l D Y_G_chosen d 0 0 0 [some (vr x1), some (vi (xI h x0 (wr (x3 + (1 : Int))).toNat)), some (vi (xI h x0 (wr (x3 + (2 : Int))).toNat)), some (vi (xI h x0 (wr (x3 + (3 : Int))).toNat))] [] h (ki (fun r1 h1 => xK h1 x0 = 28 ∧ 0 ≤ wr (x3 + (1 : Int)) ∧ wr (x3 + (1 : Int)) < xN h1 x0 ∧ (xK h1 x0 = 28 ∧ 0 ≤ wr (x3 + (2 : Int)) ∧ wr (x3 + (2 : Int)) < xN h1 x0 ∧ (xK h1 x0 = 28 ∧ 0 ≤ wr (x3 + (3 : Int)) ∧ wr (x3 + (3 : Int)) < xN h1 x0 ∧ (xK h1 x2 = 12 ∧ Ev l D Y_M_chosen d 0 0 0 [some (vr x2), some (vi (xI h1 x0 (wr (x3 + (1 : Int))).toNat)), some (vi (xI h1 x0 (wr (x3 + (2 : Int))).toNat)), some (vi (xI h1 x0 (wr (x3 + (3 : Int))).toNat))] [] h1 (ki (fun r2 h2 => (r1 = r2 → (Ev l D Y_Law_law (d + 1) (kc + 5) (ks + 58) 793 [some (vr x0), some (vr x1), some (vr x2), some (vi x3)] [] h2 Φ)) ∧ (¬ r1 = r2 → (Φ (some (vi (0 : Int))) h2))))))))))))) : Ev l D Y_Law_law (d + 1) (kc + 5) (ks + 58) 416 [some (vr x0), some (vr x1), some (vr x2), some (vi x3)] [] h Φ := by
  refine a_aload_n d_Law_law_416 rfl ?_
  refine a_aload_n d_Law_law_417 rfl ?_
  refine a_iload_n d_Law_law_418 rfl ?_
  refine a_iconst d_Law_law_419 ⟨by decide, by decide⟩ ?_
  refine a_iadd d_Law_law_420 ?_
  obtain ⟨c1, c2, c3, v⟩ := v
  refine a_iald d_Law_law_421 (Or.inr c1) c2 c3 ?_
  refine a_aload_n d_Law_law_422 rfl ?_
  refine a_iload_n d_Law_law_423 rfl ?_
  refine a_iconst d_Law_law_424 ⟨by decide, by decide⟩ ?_
  refine a_iadd d_Law_law_425 ?_
  obtain ⟨c4, c5, c6, v⟩ := v
  refine a_iald d_Law_law_426 (Or.inr c4) c5 c6 ?_
  refine a_aload_n d_Law_law_427 rfl ?_
  refine a_iload_n d_Law_law_428 rfl ?_
  refine a_iconst d_Law_law_429 ⟨by decide, by decide⟩ ?_
  refine a_iadd d_Law_law_430 ?_
  obtain ⟨c7, c8, c9, v⟩ := v
  refine a_iald d_Law_law_431 (Or.inr c7) c8 c9 ?_
  obtain ⟨c20, v⟩ := v
  refine b_callV (as := [vi (xI h x0 (wr (x3 + (1 : Int))).toNat), vi (xI h x0 (wr (x3 + (2 : Int))).toNat), vi (xI h x0 (wr (x3 + (3 : Int))).toNat)]) (b := x1) (st := []) (kd := 1) (kc1 := 0) (ks1 := 0) (kc2 := kc + 5) (ks2 := ks + 58) (d' := d) ml_Law_50 rfl d_Law_law_432 rfl rfl (Nat.le_of_ble_eq_true rfl) (by decide) rfl (Nat.le_refl _) (by omega) (by omega) c20 ?_
  refine Ev.mono v ?_
  intro u h1 v
  obtain ⟨r1, rfl, v⟩ := ki_el v
  change Ev l D Y_Law_law _ _ _ 435 [some (vr x0), some (vr x1), some (vr x2), some (vi x3)] [vi r1] _ _
  refine a_aload_n d_Law_law_435 rfl ?_
  refine a_aload_n d_Law_law_436 rfl ?_
  refine a_iload_n d_Law_law_437 rfl ?_
  refine a_iconst d_Law_law_438 ⟨by decide, by decide⟩ ?_
  refine a_iadd d_Law_law_439 ?_
  obtain ⟨c10, c11, c12, v⟩ := v
  refine a_iald d_Law_law_440 (Or.inr c10) c11 c12 ?_
  refine a_aload_n d_Law_law_441 rfl ?_
  refine a_iload_n d_Law_law_442 rfl ?_
  refine a_iconst d_Law_law_443 ⟨by decide, by decide⟩ ?_
  refine a_iadd d_Law_law_444 ?_
  obtain ⟨c13, c14, c15, v⟩ := v
  refine a_iald d_Law_law_445 (Or.inr c13) c14 c15 ?_
  refine a_aload_n d_Law_law_446 rfl ?_
  refine a_iload_n d_Law_law_447 rfl ?_
  refine a_iconst d_Law_law_448 ⟨by decide, by decide⟩ ?_
  refine a_iadd d_Law_law_449 ?_
  obtain ⟨c16, c17, c18, v⟩ := v
  refine a_iald d_Law_law_450 (Or.inr c16) c17 c18 ?_
  obtain ⟨c19, v⟩ := v
  refine b_callV (as := [vi (xI h1 x0 (wr (x3 + (1 : Int))).toNat), vi (xI h1 x0 (wr (x3 + (2 : Int))).toNat), vi (xI h1 x0 (wr (x3 + (3 : Int))).toNat)]) (b := x2) (st := [vi r1]) (kd := 12) (kc1 := 0) (ks1 := 0) (kc2 := kc + 5) (ks2 := ks + 58) (d' := d) ml_Law_53 rfl d_Law_law_451 rfl rfl (Nat.le_of_ble_eq_true rfl) (by decide) rfl (Nat.le_refl _) (by omega) (by omega) c19 ?_
  refine Ev.mono v ?_
  intro u h2 v
  obtain ⟨r2, rfl, v⟩ := ki_el v
  change Ev l D Y_Law_law _ _ _ 454 [some (vr x0), some (vr x1), some (vr x2), some (vi x3)] [vi r2, vi r1] _ _
  obtain ⟨vt, vf⟩ := v
  refine a_icmp_eq (tgt := 793) d_Law_law_454 (by decide) (fun c => ?_) (fun c => ?_)
  · have v := vt (c); clear vt vf
    exact v
  · have v := vf (c); clear vt vf
    refine a_iconst d_Law_law_457 ⟨by decide, by decide⟩ ?_
    exact a_zret d_Law_law_458 rfl (Or.inl rfl) v
theorem s_Law_law_459 {l : Launch} {D : DD} {d kc ks : Nat} {h : Hp} {Φ : Option AV → Hp → Prop} {x0 : Nat} {x1 : Nat} {x2 : Nat} {x3 : Int} (v : xK h x0 = 28 ∧ 0 ≤ wr (x3 + (1 : Int)) ∧ wr (x3 + (1 : Int)) < xN h x0 ∧ (xK h x0 = 28 ∧ 0 ≤ wr (x3 + (2 : Int)) ∧ wr (x3 + (2 : Int)) < xN h x0 ∧ (xK h x1 = 1 ∧ Ev l D Y_G_about d 0 0 0 [some (vr x1), some (vi (xI h x0 (wr (x3 + (1 : Int))).toNat)), some (vi (xI h x0 (wr (x3 + (2 : Int))).toNat)), none, none, none] [] h (ki (fun r1 h1 => xK h1 x0 = 28 ∧ 0 ≤ wr (x3 + (1 : Int)) ∧ wr (x3 + (1 : Int)) < xN h1 x0 ∧ (xK h1 x0 = 28 ∧ 0 ≤ wr (x3 + (2 : Int)) ∧ wr (x3 + (2 : Int)) < xN h1 x0 ∧ (xK h1 x2 = 12 ∧ Ev l D Y_M_about d 0 0 0 [some (vr x2), some (vi (xI h1 x0 (wr (x3 + (1 : Int))).toNat)), some (vi (xI h1 x0 (wr (x3 + (2 : Int))).toNat)), none, none, none] [] h1 (ki (fun r2 h2 => (r1 = r2 → (Ev l D Y_Law_law (d + 1) (kc + 5) (ks + 58) 793 [some (vr x0), some (vr x1), some (vr x2), some (vi x3)] [] h2 Φ)) ∧ (¬ r1 = r2 → (Φ (some (vi (0 : Int))) h2))))))))))) : Ev l D Y_Law_law (d + 1) (kc + 5) (ks + 58) 459 [some (vr x0), some (vr x1), some (vr x2), some (vi x3)] [] h Φ := by
  refine a_aload_n d_Law_law_459 rfl ?_
  refine a_aload_n d_Law_law_460 rfl ?_
  refine a_iload_n d_Law_law_461 rfl ?_
  refine a_iconst d_Law_law_462 ⟨by decide, by decide⟩ ?_
  refine a_iadd d_Law_law_463 ?_
  obtain ⟨c1, c2, c3, v⟩ := v
  refine a_iald d_Law_law_464 (Or.inr c1) c2 c3 ?_
  refine a_aload_n d_Law_law_465 rfl ?_
  refine a_iload_n d_Law_law_466 rfl ?_
  refine a_iconst d_Law_law_467 ⟨by decide, by decide⟩ ?_
  refine a_iadd d_Law_law_468 ?_
  obtain ⟨c4, c5, c6, v⟩ := v
  refine a_iald d_Law_law_469 (Or.inr c4) c5 c6 ?_
  obtain ⟨c14, v⟩ := v
  refine b_callV (as := [vi (xI h x0 (wr (x3 + (1 : Int))).toNat), vi (xI h x0 (wr (x3 + (2 : Int))).toNat)]) (b := x1) (st := []) (kd := 1) (kc1 := 0) (ks1 := 0) (kc2 := kc + 5) (ks2 := ks + 58) (d' := d) ml_Law_54 rfl d_Law_law_470 rfl rfl (Nat.le_of_ble_eq_true rfl) (by decide) rfl (Nat.le_refl _) (by omega) (by omega) c14 ?_
  refine Ev.mono v ?_
  intro u h1 v
  obtain ⟨r1, rfl, v⟩ := ki_el v
  change Ev l D Y_Law_law _ _ _ 473 [some (vr x0), some (vr x1), some (vr x2), some (vi x3)] [vi r1] _ _
  refine a_aload_n d_Law_law_473 rfl ?_
  refine a_aload_n d_Law_law_474 rfl ?_
  refine a_iload_n d_Law_law_475 rfl ?_
  refine a_iconst d_Law_law_476 ⟨by decide, by decide⟩ ?_
  refine a_iadd d_Law_law_477 ?_
  obtain ⟨c7, c8, c9, v⟩ := v
  refine a_iald d_Law_law_478 (Or.inr c7) c8 c9 ?_
  refine a_aload_n d_Law_law_479 rfl ?_
  refine a_iload_n d_Law_law_480 rfl ?_
  refine a_iconst d_Law_law_481 ⟨by decide, by decide⟩ ?_
  refine a_iadd d_Law_law_482 ?_
  obtain ⟨c10, c11, c12, v⟩ := v
  refine a_iald d_Law_law_483 (Or.inr c10) c11 c12 ?_
  obtain ⟨c13, v⟩ := v
  refine b_callV (as := [vi (xI h1 x0 (wr (x3 + (1 : Int))).toNat), vi (xI h1 x0 (wr (x3 + (2 : Int))).toNat)]) (b := x2) (st := [vi r1]) (kd := 12) (kc1 := 0) (ks1 := 0) (kc2 := kc + 5) (ks2 := ks + 58) (d' := d) ml_Law_57 rfl d_Law_law_484 rfl rfl (Nat.le_of_ble_eq_true rfl) (by decide) rfl (Nat.le_refl _) (by omega) (by omega) c13 ?_
  refine Ev.mono v ?_
  intro u h2 v
  obtain ⟨r2, rfl, v⟩ := ki_el v
  change Ev l D Y_Law_law _ _ _ 487 [some (vr x0), some (vr x1), some (vr x2), some (vi x3)] [vi r2, vi r1] _ _
  obtain ⟨vt, vf⟩ := v
  refine a_icmp_eq (tgt := 793) d_Law_law_487 (by decide) (fun c => ?_) (fun c => ?_)
  · have v := vt (c); clear vt vf
    exact v
  · have v := vf (c); clear vt vf
    refine a_iconst d_Law_law_490 ⟨by decide, by decide⟩ ?_
    exact a_zret d_Law_law_491 rfl (Or.inl rfl) v
theorem s_Law_law_492 {l : Launch} {D : DD} {d kc ks : Nat} {h : Hp} {Φ : Option AV → Hp → Prop} {x0 : Nat} {x1 : Nat} {x2 : Nat} {x3 : Int} (v : xK h x0 = 28 ∧ 0 ≤ wr (x3 + (1 : Int)) ∧ wr (x3 + (1 : Int)) < xN h x0 ∧ (xK h x0 = 28 ∧ 0 ≤ wr (x3 + (2 : Int)) ∧ wr (x3 + (2 : Int)) < xN h x0 ∧ (xK h x1 = 1 ∧ Ev l D Y_G_made d 0 0 0 [some (vr x1), some (vi (xI h x0 (wr (x3 + (1 : Int))).toNat)), some (vi (xI h x0 (wr (x3 + (2 : Int))).toNat))] [] h (ki (fun r1 h1 => xK h1 x0 = 28 ∧ 0 ≤ wr (x3 + (1 : Int)) ∧ wr (x3 + (1 : Int)) < xN h1 x0 ∧ (xK h1 x0 = 28 ∧ 0 ≤ wr (x3 + (2 : Int)) ∧ wr (x3 + (2 : Int)) < xN h1 x0 ∧ (xK h1 x2 = 12 ∧ Ev l D Y_M_made d 0 0 0 [some (vr x2), some (vi (xI h1 x0 (wr (x3 + (1 : Int))).toNat)), some (vi (xI h1 x0 (wr (x3 + (2 : Int))).toNat))] [] h1 (ki (fun r2 h2 => (r1 = r2 → (Ev l D Y_Law_law (d + 1) (kc + 5) (ks + 58) 793 [some (vr x0), some (vr x1), some (vr x2), some (vi x3)] [] h2 Φ)) ∧ (¬ r1 = r2 → (Φ (some (vi (0 : Int))) h2))))))))))) : Ev l D Y_Law_law (d + 1) (kc + 5) (ks + 58) 492 [some (vr x0), some (vr x1), some (vr x2), some (vi x3)] [] h Φ := by
  refine a_aload_n d_Law_law_492 rfl ?_
  refine a_aload_n d_Law_law_493 rfl ?_
  refine a_iload_n d_Law_law_494 rfl ?_
  refine a_iconst d_Law_law_495 ⟨by decide, by decide⟩ ?_
  refine a_iadd d_Law_law_496 ?_
  obtain ⟨c1, c2, c3, v⟩ := v
  refine a_iald d_Law_law_497 (Or.inr c1) c2 c3 ?_
  refine a_aload_n d_Law_law_498 rfl ?_
  refine a_iload_n d_Law_law_499 rfl ?_
  refine a_iconst d_Law_law_500 ⟨by decide, by decide⟩ ?_
  refine a_iadd d_Law_law_501 ?_
  obtain ⟨c4, c5, c6, v⟩ := v
  refine a_iald d_Law_law_502 (Or.inr c4) c5 c6 ?_
  obtain ⟨c14, v⟩ := v
  refine b_callV (as := [vi (xI h x0 (wr (x3 + (1 : Int))).toNat), vi (xI h x0 (wr (x3 + (2 : Int))).toNat)]) (b := x1) (st := []) (kd := 1) (kc1 := 0) (ks1 := 0) (kc2 := kc + 5) (ks2 := ks + 58) (d' := d) ml_Law_58 rfl d_Law_law_503 rfl rfl (Nat.le_of_ble_eq_true rfl) (by decide) rfl (Nat.le_refl _) (by omega) (by omega) c14 ?_
  refine Ev.mono v ?_
  intro u h1 v
  obtain ⟨r1, rfl, v⟩ := ki_el v
  change Ev l D Y_Law_law _ _ _ 506 [some (vr x0), some (vr x1), some (vr x2), some (vi x3)] [vi r1] _ _
  refine a_aload_n d_Law_law_506 rfl ?_
  refine a_aload_n d_Law_law_507 rfl ?_
  refine a_iload_n d_Law_law_508 rfl ?_
  refine a_iconst d_Law_law_509 ⟨by decide, by decide⟩ ?_
  refine a_iadd d_Law_law_510 ?_
  obtain ⟨c7, c8, c9, v⟩ := v
  refine a_iald d_Law_law_511 (Or.inr c7) c8 c9 ?_
  refine a_aload_n d_Law_law_512 rfl ?_
  refine a_iload_n d_Law_law_513 rfl ?_
  refine a_iconst d_Law_law_514 ⟨by decide, by decide⟩ ?_
  refine a_iadd d_Law_law_515 ?_
  obtain ⟨c10, c11, c12, v⟩ := v
  refine a_iald d_Law_law_516 (Or.inr c10) c11 c12 ?_
  obtain ⟨c13, v⟩ := v
  refine b_callV (as := [vi (xI h1 x0 (wr (x3 + (1 : Int))).toNat), vi (xI h1 x0 (wr (x3 + (2 : Int))).toNat)]) (b := x2) (st := [vi r1]) (kd := 12) (kc1 := 0) (ks1 := 0) (kc2 := kc + 5) (ks2 := ks + 58) (d' := d) ml_Law_61 rfl d_Law_law_517 rfl rfl (Nat.le_of_ble_eq_true rfl) (by decide) rfl (Nat.le_refl _) (by omega) (by omega) c13 ?_
  refine Ev.mono v ?_
  intro u h2 v
  obtain ⟨r2, rfl, v⟩ := ki_el v
  change Ev l D Y_Law_law _ _ _ 520 [some (vr x0), some (vr x1), some (vr x2), some (vi x3)] [vi r2, vi r1] _ _
  obtain ⟨vt, vf⟩ := v
  refine a_icmp_eq (tgt := 793) d_Law_law_520 (by decide) (fun c => ?_) (fun c => ?_)
  · have v := vt (c); clear vt vf
    exact v
  · have v := vf (c); clear vt vf
    refine a_iconst d_Law_law_523 ⟨by decide, by decide⟩ ?_
    exact a_zret d_Law_law_524 rfl (Or.inl rfl) v
theorem s_Law_law_525 {l : Launch} {D : DD} {d kc ks : Nat} {h : Hp} {Φ : Option AV → Hp → Prop} {x0 : Nat} {x1 : Nat} {x2 : Nat} {x3 : Int} (v : xK h x0 = 28 ∧ 0 ≤ wr (x3 + (1 : Int)) ∧ wr (x3 + (1 : Int)) < xN h x0 ∧ (xK h x0 = 28 ∧ 0 ≤ wr (x3 + (2 : Int)) ∧ wr (x3 + (2 : Int)) < xN h x0 ∧ (xK h x0 = 28 ∧ 0 ≤ wr (x3 + (3 : Int)) ∧ wr (x3 + (3 : Int)) < xN h x0 ∧ (xK h x1 = 1 ∧ Ev l D Y_G_callee d 0 0 0 [some (vr x1), some (vi (xI h x0 (wr (x3 + (1 : Int))).toNat)), some (vi (xI h x0 (wr (x3 + (2 : Int))).toNat)), some (vi (xI h x0 (wr (x3 + (3 : Int))).toNat)), none, none, none] [] h (ki (fun r1 h1 => xK h1 x0 = 28 ∧ 0 ≤ wr (x3 + (1 : Int)) ∧ wr (x3 + (1 : Int)) < xN h1 x0 ∧ (xK h1 x0 = 28 ∧ 0 ≤ wr (x3 + (2 : Int)) ∧ wr (x3 + (2 : Int)) < xN h1 x0 ∧ (xK h1 x0 = 28 ∧ 0 ≤ wr (x3 + (3 : Int)) ∧ wr (x3 + (3 : Int)) < xN h1 x0 ∧ (xK h1 x2 = 12 ∧ Ev l D Y_M_callee d 0 0 0 [some (vr x2), some (vi (xI h1 x0 (wr (x3 + (1 : Int))).toNat)), some (vi (xI h1 x0 (wr (x3 + (2 : Int))).toNat)), some (vi (xI h1 x0 (wr (x3 + (3 : Int))).toNat)), none, none] [] h1 (ki (fun r2 h2 => (r1 = r2 → (Ev l D Y_Law_law (d + 1) (kc + 5) (ks + 58) 793 [some (vr x0), some (vr x1), some (vr x2), some (vi x3)] [] h2 Φ)) ∧ (¬ r1 = r2 → (Φ (some (vi (0 : Int))) h2))))))))))))) : Ev l D Y_Law_law (d + 1) (kc + 5) (ks + 58) 525 [some (vr x0), some (vr x1), some (vr x2), some (vi x3)] [] h Φ := by
  refine a_aload_n d_Law_law_525 rfl ?_
  refine a_aload_n d_Law_law_526 rfl ?_
  refine a_iload_n d_Law_law_527 rfl ?_
  refine a_iconst d_Law_law_528 ⟨by decide, by decide⟩ ?_
  refine a_iadd d_Law_law_529 ?_
  obtain ⟨c1, c2, c3, v⟩ := v
  refine a_iald d_Law_law_530 (Or.inr c1) c2 c3 ?_
  refine a_aload_n d_Law_law_531 rfl ?_
  refine a_iload_n d_Law_law_532 rfl ?_
  refine a_iconst d_Law_law_533 ⟨by decide, by decide⟩ ?_
  refine a_iadd d_Law_law_534 ?_
  obtain ⟨c4, c5, c6, v⟩ := v
  refine a_iald d_Law_law_535 (Or.inr c4) c5 c6 ?_
  refine a_aload_n d_Law_law_536 rfl ?_
  refine a_iload_n d_Law_law_537 rfl ?_
  refine a_iconst d_Law_law_538 ⟨by decide, by decide⟩ ?_
  refine a_iadd d_Law_law_539 ?_
  obtain ⟨c7, c8, c9, v⟩ := v
  refine a_iald d_Law_law_540 (Or.inr c7) c8 c9 ?_
  obtain ⟨c20, v⟩ := v
  refine b_callV (as := [vi (xI h x0 (wr (x3 + (1 : Int))).toNat), vi (xI h x0 (wr (x3 + (2 : Int))).toNat), vi (xI h x0 (wr (x3 + (3 : Int))).toNat)]) (b := x1) (st := []) (kd := 1) (kc1 := 0) (ks1 := 0) (kc2 := kc + 5) (ks2 := ks + 58) (d' := d) ml_Law_62 rfl d_Law_law_541 rfl rfl (Nat.le_of_ble_eq_true rfl) (by decide) rfl (Nat.le_refl _) (by omega) (by omega) c20 ?_
  refine Ev.mono v ?_
  intro u h1 v
  obtain ⟨r1, rfl, v⟩ := ki_el v
  change Ev l D Y_Law_law _ _ _ 544 [some (vr x0), some (vr x1), some (vr x2), some (vi x3)] [vi r1] _ _
  refine a_aload_n d_Law_law_544 rfl ?_
  refine a_aload_n d_Law_law_545 rfl ?_
  refine a_iload_n d_Law_law_546 rfl ?_
  refine a_iconst d_Law_law_547 ⟨by decide, by decide⟩ ?_
  refine a_iadd d_Law_law_548 ?_
  obtain ⟨c10, c11, c12, v⟩ := v
  refine a_iald d_Law_law_549 (Or.inr c10) c11 c12 ?_
  refine a_aload_n d_Law_law_550 rfl ?_
  refine a_iload_n d_Law_law_551 rfl ?_
  refine a_iconst d_Law_law_552 ⟨by decide, by decide⟩ ?_
  refine a_iadd d_Law_law_553 ?_
  obtain ⟨c13, c14, c15, v⟩ := v
  refine a_iald d_Law_law_554 (Or.inr c13) c14 c15 ?_
  refine a_aload_n d_Law_law_555 rfl ?_
  refine a_iload_n d_Law_law_556 rfl ?_
  refine a_iconst d_Law_law_557 ⟨by decide, by decide⟩ ?_
  refine a_iadd d_Law_law_558 ?_
  obtain ⟨c16, c17, c18, v⟩ := v
  refine a_iald d_Law_law_559 (Or.inr c16) c17 c18 ?_
  obtain ⟨c19, v⟩ := v
  refine b_callV (as := [vi (xI h1 x0 (wr (x3 + (1 : Int))).toNat), vi (xI h1 x0 (wr (x3 + (2 : Int))).toNat), vi (xI h1 x0 (wr (x3 + (3 : Int))).toNat)]) (b := x2) (st := [vi r1]) (kd := 12) (kc1 := 0) (ks1 := 0) (kc2 := kc + 5) (ks2 := ks + 58) (d' := d) ml_Law_65 rfl d_Law_law_560 rfl rfl (Nat.le_of_ble_eq_true rfl) (by decide) rfl (Nat.le_refl _) (by omega) (by omega) c19 ?_
  refine Ev.mono v ?_
  intro u h2 v
  obtain ⟨r2, rfl, v⟩ := ki_el v
  change Ev l D Y_Law_law _ _ _ 563 [some (vr x0), some (vr x1), some (vr x2), some (vi x3)] [vi r2, vi r1] _ _
  obtain ⟨vt, vf⟩ := v
  refine a_icmp_eq (tgt := 793) d_Law_law_563 (by decide) (fun c => ?_) (fun c => ?_)
  · have v := vt (c); clear vt vf
    exact v
  · have v := vf (c); clear vt vf
    refine a_iconst d_Law_law_566 ⟨by decide, by decide⟩ ?_
    exact a_zret d_Law_law_567 rfl (Or.inl rfl) v
theorem s_Law_law_568 {l : Launch} {D : DD} {d kc ks : Nat} {h : Hp} {Φ : Option AV → Hp → Prop} {x0 : Nat} {x1 : Nat} {x2 : Nat} {x3 : Int} (v : xK h x0 = 28 ∧ 0 ≤ wr (x3 + (1 : Int)) ∧ wr (x3 + (1 : Int)) < xN h x0 ∧ (xK h x0 = 28 ∧ 0 ≤ wr (x3 + (2 : Int)) ∧ wr (x3 + (2 : Int)) < xN h x0 ∧ (xK h x0 = 28 ∧ 0 ≤ wr (x3 + (3 : Int)) ∧ wr (x3 + (3 : Int)) < xN h x0 ∧ (xK h x1 = 1 ∧ Ev l D Y_G_faults d 0 0 0 [some (vr x1), some (vi (xI h x0 (wr (x3 + (1 : Int))).toNat)), some (vi (xI h x0 (wr (x3 + (2 : Int))).toNat)), some (vi (xI h x0 (wr (x3 + (3 : Int))).toNat))] [] h (ki (fun r1 h1 => xK h1 x0 = 28 ∧ 0 ≤ wr (x3 + (1 : Int)) ∧ wr (x3 + (1 : Int)) < xN h1 x0 ∧ (xK h1 x0 = 28 ∧ 0 ≤ wr (x3 + (2 : Int)) ∧ wr (x3 + (2 : Int)) < xN h1 x0 ∧ (xK h1 x0 = 28 ∧ 0 ≤ wr (x3 + (3 : Int)) ∧ wr (x3 + (3 : Int)) < xN h1 x0 ∧ (xK h1 x2 = 12 ∧ Ev l D Y_M_faults d 0 0 0 [some (vr x2), some (vi (xI h1 x0 (wr (x3 + (1 : Int))).toNat)), some (vi (xI h1 x0 (wr (x3 + (2 : Int))).toNat)), some (vi (xI h1 x0 (wr (x3 + (3 : Int))).toNat))] [] h1 (ki (fun r2 h2 => (r1 = r2 → (Ev l D Y_Law_law (d + 1) (kc + 5) (ks + 58) 793 [some (vr x0), some (vr x1), some (vr x2), some (vi x3)] [] h2 Φ)) ∧ (¬ r1 = r2 → (Φ (some (vi (0 : Int))) h2))))))))))))) : Ev l D Y_Law_law (d + 1) (kc + 5) (ks + 58) 568 [some (vr x0), some (vr x1), some (vr x2), some (vi x3)] [] h Φ := by
  refine a_aload_n d_Law_law_568 rfl ?_
  refine a_aload_n d_Law_law_569 rfl ?_
  refine a_iload_n d_Law_law_570 rfl ?_
  refine a_iconst d_Law_law_571 ⟨by decide, by decide⟩ ?_
  refine a_iadd d_Law_law_572 ?_
  obtain ⟨c1, c2, c3, v⟩ := v
  refine a_iald d_Law_law_573 (Or.inr c1) c2 c3 ?_
  refine a_aload_n d_Law_law_574 rfl ?_
  refine a_iload_n d_Law_law_575 rfl ?_
  refine a_iconst d_Law_law_576 ⟨by decide, by decide⟩ ?_
  refine a_iadd d_Law_law_577 ?_
  obtain ⟨c4, c5, c6, v⟩ := v
  refine a_iald d_Law_law_578 (Or.inr c4) c5 c6 ?_
  refine a_aload_n d_Law_law_579 rfl ?_
  refine a_iload_n d_Law_law_580 rfl ?_
  refine a_iconst d_Law_law_581 ⟨by decide, by decide⟩ ?_
  refine a_iadd d_Law_law_582 ?_
  obtain ⟨c7, c8, c9, v⟩ := v
  refine a_iald d_Law_law_583 (Or.inr c7) c8 c9 ?_
  obtain ⟨c20, v⟩ := v
  refine b_callV (as := [vi (xI h x0 (wr (x3 + (1 : Int))).toNat), vi (xI h x0 (wr (x3 + (2 : Int))).toNat), vi (xI h x0 (wr (x3 + (3 : Int))).toNat)]) (b := x1) (st := []) (kd := 1) (kc1 := 0) (ks1 := 0) (kc2 := kc + 5) (ks2 := ks + 58) (d' := d) ml_Law_66 rfl d_Law_law_584 rfl rfl (Nat.le_of_ble_eq_true rfl) (by decide) rfl (Nat.le_refl _) (by omega) (by omega) c20 ?_
  refine Ev.mono v ?_
  intro u h1 v
  obtain ⟨r1, rfl, v⟩ := ki_el v
  change Ev l D Y_Law_law _ _ _ 587 [some (vr x0), some (vr x1), some (vr x2), some (vi x3)] [vi r1] _ _
  refine a_aload_n d_Law_law_587 rfl ?_
  refine a_aload_n d_Law_law_588 rfl ?_
  refine a_iload_n d_Law_law_589 rfl ?_
  refine a_iconst d_Law_law_590 ⟨by decide, by decide⟩ ?_
  refine a_iadd d_Law_law_591 ?_
  obtain ⟨c10, c11, c12, v⟩ := v
  refine a_iald d_Law_law_592 (Or.inr c10) c11 c12 ?_
  refine a_aload_n d_Law_law_593 rfl ?_
  refine a_iload_n d_Law_law_594 rfl ?_
  refine a_iconst d_Law_law_595 ⟨by decide, by decide⟩ ?_
  refine a_iadd d_Law_law_596 ?_
  obtain ⟨c13, c14, c15, v⟩ := v
  refine a_iald d_Law_law_597 (Or.inr c13) c14 c15 ?_
  refine a_aload_n d_Law_law_598 rfl ?_
  refine a_iload_n d_Law_law_599 rfl ?_
  refine a_iconst d_Law_law_600 ⟨by decide, by decide⟩ ?_
  refine a_iadd d_Law_law_601 ?_
  obtain ⟨c16, c17, c18, v⟩ := v
  refine a_iald d_Law_law_602 (Or.inr c16) c17 c18 ?_
  obtain ⟨c19, v⟩ := v
  refine b_callV (as := [vi (xI h1 x0 (wr (x3 + (1 : Int))).toNat), vi (xI h1 x0 (wr (x3 + (2 : Int))).toNat), vi (xI h1 x0 (wr (x3 + (3 : Int))).toNat)]) (b := x2) (st := [vi r1]) (kd := 12) (kc1 := 0) (ks1 := 0) (kc2 := kc + 5) (ks2 := ks + 58) (d' := d) ml_Law_69 rfl d_Law_law_603 rfl rfl (Nat.le_of_ble_eq_true rfl) (by decide) rfl (Nat.le_refl _) (by omega) (by omega) c19 ?_
  refine Ev.mono v ?_
  intro u h2 v
  obtain ⟨r2, rfl, v⟩ := ki_el v
  change Ev l D Y_Law_law _ _ _ 606 [some (vr x0), some (vr x1), some (vr x2), some (vi x3)] [vi r2, vi r1] _ _
  obtain ⟨vt, vf⟩ := v
  refine a_icmp_eq (tgt := 793) d_Law_law_606 (by decide) (fun c => ?_) (fun c => ?_)
  · have v := vt (c); clear vt vf
    exact v
  · have v := vf (c); clear vt vf
    refine a_iconst d_Law_law_609 ⟨by decide, by decide⟩ ?_
    exact a_zret d_Law_law_610 rfl (Or.inl rfl) v
theorem s_Law_law_611 {l : Launch} {D : DD} {d kc ks : Nat} {h : Hp} {Φ : Option AV → Hp → Prop} {x0 : Nat} {x1 : Nat} {x2 : Nat} {x3 : Int} (v : xK h x0 = 28 ∧ 0 ≤ wr (x3 + (1 : Int)) ∧ wr (x3 + (1 : Int)) < xN h x0 ∧ (xK h x0 = 28 ∧ 0 ≤ wr (x3 + (2 : Int)) ∧ wr (x3 + (2 : Int)) < xN h x0 ∧ (xK h x1 = 1 ∧ Ev l D Y_G_caller d 0 0 0 [some (vr x1), some (vi (xI h x0 (wr (x3 + (1 : Int))).toNat)), some (vi (xI h x0 (wr (x3 + (2 : Int))).toNat)), none, none] [] h (ki (fun r1 h1 => xK h1 x0 = 28 ∧ 0 ≤ wr (x3 + (1 : Int)) ∧ wr (x3 + (1 : Int)) < xN h1 x0 ∧ (xK h1 x0 = 28 ∧ 0 ≤ wr (x3 + (2 : Int)) ∧ wr (x3 + (2 : Int)) < xN h1 x0 ∧ (xK h1 x2 = 12 ∧ Ev l D Y_M_caller d 0 0 0 [some (vr x2), some (vi (xI h1 x0 (wr (x3 + (1 : Int))).toNat)), some (vi (xI h1 x0 (wr (x3 + (2 : Int))).toNat)), none] [] h1 (ki (fun r2 h2 => (r1 = r2 → (Ev l D Y_Law_law (d + 1) (kc + 5) (ks + 58) 793 [some (vr x0), some (vr x1), some (vr x2), some (vi x3)] [] h2 Φ)) ∧ (¬ r1 = r2 → (Φ (some (vi (0 : Int))) h2))))))))))) : Ev l D Y_Law_law (d + 1) (kc + 5) (ks + 58) 611 [some (vr x0), some (vr x1), some (vr x2), some (vi x3)] [] h Φ := by
  refine a_aload_n d_Law_law_611 rfl ?_
  refine a_aload_n d_Law_law_612 rfl ?_
  refine a_iload_n d_Law_law_613 rfl ?_
  refine a_iconst d_Law_law_614 ⟨by decide, by decide⟩ ?_
  refine a_iadd d_Law_law_615 ?_
  obtain ⟨c1, c2, c3, v⟩ := v
  refine a_iald d_Law_law_616 (Or.inr c1) c2 c3 ?_
  refine a_aload_n d_Law_law_617 rfl ?_
  refine a_iload_n d_Law_law_618 rfl ?_
  refine a_iconst d_Law_law_619 ⟨by decide, by decide⟩ ?_
  refine a_iadd d_Law_law_620 ?_
  obtain ⟨c4, c5, c6, v⟩ := v
  refine a_iald d_Law_law_621 (Or.inr c4) c5 c6 ?_
  obtain ⟨c14, v⟩ := v
  refine b_callV (as := [vi (xI h x0 (wr (x3 + (1 : Int))).toNat), vi (xI h x0 (wr (x3 + (2 : Int))).toNat)]) (b := x1) (st := []) (kd := 1) (kc1 := 0) (ks1 := 0) (kc2 := kc + 5) (ks2 := ks + 58) (d' := d) ml_Law_70 rfl d_Law_law_622 rfl rfl (Nat.le_of_ble_eq_true rfl) (by decide) rfl (Nat.le_refl _) (by omega) (by omega) c14 ?_
  refine Ev.mono v ?_
  intro u h1 v
  obtain ⟨r1, rfl, v⟩ := ki_el v
  change Ev l D Y_Law_law _ _ _ 625 [some (vr x0), some (vr x1), some (vr x2), some (vi x3)] [vi r1] _ _
  refine a_aload_n d_Law_law_625 rfl ?_
  refine a_aload_n d_Law_law_626 rfl ?_
  refine a_iload_n d_Law_law_627 rfl ?_
  refine a_iconst d_Law_law_628 ⟨by decide, by decide⟩ ?_
  refine a_iadd d_Law_law_629 ?_
  obtain ⟨c7, c8, c9, v⟩ := v
  refine a_iald d_Law_law_630 (Or.inr c7) c8 c9 ?_
  refine a_aload_n d_Law_law_631 rfl ?_
  refine a_iload_n d_Law_law_632 rfl ?_
  refine a_iconst d_Law_law_633 ⟨by decide, by decide⟩ ?_
  refine a_iadd d_Law_law_634 ?_
  obtain ⟨c10, c11, c12, v⟩ := v
  refine a_iald d_Law_law_635 (Or.inr c10) c11 c12 ?_
  obtain ⟨c13, v⟩ := v
  refine b_callV (as := [vi (xI h1 x0 (wr (x3 + (1 : Int))).toNat), vi (xI h1 x0 (wr (x3 + (2 : Int))).toNat)]) (b := x2) (st := [vi r1]) (kd := 12) (kc1 := 0) (ks1 := 0) (kc2 := kc + 5) (ks2 := ks + 58) (d' := d) ml_Law_73 rfl d_Law_law_636 rfl rfl (Nat.le_of_ble_eq_true rfl) (by decide) rfl (Nat.le_refl _) (by omega) (by omega) c13 ?_
  refine Ev.mono v ?_
  intro u h2 v
  obtain ⟨r2, rfl, v⟩ := ki_el v
  change Ev l D Y_Law_law _ _ _ 639 [some (vr x0), some (vr x1), some (vr x2), some (vi x3)] [vi r2, vi r1] _ _
  obtain ⟨vt, vf⟩ := v
  refine a_icmp_eq (tgt := 793) d_Law_law_639 (by decide) (fun c => ?_) (fun c => ?_)
  · have v := vt (c); clear vt vf
    exact v
  · have v := vf (c); clear vt vf
    refine a_iconst d_Law_law_642 ⟨by decide, by decide⟩ ?_
    exact a_zret d_Law_law_643 rfl (Or.inl rfl) v
theorem s_Law_law_644 {l : Launch} {D : DD} {d kc ks : Nat} {h : Hp} {Φ : Option AV → Hp → Prop} {x0 : Nat} {x1 : Nat} {x2 : Nat} {x3 : Int} (v : xK h x0 = 28 ∧ 0 ≤ wr (x3 + (1 : Int)) ∧ wr (x3 + (1 : Int)) < xN h x0 ∧ (xK h x0 = 28 ∧ 0 ≤ wr (x3 + (2 : Int)) ∧ wr (x3 + (2 : Int)) < xN h x0 ∧ (xK h x1 = 1 ∧ Ev l D Y_G_way d 0 0 0 [some (vr x1), some (vi (xI h x0 (wr (x3 + (1 : Int))).toNat)), some (vi (xI h x0 (wr (x3 + (2 : Int))).toNat)), none, none, none] [] h (ki (fun r1 h1 => xK h1 x0 = 28 ∧ 0 ≤ wr (x3 + (1 : Int)) ∧ wr (x3 + (1 : Int)) < xN h1 x0 ∧ (xK h1 x0 = 28 ∧ 0 ≤ wr (x3 + (2 : Int)) ∧ wr (x3 + (2 : Int)) < xN h1 x0 ∧ (xK h1 x2 = 12 ∧ Ev l D Y_M_way d 0 0 0 [some (vr x2), some (vi (xI h1 x0 (wr (x3 + (1 : Int))).toNat)), some (vi (xI h1 x0 (wr (x3 + (2 : Int))).toNat)), none, none, none, none] [] h1 (ki (fun r2 h2 => (r1 = r2 → (Ev l D Y_Law_law (d + 1) (kc + 5) (ks + 58) 793 [some (vr x0), some (vr x1), some (vr x2), some (vi x3)] [] h2 Φ)) ∧ (¬ r1 = r2 → (Φ (some (vi (0 : Int))) h2))))))))))) : Ev l D Y_Law_law (d + 1) (kc + 5) (ks + 58) 644 [some (vr x0), some (vr x1), some (vr x2), some (vi x3)] [] h Φ := by
  refine a_aload_n d_Law_law_644 rfl ?_
  refine a_aload_n d_Law_law_645 rfl ?_
  refine a_iload_n d_Law_law_646 rfl ?_
  refine a_iconst d_Law_law_647 ⟨by decide, by decide⟩ ?_
  refine a_iadd d_Law_law_648 ?_
  obtain ⟨c1, c2, c3, v⟩ := v
  refine a_iald d_Law_law_649 (Or.inr c1) c2 c3 ?_
  refine a_aload_n d_Law_law_650 rfl ?_
  refine a_iload_n d_Law_law_651 rfl ?_
  refine a_iconst d_Law_law_652 ⟨by decide, by decide⟩ ?_
  refine a_iadd d_Law_law_653 ?_
  obtain ⟨c4, c5, c6, v⟩ := v
  refine a_iald d_Law_law_654 (Or.inr c4) c5 c6 ?_
  obtain ⟨c14, v⟩ := v
  refine b_callV (as := [vi (xI h x0 (wr (x3 + (1 : Int))).toNat), vi (xI h x0 (wr (x3 + (2 : Int))).toNat)]) (b := x1) (st := []) (kd := 1) (kc1 := 0) (ks1 := 0) (kc2 := kc + 5) (ks2 := ks + 58) (d' := d) ml_Law_74 rfl d_Law_law_655 rfl rfl (Nat.le_of_ble_eq_true rfl) (by decide) rfl (Nat.le_refl _) (by omega) (by omega) c14 ?_
  refine Ev.mono v ?_
  intro u h1 v
  obtain ⟨r1, rfl, v⟩ := ki_el v
  change Ev l D Y_Law_law _ _ _ 658 [some (vr x0), some (vr x1), some (vr x2), some (vi x3)] [vi r1] _ _
  refine a_aload_n d_Law_law_658 rfl ?_
  refine a_aload_n d_Law_law_659 rfl ?_
  refine a_iload_n d_Law_law_660 rfl ?_
  refine a_iconst d_Law_law_661 ⟨by decide, by decide⟩ ?_
  refine a_iadd d_Law_law_662 ?_
  obtain ⟨c7, c8, c9, v⟩ := v
  refine a_iald d_Law_law_663 (Or.inr c7) c8 c9 ?_
  refine a_aload_n d_Law_law_664 rfl ?_
  refine a_iload_n d_Law_law_665 rfl ?_
  refine a_iconst d_Law_law_666 ⟨by decide, by decide⟩ ?_
  refine a_iadd d_Law_law_667 ?_
  obtain ⟨c10, c11, c12, v⟩ := v
  refine a_iald d_Law_law_668 (Or.inr c10) c11 c12 ?_
  obtain ⟨c13, v⟩ := v
  refine b_callV (as := [vi (xI h1 x0 (wr (x3 + (1 : Int))).toNat), vi (xI h1 x0 (wr (x3 + (2 : Int))).toNat)]) (b := x2) (st := [vi r1]) (kd := 12) (kc1 := 0) (ks1 := 0) (kc2 := kc + 5) (ks2 := ks + 58) (d' := d) ml_Law_77 rfl d_Law_law_669 rfl rfl (Nat.le_of_ble_eq_true rfl) (by decide) rfl (Nat.le_refl _) (by omega) (by omega) c13 ?_
  refine Ev.mono v ?_
  intro u h2 v
  obtain ⟨r2, rfl, v⟩ := ki_el v
  change Ev l D Y_Law_law _ _ _ 672 [some (vr x0), some (vr x1), some (vr x2), some (vi x3)] [vi r2, vi r1] _ _
  obtain ⟨vt, vf⟩ := v
  refine a_icmp_eq (tgt := 793) d_Law_law_672 (by decide) (fun c => ?_) (fun c => ?_)
  · have v := vt (c); clear vt vf
    exact v
  · have v := vf (c); clear vt vf
    refine a_iconst d_Law_law_675 ⟨by decide, by decide⟩ ?_
    exact a_zret d_Law_law_676 rfl (Or.inl rfl) v
theorem s_Law_law_677 {l : Launch} {D : DD} {d kc ks : Nat} {h : Hp} {Φ : Option AV → Hp → Prop} {x0 : Nat} {x1 : Nat} {x2 : Nat} {x3 : Int} (v : xK h x0 = 28 ∧ 0 ≤ wr (x3 + (1 : Int)) ∧ wr (x3 + (1 : Int)) < xN h x0 ∧ (xK h x0 = 28 ∧ 0 ≤ wr (x3 + (2 : Int)) ∧ wr (x3 + (2 : Int)) < xN h x0 ∧ (xK h x0 = 28 ∧ 0 ≤ wr (x3 + (3 : Int)) ∧ wr (x3 + (3 : Int)) < xN h x0 ∧ (xK h x1 = 1 ∧ Ev l D Y_G_run d 0 0 0 [some (vr x1), some (vl ((((Int32.ofInt (xI h x0 (wr (x3 + (1 : Int))).toNat)).toInt64) <<< ((Int32.ofInt (32 : Int)).toInt64 &&& 63)) ||| (((Int32.ofInt (xI h x0 (wr (x3 + (2 : Int))).toNat)).toInt64) &&& (4294967295 : Int64)))), none, some (vi (xI h x0 (wr (x3 + (3 : Int))).toNat)), none, none, none, none, none] [] h (ki (fun r1 h1 => xK h1 x0 = 28 ∧ 0 ≤ wr (x3 + (1 : Int)) ∧ wr (x3 + (1 : Int)) < xN h1 x0 ∧ (xK h1 x0 = 28 ∧ 0 ≤ wr (x3 + (2 : Int)) ∧ wr (x3 + (2 : Int)) < xN h1 x0 ∧ (xK h1 x0 = 28 ∧ 0 ≤ wr (x3 + (3 : Int)) ∧ wr (x3 + (3 : Int)) < xN h1 x0 ∧ (xK h1 x2 = 12 ∧ Ev l D Y_M_run d 0 0 0 [some (vr x2), some (vl ((((Int32.ofInt (xI h1 x0 (wr (x3 + (1 : Int))).toNat)).toInt64) <<< ((Int32.ofInt (32 : Int)).toInt64 &&& 63)) ||| (((Int32.ofInt (xI h1 x0 (wr (x3 + (2 : Int))).toNat)).toInt64) &&& (4294967295 : Int64)))), none, some (vi (xI h1 x0 (wr (x3 + (3 : Int))).toNat)), none, none, none] [] h1 (ki (fun r2 h2 => (r1 = r2 → (Ev l D Y_Law_law (d + 1) (kc + 5) (ks + 58) 793 [some (vr x0), some (vr x1), some (vr x2), some (vi x3)] [] h2 Φ)) ∧ (¬ r1 = r2 → (Φ (some (vi (0 : Int))) h2))))))))))))) : Ev l D Y_Law_law (d + 1) (kc + 5) (ks + 58) 677 [some (vr x0), some (vr x1), some (vr x2), some (vi x3)] [] h Φ := by
  refine a_aload_n d_Law_law_677 rfl ?_
  refine a_aload_n d_Law_law_678 rfl ?_
  refine a_iload_n d_Law_law_679 rfl ?_
  refine a_iconst d_Law_law_680 ⟨by decide, by decide⟩ ?_
  refine a_iadd d_Law_law_681 ?_
  obtain ⟨c1, c2, c3, v⟩ := v
  refine a_iald d_Law_law_682 (Or.inr c1) c2 c3 ?_
  refine a_i2l d_Law_law_683 ?_
  refine a_bipush d_Law_law_684 ⟨by decide, by decide⟩ (by decide) ?_
  refine a_lshl d_Law_law_686 ?_
  refine a_aload_n d_Law_law_687 rfl ?_
  refine a_iload_n d_Law_law_688 rfl ?_
  refine a_iconst d_Law_law_689 ⟨by decide, by decide⟩ ?_
  refine a_iadd d_Law_law_690 ?_
  obtain ⟨c4, c5, c6, v⟩ := v
  refine a_iald d_Law_law_691 (Or.inr c4) c5 c6 ?_
  refine a_i2l d_Law_law_692 ?_
  refine a_ldc2 d_Law_law_693 lc_Law_78 ?_
  refine a_land d_Law_law_696 ?_
  refine a_lor d_Law_law_697 ?_
  refine a_aload_n d_Law_law_698 rfl ?_
  refine a_iload_n d_Law_law_699 rfl ?_
  refine a_iconst d_Law_law_700 ⟨by decide, by decide⟩ ?_
  refine a_iadd d_Law_law_701 ?_
  obtain ⟨c7, c8, c9, v⟩ := v
  refine a_iald d_Law_law_702 (Or.inr c7) c8 c9 ?_
  obtain ⟨c20, v⟩ := v
  refine b_callV (as := [vl ((((Int32.ofInt (xI h x0 (wr (x3 + (1 : Int))).toNat)).toInt64) <<< ((Int32.ofInt (32 : Int)).toInt64 &&& 63)) ||| (((Int32.ofInt (xI h x0 (wr (x3 + (2 : Int))).toNat)).toInt64) &&& (4294967295 : Int64))), vi (xI h x0 (wr (x3 + (3 : Int))).toNat)]) (b := x1) (st := []) (kd := 1) (kc1 := 0) (ks1 := 0) (kc2 := kc + 5) (ks2 := ks + 58) (d' := d) ml_Law_80 rfl d_Law_law_703 rfl rfl (Nat.le_of_ble_eq_true rfl) (by decide) rfl (Nat.le_refl _) (by omega) (by omega) c20 ?_
  refine Ev.mono v ?_
  intro u h1 v
  obtain ⟨r1, rfl, v⟩ := ki_el v
  change Ev l D Y_Law_law _ _ _ 706 [some (vr x0), some (vr x1), some (vr x2), some (vi x3)] [vi r1] _ _
  refine a_aload_n d_Law_law_706 rfl ?_
  refine a_aload_n d_Law_law_707 rfl ?_
  refine a_iload_n d_Law_law_708 rfl ?_
  refine a_iconst d_Law_law_709 ⟨by decide, by decide⟩ ?_
  refine a_iadd d_Law_law_710 ?_
  obtain ⟨c10, c11, c12, v⟩ := v
  refine a_iald d_Law_law_711 (Or.inr c10) c11 c12 ?_
  refine a_i2l d_Law_law_712 ?_
  refine a_bipush d_Law_law_713 ⟨by decide, by decide⟩ (by decide) ?_
  refine a_lshl d_Law_law_715 ?_
  refine a_aload_n d_Law_law_716 rfl ?_
  refine a_iload_n d_Law_law_717 rfl ?_
  refine a_iconst d_Law_law_718 ⟨by decide, by decide⟩ ?_
  refine a_iadd d_Law_law_719 ?_
  obtain ⟨c13, c14, c15, v⟩ := v
  refine a_iald d_Law_law_720 (Or.inr c13) c14 c15 ?_
  refine a_i2l d_Law_law_721 ?_
  refine a_ldc2 d_Law_law_722 lc_Law_78 ?_
  refine a_land d_Law_law_725 ?_
  refine a_lor d_Law_law_726 ?_
  refine a_aload_n d_Law_law_727 rfl ?_
  refine a_iload_n d_Law_law_728 rfl ?_
  refine a_iconst d_Law_law_729 ⟨by decide, by decide⟩ ?_
  refine a_iadd d_Law_law_730 ?_
  obtain ⟨c16, c17, c18, v⟩ := v
  refine a_iald d_Law_law_731 (Or.inr c16) c17 c18 ?_
  obtain ⟨c19, v⟩ := v
  refine b_callV (as := [vl ((((Int32.ofInt (xI h1 x0 (wr (x3 + (1 : Int))).toNat)).toInt64) <<< ((Int32.ofInt (32 : Int)).toInt64 &&& 63)) ||| (((Int32.ofInt (xI h1 x0 (wr (x3 + (2 : Int))).toNat)).toInt64) &&& (4294967295 : Int64))), vi (xI h1 x0 (wr (x3 + (3 : Int))).toNat)]) (b := x2) (st := [vi r1]) (kd := 12) (kc1 := 0) (ks1 := 0) (kc2 := kc + 5) (ks2 := ks + 58) (d' := d) ml_Law_84 rfl d_Law_law_732 rfl rfl (Nat.le_of_ble_eq_true rfl) (by decide) rfl (Nat.le_refl _) (by omega) (by omega) c19 ?_
  refine Ev.mono v ?_
  intro u h2 v
  obtain ⟨r2, rfl, v⟩ := ki_el v
  change Ev l D Y_Law_law _ _ _ 735 [some (vr x0), some (vr x1), some (vr x2), some (vi x3)] [vi r2, vi r1] _ _
  obtain ⟨vt, vf⟩ := v
  refine a_icmp_eq (tgt := 793) d_Law_law_735 (by decide) (fun c => ?_) (fun c => ?_)
  · have v := vt (c); clear vt vf
    exact v
  · have v := vf (c); clear vt vf
    refine a_iconst d_Law_law_738 ⟨by decide, by decide⟩ ?_
    exact a_zret d_Law_law_739 rfl (Or.inl rfl) v
theorem s_Law_law_740 {l : Launch} {D : DD} {d kc ks : Nat} {h : Hp} {Φ : Option AV → Hp → Prop} {x0 : Nat} {x1 : Nat} {x2 : Nat} {x3 : Int} (v : xK h x0 = 28 ∧ 0 ≤ wr (x3 + (1 : Int)) ∧ wr (x3 + (1 : Int)) < xN h x0 ∧ (xK h x0 = 28 ∧ 0 ≤ wr (x3 + (2 : Int)) ∧ wr (x3 + (2 : Int)) < xN h x0 ∧ (xK h x1 = 1 ∧ Ev l D Y_G_holds d 0 0 0 [some (vr x1), some (vl ((((Int32.ofInt (xI h x0 (wr (x3 + (1 : Int))).toNat)).toInt64) <<< ((Int32.ofInt (32 : Int)).toInt64 &&& 63)) ||| (((Int32.ofInt (xI h x0 (wr (x3 + (2 : Int))).toNat)).toInt64) &&& (4294967295 : Int64)))), none] [] h (ki (fun r1 h1 => xK h1 x0 = 28 ∧ 0 ≤ wr (x3 + (1 : Int)) ∧ wr (x3 + (1 : Int)) < xN h1 x0 ∧ (xK h1 x0 = 28 ∧ 0 ≤ wr (x3 + (2 : Int)) ∧ wr (x3 + (2 : Int)) < xN h1 x0 ∧ (xK h1 x2 = 12 ∧ Ev l D Y_M_holds d 0 0 0 [some (vr x2), some (vl ((((Int32.ofInt (xI h1 x0 (wr (x3 + (1 : Int))).toNat)).toInt64) <<< ((Int32.ofInt (32 : Int)).toInt64 &&& 63)) ||| (((Int32.ofInt (xI h1 x0 (wr (x3 + (2 : Int))).toNat)).toInt64) &&& (4294967295 : Int64)))), none] [] h1 (ki (fun r2 h2 => (r1 = r2 → (Ev l D Y_Law_law (d + 1) (kc + 5) (ks + 58) 793 [some (vr x0), some (vr x1), some (vr x2), some (vi x3)] [] h2 Φ)) ∧ (¬ r1 = r2 → (Φ (some (vi (0 : Int))) h2))))))))))) : Ev l D Y_Law_law (d + 1) (kc + 5) (ks + 58) 740 [some (vr x0), some (vr x1), some (vr x2), some (vi x3)] [] h Φ := by
  refine a_aload_n d_Law_law_740 rfl ?_
  refine a_aload_n d_Law_law_741 rfl ?_
  refine a_iload_n d_Law_law_742 rfl ?_
  refine a_iconst d_Law_law_743 ⟨by decide, by decide⟩ ?_
  refine a_iadd d_Law_law_744 ?_
  obtain ⟨c1, c2, c3, v⟩ := v
  refine a_iald d_Law_law_745 (Or.inr c1) c2 c3 ?_
  refine a_i2l d_Law_law_746 ?_
  refine a_bipush d_Law_law_747 ⟨by decide, by decide⟩ (by decide) ?_
  refine a_lshl d_Law_law_749 ?_
  refine a_aload_n d_Law_law_750 rfl ?_
  refine a_iload_n d_Law_law_751 rfl ?_
  refine a_iconst d_Law_law_752 ⟨by decide, by decide⟩ ?_
  refine a_iadd d_Law_law_753 ?_
  obtain ⟨c4, c5, c6, v⟩ := v
  refine a_iald d_Law_law_754 (Or.inr c4) c5 c6 ?_
  refine a_i2l d_Law_law_755 ?_
  refine a_ldc2 d_Law_law_756 lc_Law_78 ?_
  refine a_land d_Law_law_759 ?_
  refine a_lor d_Law_law_760 ?_
  obtain ⟨c14, v⟩ := v
  refine b_callV (as := [vl ((((Int32.ofInt (xI h x0 (wr (x3 + (1 : Int))).toNat)).toInt64) <<< ((Int32.ofInt (32 : Int)).toInt64 &&& 63)) ||| (((Int32.ofInt (xI h x0 (wr (x3 + (2 : Int))).toNat)).toInt64) &&& (4294967295 : Int64)))]) (b := x1) (st := []) (kd := 1) (kc1 := 0) (ks1 := 0) (kc2 := kc + 5) (ks2 := ks + 58) (d' := d) ml_Law_85 rfl d_Law_law_761 rfl rfl (Nat.le_of_ble_eq_true rfl) (by decide) rfl (Nat.le_refl _) (by omega) (by omega) c14 ?_
  refine Ev.mono v ?_
  intro u h1 v
  obtain ⟨r1, rfl, v⟩ := ki_el v
  change Ev l D Y_Law_law _ _ _ 764 [some (vr x0), some (vr x1), some (vr x2), some (vi x3)] [vi r1] _ _
  refine a_aload_n d_Law_law_764 rfl ?_
  refine a_aload_n d_Law_law_765 rfl ?_
  refine a_iload_n d_Law_law_766 rfl ?_
  refine a_iconst d_Law_law_767 ⟨by decide, by decide⟩ ?_
  refine a_iadd d_Law_law_768 ?_
  obtain ⟨c7, c8, c9, v⟩ := v
  refine a_iald d_Law_law_769 (Or.inr c7) c8 c9 ?_
  refine a_i2l d_Law_law_770 ?_
  refine a_bipush d_Law_law_771 ⟨by decide, by decide⟩ (by decide) ?_
  refine a_lshl d_Law_law_773 ?_
  refine a_aload_n d_Law_law_774 rfl ?_
  refine a_iload_n d_Law_law_775 rfl ?_
  refine a_iconst d_Law_law_776 ⟨by decide, by decide⟩ ?_
  refine a_iadd d_Law_law_777 ?_
  obtain ⟨c10, c11, c12, v⟩ := v
  refine a_iald d_Law_law_778 (Or.inr c10) c11 c12 ?_
  refine a_i2l d_Law_law_779 ?_
  refine a_ldc2 d_Law_law_780 lc_Law_78 ?_
  refine a_land d_Law_law_783 ?_
  refine a_lor d_Law_law_784 ?_
  obtain ⟨c13, v⟩ := v
  refine b_callV (as := [vl ((((Int32.ofInt (xI h1 x0 (wr (x3 + (1 : Int))).toNat)).toInt64) <<< ((Int32.ofInt (32 : Int)).toInt64 &&& 63)) ||| (((Int32.ofInt (xI h1 x0 (wr (x3 + (2 : Int))).toNat)).toInt64) &&& (4294967295 : Int64)))]) (b := x2) (st := [vi r1]) (kd := 12) (kc1 := 0) (ks1 := 0) (kc2 := kc + 5) (ks2 := ks + 58) (d' := d) ml_Law_89 rfl d_Law_law_785 rfl rfl (Nat.le_of_ble_eq_true rfl) (by decide) rfl (Nat.le_refl _) (by omega) (by omega) c13 ?_
  refine Ev.mono v ?_
  intro u h2 v
  obtain ⟨r2, rfl, v⟩ := ki_el v
  change Ev l D Y_Law_law _ _ _ 788 [some (vr x0), some (vr x1), some (vr x2), some (vi x3)] [vi r2, vi r1] _ _
  obtain ⟨vt, vf⟩ := v
  refine a_icmp_eq (tgt := 793) d_Law_law_788 (by decide) (fun c => ?_) (fun c => ?_)
  · have v := vt (c); clear vt vf
    exact v
  · have v := vf (c); clear vt vf
    refine a_iconst d_Law_law_791 ⟨by decide, by decide⟩ ?_
    exact a_zret d_Law_law_792 rfl (Or.inl rfl) v
theorem s_Law_law_793 {l : Launch} {D : DD} {d kc ks : Nat} {h : Hp} {Φ : Option AV → Hp → Prop} {x0 : Nat} {x1 : Nat} {x2 : Nat} {x3 : Int} (v : Ev l D Y_Law_law (d + 1) (kc + 5) (ks + 58) 18 [some (vr x0), some (vr x1), some (vr x2), some (vi (wr (x3 + (5 : Int))))] [] h Φ) : Ev l D Y_Law_law (d + 1) (kc + 5) (ks + 58) 793 [some (vr x0), some (vr x1), some (vr x2), some (vi x3)] [] h Φ := by
  refine a_iinc (L' := [some (vr x0), some (vr x1), some (vr x2), some (vi (wr (x3 + (5 : Int))))]) d_Law_law_793 rfl (Nat.le_of_ble_eq_true rfl) rfl rfl ?_
  refine a_goto (tgt := 18) d_Law_law_796 (by decide) ?_
  exact v
