theorem d_G_draw_0 : decode Y_G_draw.2.1 0 = .ok (.aload_n 0, 1) := by decide +kernel
theorem d_G_draw_1 : decode Y_G_draw.2.1 1 = .ok (.getfield 124, 3) := by decide +kernel
theorem d_G_draw_4 : decode Y_G_draw.2.1 4 = .ok (.ifCond .eq 4, 3) := by decide +kernel
theorem d_G_draw_7 : decode Y_G_draw.2.1 7 = .ok (.return_, 1) := by decide +kernel
theorem d_G_draw_8 : decode Y_G_draw.2.1 8 = .ok (.aload_n 0, 1) := by decide +kernel
theorem d_G_draw_9 : decode Y_G_draw.2.1 9 = .ok (.iconst 1, 1) := by decide +kernel
theorem d_G_draw_10 : decode Y_G_draw.2.1 10 = .ok (.putfield 124, 3) := by decide +kernel
theorem d_G_draw_13 : decode Y_G_draw.2.1 13 = .ok (.aload_n 0, 1) := by decide +kernel
theorem d_G_draw_14 : decode Y_G_draw.2.1 14 = .ok (.getfield 21, 3) := by decide +kernel
theorem d_G_draw_17 : decode Y_G_draw.2.1 17 = .ok (.iconst 0, 1) := by decide +kernel
theorem d_G_draw_18 : decode Y_G_draw.2.1 18 = .ok (.invokestatic 127, 3) := by decide +kernel
theorem d_G_draw_21 : decode Y_G_draw.2.1 21 = .ok (.aload_n 0, 1) := by decide +kernel
theorem d_G_draw_22 : decode Y_G_draw.2.1 22 = .ok (.getfield 25, 3) := by decide +kernel
theorem d_G_draw_25 : decode Y_G_draw.2.1 25 = .ok (.iconst 0, 1) := by decide +kernel
theorem d_G_draw_26 : decode Y_G_draw.2.1 26 = .ok (.invokestatic 127, 3) := by decide +kernel
theorem d_G_draw_29 : decode Y_G_draw.2.1 29 = .ok (.aload_n 0, 1) := by decide +kernel
theorem d_G_draw_30 : decode Y_G_draw.2.1 30 = .ok (.getfield 30, 3) := by decide +kernel
theorem d_G_draw_33 : decode Y_G_draw.2.1 33 = .ok (.astore_n 1, 1) := by decide +kernel
theorem d_G_draw_34 : decode Y_G_draw.2.1 34 = .ok (.aload_n 1, 1) := by decide +kernel
theorem d_G_draw_35 : decode Y_G_draw.2.1 35 = .ok (.arraylength, 1) := by decide +kernel
theorem d_G_draw_36 : decode Y_G_draw.2.1 36 = .ok (.istore_n 2, 1) := by decide +kernel
theorem d_G_draw_37 : decode Y_G_draw.2.1 37 = .ok (.iconst 0, 1) := by decide +kernel
theorem d_G_draw_38 : decode Y_G_draw.2.1 38 = .ok (.istore_n 3, 1) := by decide +kernel
theorem d_G_draw_39 : decode Y_G_draw.2.1 39 = .ok (.iload_n 3, 1) := by decide +kernel
theorem d_G_draw_40 : decode Y_G_draw.2.1 40 = .ok (.iload_n 2, 1) := by decide +kernel
theorem d_G_draw_41 : decode Y_G_draw.2.1 41 = .ok (.if_icmp .ge 20, 3) := by decide +kernel
theorem d_G_draw_44 : decode Y_G_draw.2.1 44 = .ok (.aload_n 1, 1) := by decide +kernel
theorem d_G_draw_45 : decode Y_G_draw.2.1 45 = .ok (.iload_n 3, 1) := by decide +kernel
theorem d_G_draw_46 : decode Y_G_draw.2.1 46 = .ok (.aaload, 1) := by decide +kernel
theorem d_G_draw_47 : decode Y_G_draw.2.1 47 = .ok (.astore 4, 2) := by decide +kernel
theorem d_G_draw_49 : decode Y_G_draw.2.1 49 = .ok (.aload 4, 2) := by decide +kernel
theorem d_G_draw_51 : decode Y_G_draw.2.1 51 = .ok (.iconst 0, 1) := by decide +kernel
theorem d_G_draw_52 : decode Y_G_draw.2.1 52 = .ok (.invokestatic 127, 3) := by decide +kernel
theorem d_G_draw_55 : decode Y_G_draw.2.1 55 = .ok (.iinc 3 1, 3) := by decide +kernel
theorem d_G_draw_58 : decode Y_G_draw.2.1 58 = .ok (.goto (-19), 3) := by decide +kernel
theorem d_G_draw_61 : decode Y_G_draw.2.1 61 = .ok (.iconst 0, 1) := by decide +kernel
theorem d_G_draw_62 : decode Y_G_draw.2.1 62 = .ok (.istore_n 1, 1) := by decide +kernel
theorem d_G_draw_63 : decode Y_G_draw.2.1 63 = .ok (.iload_n 1, 1) := by decide +kernel
theorem d_G_draw_64 : decode Y_G_draw.2.1 64 = .ok (.aload_n 0, 1) := by decide +kernel
theorem d_G_draw_65 : decode Y_G_draw.2.1 65 = .ok (.getfield 133, 3) := by decide +kernel
theorem d_G_draw_68 : decode Y_G_draw.2.1 68 = .ok (.if_icmp .ge 49, 3) := by decide +kernel
theorem d_G_draw_71 : decode Y_G_draw.2.1 71 = .ok (.aload_n 0, 1) := by decide +kernel
theorem d_G_draw_72 : decode Y_G_draw.2.1 72 = .ok (.getfield 17, 3) := by decide +kernel
theorem d_G_draw_75 : decode Y_G_draw.2.1 75 = .ok (.iload_n 1, 1) := by decide +kernel
theorem d_G_draw_76 : decode Y_G_draw.2.1 76 = .ok (.aaload, 1) := by decide +kernel
theorem d_G_draw_77 : decode Y_G_draw.2.1 77 = .ok (.astore_n 2, 1) := by decide +kernel
theorem d_G_draw_78 : decode Y_G_draw.2.1 78 = .ok (.aload_n 2, 1) := by decide +kernel
theorem d_G_draw_79 : decode Y_G_draw.2.1 79 = .ok (.aload_n 2, 1) := by decide +kernel
theorem d_G_draw_80 : decode Y_G_draw.2.1 80 = .ok (.getfield 136, 3) := by decide +kernel
theorem d_G_draw_83 : decode Y_G_draw.2.1 83 = .ok (.putfield 139, 3) := by decide +kernel
theorem d_G_draw_86 : decode Y_G_draw.2.1 86 = .ok (.iconst 0, 1) := by decide +kernel
theorem d_G_draw_87 : decode Y_G_draw.2.1 87 = .ok (.istore_n 3, 1) := by decide +kernel
theorem d_G_draw_88 : decode Y_G_draw.2.1 88 = .ok (.iload_n 3, 1) := by decide +kernel
theorem d_G_draw_89 : decode Y_G_draw.2.1 89 = .ok (.aload_n 2, 1) := by decide +kernel
theorem d_G_draw_90 : decode Y_G_draw.2.1 90 = .ok (.getfield 142, 3) := by decide +kernel
theorem d_G_draw_93 : decode Y_G_draw.2.1 93 = .ok (.if_icmp .ge 18, 3) := by decide +kernel
theorem d_G_draw_96 : decode Y_G_draw.2.1 96 = .ok (.aload_n 2, 1) := by decide +kernel
theorem d_G_draw_97 : decode Y_G_draw.2.1 97 = .ok (.getfield 145, 3) := by decide +kernel
theorem d_G_draw_100 : decode Y_G_draw.2.1 100 = .ok (.iload_n 3, 1) := by decide +kernel
theorem d_G_draw_101 : decode Y_G_draw.2.1 101 = .ok (.aaload, 1) := by decide +kernel
theorem d_G_draw_102 : decode Y_G_draw.2.1 102 = .ok (.invokevirtual 149, 3) := by decide +kernel
theorem d_G_draw_105 : decode Y_G_draw.2.1 105 = .ok (.iinc 3 1, 3) := by decide +kernel
theorem d_G_draw_108 : decode Y_G_draw.2.1 108 = .ok (.goto (-20), 3) := by decide +kernel
theorem d_G_draw_111 : decode Y_G_draw.2.1 111 = .ok (.iinc 1 1, 3) := by decide +kernel
theorem d_G_draw_114 : decode Y_G_draw.2.1 114 = .ok (.goto (-51), 3) := by decide +kernel
theorem d_G_draw_117 : decode Y_G_draw.2.1 117 = .ok (.aload_n 0, 1) := by decide +kernel
theorem d_G_draw_118 : decode Y_G_draw.2.1 118 = .ok (.iconst 0, 1) := by decide +kernel
theorem d_G_draw_119 : decode Y_G_draw.2.1 119 = .ok (.putfield 111, 3) := by decide +kernel
theorem d_G_draw_122 : decode Y_G_draw.2.1 122 = .ok (.iconst 0, 1) := by decide +kernel
theorem d_G_draw_123 : decode Y_G_draw.2.1 123 = .ok (.istore_n 1, 1) := by decide +kernel
theorem d_G_draw_124 : decode Y_G_draw.2.1 124 = .ok (.iload_n 1, 1) := by decide +kernel
theorem d_G_draw_125 : decode Y_G_draw.2.1 125 = .ok (.aload_n 0, 1) := by decide +kernel
theorem d_G_draw_126 : decode Y_G_draw.2.1 126 = .ok (.getfield 133, 3) := by decide +kernel
theorem d_G_draw_129 : decode Y_G_draw.2.1 129 = .ok (.if_icmp .ge 57, 3) := by decide +kernel
theorem d_G_draw_132 : decode Y_G_draw.2.1 132 = .ok (.iconst 0, 1) := by decide +kernel
theorem d_G_draw_133 : decode Y_G_draw.2.1 133 = .ok (.istore_n 2, 1) := by decide +kernel
theorem d_G_draw_134 : decode Y_G_draw.2.1 134 = .ok (.iload_n 2, 1) := by decide +kernel
theorem d_G_draw_135 : decode Y_G_draw.2.1 135 = .ok (.aload_n 0, 1) := by decide +kernel
theorem d_G_draw_136 : decode Y_G_draw.2.1 136 = .ok (.getfield 17, 3) := by decide +kernel
theorem d_G_draw_139 : decode Y_G_draw.2.1 139 = .ok (.iload_n 1, 1) := by decide +kernel
theorem d_G_draw_140 : decode Y_G_draw.2.1 140 = .ok (.aaload, 1) := by decide +kernel
theorem d_G_draw_141 : decode Y_G_draw.2.1 141 = .ok (.getfield 142, 3) := by decide +kernel
theorem d_G_draw_144 : decode Y_G_draw.2.1 144 = .ok (.if_icmp .ge 36, 3) := by decide +kernel
theorem d_G_draw_147 : decode Y_G_draw.2.1 147 = .ok (.aload_n 0, 1) := by decide +kernel
theorem d_G_draw_148 : decode Y_G_draw.2.1 148 = .ok (.getfield 17, 3) := by decide +kernel
theorem d_G_draw_151 : decode Y_G_draw.2.1 151 = .ok (.iload_n 1, 1) := by decide +kernel
theorem d_G_draw_152 : decode Y_G_draw.2.1 152 = .ok (.aaload, 1) := by decide +kernel
theorem d_G_draw_153 : decode Y_G_draw.2.1 153 = .ok (.getfield 139, 3) := by decide +kernel
theorem d_G_draw_156 : decode Y_G_draw.2.1 156 = .ok (.ifCond .eq 24, 3) := by decide +kernel
theorem d_G_draw_159 : decode Y_G_draw.2.1 159 = .ok (.aload_n 0, 1) := by decide +kernel
theorem d_G_draw_160 : decode Y_G_draw.2.1 160 = .ok (.getfield 17, 3) := by decide +kernel
theorem d_G_draw_163 : decode Y_G_draw.2.1 163 = .ok (.iload_n 1, 1) := by decide +kernel
theorem d_G_draw_164 : decode Y_G_draw.2.1 164 = .ok (.aaload, 1) := by decide +kernel
theorem d_G_draw_165 : decode Y_G_draw.2.1 165 = .ok (.getfield 145, 3) := by decide +kernel
theorem d_G_draw_168 : decode Y_G_draw.2.1 168 = .ok (.iload_n 2, 1) := by decide +kernel
theorem d_G_draw_169 : decode Y_G_draw.2.1 169 = .ok (.aaload, 1) := by decide +kernel
theorem d_G_draw_170 : decode Y_G_draw.2.1 170 = .ok (.aload_n 0, 1) := by decide +kernel
theorem d_G_draw_171 : decode Y_G_draw.2.1 171 = .ok (.invokevirtual 152, 3) := by decide +kernel
theorem d_G_draw_174 : decode Y_G_draw.2.1 174 = .ok (.iinc 2 1, 3) := by decide +kernel
theorem d_G_draw_177 : decode Y_G_draw.2.1 177 = .ok (.goto (-43), 3) := by decide +kernel
theorem d_G_draw_180 : decode Y_G_draw.2.1 180 = .ok (.iinc 1 1, 3) := by decide +kernel
theorem d_G_draw_183 : decode Y_G_draw.2.1 183 = .ok (.goto (-59), 3) := by decide +kernel
theorem d_G_draw_186 : decode Y_G_draw.2.1 186 = .ok (.aload_n 0, 1) := by decide +kernel
theorem d_G_draw_187 : decode Y_G_draw.2.1 187 = .ok (.getfield 111, 3) := by decide +kernel
theorem d_G_draw_190 : decode Y_G_draw.2.1 190 = .ok (.ifCond .ne (-73), 3) := by decide +kernel
theorem d_G_draw_193 : decode Y_G_draw.2.1 193 = .ok (.aload_n 0, 1) := by decide +kernel
theorem d_G_draw_194 : decode Y_G_draw.2.1 194 = .ok (.invokevirtual 156, 3) := by decide +kernel
theorem d_G_draw_197 : decode Y_G_draw.2.1 197 = .ok (.return_, 1) := by decide +kernel
theorem g_G_draw_0 {l : Launch} {D : DD} {d kc ks : Nat} {h : Hp} {Φ : Option AV → Hp → Prop} (hM : GS h) (v : (xI h 20 7 = 0 → (∀ h1 : Hp, h1 = sI h 20 7 (1 : Int) → (Ev l D Y_Arr_fillZ d 0 0 0 [some (vr 23), some (vi (0 : Int)), none, none] [] h1 (kv (fun h2 => GS h2 ∧ (Ev l D Y_Arr_fillZ d 0 0 0 [some (vr 24), some (vi (0 : Int)), none, none] [] h2 (kv (fun h3 => GS h3 ∧ (Ev l D Y_G_draw (d + 1) kc ks 39 [some (vr 20), some (vr 25), some (vi (xN h3 25 : Int)), some (vi (0 : Int)), none] [] h3 Φ))))))))) ∧ (¬ xI h 20 7 = 0 → (Φ none h))) : Ev l D Y_G_draw (d + 1) kc ks 0 [some (vr 20), none, none, none, none] [] h Φ := by
  refine a_aload_n d_G_draw_0 rfl ?_
  refine a_getZ fl_G_124 d_G_draw_1 (beq_iff_eq.mpr (KNG_20 hM)) ?_
  obtain ⟨vt, vf⟩ := v
  refine a_if_eq (tgt := 8) d_G_draw_4 (by decide) (fun c => ?_) (fun c => ?_)
  · have v := vt (c); clear vt vf
    refine a_aload_n d_G_draw_8 rfl ?_
    refine a_iconst d_G_draw_9 ⟨by decide, by decide⟩ ?_
    have v := v _ rfl
    refine a_putZ fl_G_124 d_G_draw_10 (beq_iff_eq.mpr (KNG_20 hM)) (by decide) (Or.inr rfl) ?_
    refine a_aload_n d_G_draw_13 rfl ?_
    refine a_getAe fl_G_21 d_G_draw_14 (beq_iff_eq.mpr (KNG_20 hM)) (KRG_20_9 hM) ?_
    refine a_iconst d_G_draw_17 ⟨by decide, by decide⟩ ?_
    refine b_callS (as := [vr 23, vi (0 : Int)]) (st := []) (kc1 := 0) (ks1 := 0) (kc2 := kc) (ks2 := ks) (d' := d) ml_G_127 rfl d_G_draw_18 rfl rfl (Nat.le_of_ble_eq_true rfl) rfl (Nat.le_refl _) (by omega) (by omega) ?_
    refine Ev.mono v ?_
    intro u h2 v
    obtain ⟨rfl, v⟩ := kv_el v
    obtain ⟨hm1, v⟩ := v
    change Ev l D Y_G_draw _ _ _ 21 [some (vr 20), none, none, none, none] [] _ _
    refine a_aload_n d_G_draw_21 rfl ?_
    refine a_getAe fl_G_25 d_G_draw_22 (beq_iff_eq.mpr (KNG_20 hm1)) (KRG_20_10 hm1) ?_
    refine a_iconst d_G_draw_25 ⟨by decide, by decide⟩ ?_
    refine b_callS (as := [vr 24, vi (0 : Int)]) (st := []) (kc1 := 0) (ks1 := 0) (kc2 := kc) (ks2 := ks) (d' := d) ml_G_127 rfl d_G_draw_26 rfl rfl (Nat.le_of_ble_eq_true rfl) rfl (Nat.le_refl _) (by omega) (by omega) ?_
    refine Ev.mono v ?_
    intro u h3 v
    obtain ⟨rfl, v⟩ := kv_el v
    obtain ⟨hm2, v⟩ := v
    change Ev l D Y_G_draw _ _ _ 29 [some (vr 20), none, none, none, none] [] _ _
    refine a_aload_n d_G_draw_29 rfl ?_
    refine a_getAe fl_G_30 d_G_draw_30 (beq_iff_eq.mpr (KNG_20 hm2)) (KRG_20_11 hm2) ?_
    refine a_astore_n (L' := [some (vr 20), some (vr 25), none, none, none]) d_G_draw_33 (Nat.le_of_ble_eq_true rfl) rfl rfl ?_
    refine a_aload_n d_G_draw_34 rfl ?_
    refine a_alen d_G_draw_35 ⟨by rw [KNG_25 hm2]; decide, by rw [KNG_25 hm2]; decide⟩ ?_
    refine a_istore_n (L' := [some (vr 20), some (vr 25), some (vi (xN h3 25 : Int)), none, none]) d_G_draw_36 (Nat.le_of_ble_eq_true rfl) rfl rfl ?_
    refine a_iconst d_G_draw_37 ⟨by decide, by decide⟩ ?_
    refine a_istore_n (L' := [some (vr 20), some (vr 25), some (vi (xN h3 25 : Int)), some (vi (0 : Int)), none]) d_G_draw_38 (Nat.le_of_ble_eq_true rfl) rfl rfl ?_
    exact v
  · have v := vf (c); clear vt vf
    exact a_vret d_G_draw_7 rfl v
theorem g_G_draw_39 {l : Launch} {D : DD} {d kc ks : Nat} {h : Hp} {Φ : Option AV → Hp → Prop} {x1 : Nat} {x2 : Int} {x3 : Int} (hM : GS h) (v : (x3 ≥ x2 → (Ev l D Y_G_draw (d + 1) kc ks 63 [some (vr 20), some (vi (0 : Int)), none, some (vi x3), none] [] h Φ)) ∧ (x3 < x2 → ((22 ≤ xK h x1 ∧ xK h x1 ≤ 27) ∧ 0 ≤ x3 ∧ x3 < xN h x1 ∧ (Ev l D Y_Arr_fillZ d 0 0 0 [some (vr (xR h x1 (x3).toNat)), some (vi (0 : Int)), none, none] [] h (kv (fun h1 => GS h1 ∧ (Ev l D Y_G_draw (d + 1) kc ks 39 [some (vr 20), some (vr x1), some (vi x2), some (vi (wr (x3 + (1 : Int)))), none] [] h1 Φ))))))) : Ev l D Y_G_draw (d + 1) kc ks 39 [some (vr 20), some (vr x1), some (vi x2), some (vi x3), none] [] h Φ := by
  refine a_iload_n d_G_draw_39 rfl ?_
  refine a_iload_n d_G_draw_40 rfl ?_
  obtain ⟨vt, vf⟩ := v
  refine a_icmp_ge (tgt := 61) d_G_draw_41 (by decide) (fun c => ?_) (fun c => ?_)
  · have v := vt (c); clear vt vf
    refine a_iconst d_G_draw_61 ⟨by decide, by decide⟩ ?_
    refine a_istore_n (L' := [some (vr 20), some (vi (0 : Int)), some (vi x2), some (vi x3), none]) d_G_draw_62 (Nat.le_of_ble_eq_true rfl) rfl rfl ?_
    exact Ev.weak v ⟨rfl, rfl, rfl, trivial⟩
  · have v := vf (Int.not_le.mp c); clear vt vf
    refine a_aload_n d_G_draw_44 rfl ?_
    refine a_iload_n d_G_draw_45 rfl ?_
    obtain ⟨c1, c2, c3, v⟩ := v
    refine a_aald d_G_draw_46 c1 c2 c3 ?_
    refine a_astore (L' := [some (vr 20), some (vr x1), some (vi x2), some (vi x3), some (vr (xR h x1 (x3).toNat))]) d_G_draw_47 (Nat.le_of_ble_eq_true rfl) rfl rfl ?_
    refine a_aload d_G_draw_49 rfl ?_
    refine a_iconst d_G_draw_51 ⟨by decide, by decide⟩ ?_
    refine b_callS (as := [vr (xR h x1 (x3).toNat), vi (0 : Int)]) (st := []) (kc1 := 0) (ks1 := 0) (kc2 := kc) (ks2 := ks) (d' := d) ml_G_127 rfl d_G_draw_52 rfl rfl (Nat.le_of_ble_eq_true rfl) rfl (Nat.le_refl _) (by omega) (by omega) ?_
    refine Ev.mono v ?_
    intro u h1 v
    obtain ⟨rfl, v⟩ := kv_el v
    obtain ⟨hm1, v⟩ := v
    change Ev l D Y_G_draw _ _ _ 55 [some (vr 20), some (vr x1), some (vi x2), some (vi x3), some (vr (xR h x1 (x3).toNat))] [] _ _
    refine a_iinc (L' := [some (vr 20), some (vr x1), some (vi x2), some (vi (wr (x3 + (1 : Int)))), some (vr (xR h x1 (x3).toNat))]) d_G_draw_55 rfl (Nat.le_of_ble_eq_true rfl) rfl rfl ?_
    refine a_goto (tgt := 39) d_G_draw_58 (by decide) ?_
    exact Ev.weak v ⟨rfl, rfl, rfl, rfl, trivial⟩
theorem g_G_draw_63 {l : Launch} {D : DD} {d kc ks : Nat} {h : Hp} {Φ : Option AV → Hp → Prop} {x1 : Int} {x3 : Int} (hM : GS h) (v : (x1 ≥ xI h 20 3 → (Ev l D Y_G_draw (d + 1) kc ks 117 [some (vr 20), some (vi x1), none, some (vi x3), none] [] h Φ)) ∧ (x1 < xI h 20 3 → (0 ≤ x1 ∧ x1 < 48 ∧ (xK h (xR h 22 (x1).toNat) = 4 ∧ (xK h (xR h 22 (x1).toNat) = 4 ∧ 16 ≤ xR h 22 (x1).toNat ∧ (xI h (xR h 22 (x1).toNat) 6 = 0 ∨ xI h (xR h 22 (x1).toNat) 6 = 1) ∧ (∀ h1 : Hp, h1 = sI h (xR h 22 (x1).toNat) 7 (xI h (xR h 22 (x1).toNat) 6) → (Ev l D Y_G_draw (d + 1) kc ks 88 [some (vr 20), some (vi x1), some (vr (xR h 22 (x1).toNat)), some (vi (0 : Int)), none] [] h1 Φ))))))) : Ev l D Y_G_draw (d + 1) kc ks 63 [some (vr 20), some (vi x1), none, some (vi x3), none] [] h Φ := by
  refine a_iload_n d_G_draw_63 rfl ?_
  refine a_aload_n d_G_draw_64 rfl ?_
  refine a_getI fl_G_133 d_G_draw_65 (beq_iff_eq.mpr (KNG_20 hM)) ?_
  obtain ⟨vt, vf⟩ := v
  refine a_icmp_ge (tgt := 117) d_G_draw_68 (by decide) (fun c => ?_) (fun c => ?_)
  · have v := vt (c); clear vt vf
    exact v
  · have v := vf (Int.not_le.mp c); clear vt vf
    refine a_aload_n d_G_draw_71 rfl ?_
    refine a_getAe fl_G_17 d_G_draw_72 (beq_iff_eq.mpr (KNG_20 hM)) (KRG_20_2 hM) ?_
    refine a_iload_n d_G_draw_75 rfl ?_
    obtain ⟨c2, c3, v⟩ := v
    refine a_aald d_G_draw_76 ⟨by rw [KNG_22 hM]; decide, by rw [KNG_22 hM]; decide⟩ c2 (lt_len (NNG_22 hM) c3) ?_
    refine a_astore_n (L' := [some (vr 20), some (vi x1), some (vr (xR h 22 (x1).toNat)), some (vi x3), none]) d_G_draw_77 (Nat.le_of_ble_eq_true rfl) rfl rfl ?_
    refine a_aload_n d_G_draw_78 rfl ?_
    refine a_aload_n d_G_draw_79 rfl ?_
    obtain ⟨c4, v⟩ := v
    refine a_getZN fl_G_136 d_G_draw_80 (beq_iff_eq.mpr c4) ?_
    obtain ⟨c5, c6, c7, v⟩ := v
    have v := v _ rfl
    refine a_putZN fl_G_139 d_G_draw_83 (beq_iff_eq.mpr c5) c6 c7 ?_
    refine a_iconst d_G_draw_86 ⟨by decide, by decide⟩ ?_
    refine a_istore_n (L' := [some (vr 20), some (vi x1), some (vr (xR h 22 (x1).toNat)), some (vi (0 : Int)), none]) d_G_draw_87 (Nat.le_of_ble_eq_true rfl) rfl rfl ?_
    exact v
theorem g_G_draw_117 {l : Launch} {D : DD} {d kc ks : Nat} {h : Hp} {Φ : Option AV → Hp → Prop} {x1 : Int} {x3 : Int} (hM : GS h) (v : (∀ h1 : Hp, h1 = sI h 20 8 (0 : Int) → (Ev l D Y_G_draw (d + 1) kc ks 124 [some (vr 20), some (vi (0 : Int)), none, some (vi x3), none] [] h1 Φ))) : Ev l D Y_G_draw (d + 1) kc ks 117 [some (vr 20), some (vi x1), none, some (vi x3), none] [] h Φ := by
  refine a_aload_n d_G_draw_117 rfl ?_
  refine a_iconst d_G_draw_118 ⟨by decide, by decide⟩ ?_
  have v := v _ rfl
  refine a_putZ fl_G_111 d_G_draw_119 (beq_iff_eq.mpr (KNG_20 hM)) (by decide) (Or.inl rfl) ?_
  refine a_iconst d_G_draw_122 ⟨by decide, by decide⟩ ?_
  refine a_istore_n (L' := [some (vr 20), some (vi (0 : Int)), none, some (vi x3), none]) d_G_draw_123 (Nat.le_of_ble_eq_true rfl) rfl rfl ?_
  exact v
theorem g_G_draw_88 {l : Launch} {D : DD} {d kc ks : Nat} {h : Hp} {Φ : Option AV → Hp → Prop} {x1 : Int} {x2 : Nat} {x3 : Int} (hM : GS h) (v : xK h x2 = 4 ∧ ((x3 ≥ xI h x2 5 → (Ev l D Y_G_draw (d + 1) kc ks 63 [some (vr 20), some (vi (wr (x1 + (1 : Int)))), none, some (vi x3), none] [] h Φ)) ∧ (x3 < xI h x2 5 → (xK h x2 = 4 ∧ ((22 ≤ xK h (xR h x2 4) ∧ xK h (xR h x2 4) ≤ 27) ∧ 0 ≤ x3 ∧ x3 < xN h (xR h x2 4) ∧ (opk (xK h (xR h (xR h x2 4) (x3).toNat)) = true ∧ Ev l D (mt_Op_forget_Y (xK h (xR h (xR h x2 4) (x3).toNat))) d 0 0 0 (enL (mt_Op_forget_Y (xK h (xR h (xR h x2 4) (x3).toNat))).2.2.1 [vr (xR h (xR h x2 4) (x3).toNat)]) [] h (kv (fun h1 => GS h1 ∧ (Ev l D Y_G_draw (d + 1) kc ks 88 [some (vr 20), some (vi x1), some (vr x2), some (vi (wr (x3 + (1 : Int)))), none] [] h1 Φ))))))))) : Ev l D Y_G_draw (d + 1) kc ks 88 [some (vr 20), some (vi x1), some (vr x2), some (vi x3), none] [] h Φ := by
  refine a_iload_n d_G_draw_88 rfl ?_
  refine a_aload_n d_G_draw_89 rfl ?_
  obtain ⟨c1, v⟩ := v
  refine a_getIN fl_G_142 d_G_draw_90 (beq_iff_eq.mpr c1) ?_
  obtain ⟨vt, vf⟩ := v
  refine a_icmp_ge (tgt := 111) d_G_draw_93 (by decide) (fun c => ?_) (fun c => ?_)
  · have v := vt (c); clear vt vf
    refine a_iinc (L' := [some (vr 20), some (vi (wr (x1 + (1 : Int)))), some (vr x2), some (vi x3), none]) d_G_draw_111 rfl (Nat.le_of_ble_eq_true rfl) rfl rfl ?_
    refine a_goto (tgt := 63) d_G_draw_114 (by decide) ?_
    exact Ev.weak v ⟨rfl, rfl, rfl, trivial⟩
  · have v := vf (Int.not_le.mp c); clear vt vf
    refine a_aload_n d_G_draw_96 rfl ?_
    obtain ⟨c2, v⟩ := v
    refine a_getAN fl_G_145 d_G_draw_97 (beq_iff_eq.mpr c2) ?_
    refine a_iload_n d_G_draw_100 rfl ?_
    obtain ⟨c3, c4, c5, v⟩ := v
    refine a_aald d_G_draw_101 c3 c4 c5 ?_
    obtain ⟨c6, v⟩ := v
    refine b_callU (as := []) (b := (xR h (xR h x2 4) (x3).toNat)) (st := []) (kc1 := 0) (ks1 := 0) (kc2 := kc) (ks2 := ks) (d' := d) ml_G_149 mt_Op_forget rfl d_G_draw_102 rfl rfl (fun kd hq => by rcases opk_cases hq with rfl | rfl | rfl | rfl | rfl | rfl | rfl <;> exact Nat.le_of_ble_eq_true rfl) (Nat.le_refl _) (by omega) (by omega) c6 ?_
    refine Ev.mono v ?_
    intro u h1 v
    obtain ⟨rfl, v⟩ := kv_el v
    obtain ⟨hm1, v⟩ := v
    change Ev l D Y_G_draw _ _ _ 105 [some (vr 20), some (vi x1), some (vr x2), some (vi x3), none] [] _ _
    refine a_iinc (L' := [some (vr 20), some (vi x1), some (vr x2), some (vi (wr (x3 + (1 : Int)))), none]) d_G_draw_105 rfl (Nat.le_of_ble_eq_true rfl) rfl rfl ?_
    refine a_goto (tgt := 88) d_G_draw_108 (by decide) ?_
    exact v
theorem g_G_draw_124 {l : Launch} {D : DD} {d kc ks : Nat} {h : Hp} {Φ : Option AV → Hp → Prop} {x1 : Int} {x3 : Int} (hM : GS h) (v : (x1 ≥ xI h 20 3 → ((¬ xI h 20 8 = 0 → (Ev l D Y_G_draw (d + 1) kc ks 117 [some (vr 20), some (vi x1), none, some (vi x3), none] [] h Φ)) ∧ (xI h 20 8 = 0 → (Ev l D Y_G_close d 0 0 0 [some (vr 20), none, none, none, none] [] h (kv (fun h1 => GS h1 ∧ (Φ none h1))))))) ∧ (x1 < xI h 20 3 → (Ev l D Y_G_draw (d + 1) kc ks 134 [some (vr 20), some (vi x1), some (vi (0 : Int)), some (vi x3), none] [] h Φ))) : Ev l D Y_G_draw (d + 1) kc ks 124 [some (vr 20), some (vi x1), none, some (vi x3), none] [] h Φ := by
  refine a_iload_n d_G_draw_124 rfl ?_
  refine a_aload_n d_G_draw_125 rfl ?_
  refine a_getI fl_G_133 d_G_draw_126 (beq_iff_eq.mpr (KNG_20 hM)) ?_
  obtain ⟨vt, vf⟩ := v
  refine a_icmp_ge (tgt := 186) d_G_draw_129 (by decide) (fun c => ?_) (fun c => ?_)
  · have v := vt (c); clear vt vf
    refine a_aload_n d_G_draw_186 rfl ?_
    refine a_getZ fl_G_111 d_G_draw_187 (beq_iff_eq.mpr (KNG_20 hM)) ?_
    obtain ⟨vt, vf⟩ := v
    refine a_if_ne (tgt := 117) d_G_draw_190 (by decide) (fun c => ?_) (fun c => ?_)
    · have v := vt (c); clear vt vf
      exact v
    · have v := vf (Classical.not_not.mp c); clear vt vf
      refine a_aload_n d_G_draw_193 rfl ?_
      refine b_callV (as := []) (b := 20) (st := []) (kd := 1) (kc1 := 0) (ks1 := 0) (kc2 := kc) (ks2 := ks) (d' := d) ml_G_156 rfl d_G_draw_194 rfl rfl (Nat.le_of_ble_eq_true rfl) (by decide) rfl (Nat.le_refl _) (by omega) (by omega) (KNG_20 hM) ?_
      refine Ev.mono v ?_
      intro u h1 v
      obtain ⟨rfl, v⟩ := kv_el v
      obtain ⟨hm1, v⟩ := v
      change Ev l D Y_G_draw _ _ _ 197 [some (vr 20), some (vi x1), none, some (vi x3), none] [] _ _
      exact a_vret d_G_draw_197 rfl v
  · have v := vf (Int.not_le.mp c); clear vt vf
    refine a_iconst d_G_draw_132 ⟨by decide, by decide⟩ ?_
    refine a_istore_n (L' := [some (vr 20), some (vi x1), some (vi (0 : Int)), some (vi x3), none]) d_G_draw_133 (Nat.le_of_ble_eq_true rfl) rfl rfl ?_
    exact v
theorem g_G_draw_134 {l : Launch} {D : DD} {d kc ks : Nat} {h : Hp} {Φ : Option AV → Hp → Prop} {x1 : Int} {x2 : Int} {x3 : Int} (hM : GS h) (v : 0 ≤ x1 ∧ x1 < 48 ∧ (xK h (xR h 22 (x1).toNat) = 4 ∧ ((x2 ≥ xI h (xR h 22 (x1).toNat) 5 → (Ev l D Y_G_draw (d + 1) kc ks 124 [some (vr 20), some (vi (wr (x1 + (1 : Int)))), none, some (vi x3), none] [] h Φ)) ∧ (x2 < xI h (xR h 22 (x1).toNat) 5 → (0 ≤ x1 ∧ x1 < 48 ∧ (xK h (xR h 22 (x1).toNat) = 4 ∧ ((xI h (xR h 22 (x1).toNat) 7 = 0 → (Ev l D Y_G_draw (d + 1) kc ks 124 [some (vr 20), some (vi (wr (x1 + (1 : Int)))), none, some (vi x3), none] [] h Φ)) ∧ (¬ xI h (xR h 22 (x1).toNat) 7 = 0 → (0 ≤ x1 ∧ x1 < 48 ∧ (xK h (xR h 22 (x1).toNat) = 4 ∧ ((22 ≤ xK h (xR h (xR h 22 (x1).toNat) 4) ∧ xK h (xR h (xR h 22 (x1).toNat) 4) ≤ 27) ∧ 0 ≤ x2 ∧ x2 < xN h (xR h (xR h 22 (x1).toNat) 4) ∧ (opk (xK h (xR h (xR h (xR h 22 (x1).toNat) 4) (x2).toNat)) = true ∧ Ev l D (mt_Op_spread_Y (xK h (xR h (xR h (xR h 22 (x1).toNat) 4) (x2).toNat))) d 0 0 0 (enL (mt_Op_spread_Y (xK h (xR h (xR h (xR h 22 (x1).toNat) 4) (x2).toNat))).2.2.1 [vr (xR h (xR h (xR h 22 (x1).toNat) 4) (x2).toNat), vr 20]) [] h (kv (fun h1 => GS h1 ∧ (Ev l D Y_G_draw (d + 1) kc ks 134 [some (vr 20), some (vi x1), some (vi (wr (x2 + (1 : Int)))), some (vi x3), none] [] h1 Φ))))))))))))))) : Ev l D Y_G_draw (d + 1) kc ks 134 [some (vr 20), some (vi x1), some (vi x2), some (vi x3), none] [] h Φ := by
  refine a_iload_n d_G_draw_134 rfl ?_
  refine a_aload_n d_G_draw_135 rfl ?_
  refine a_getAe fl_G_17 d_G_draw_136 (beq_iff_eq.mpr (KNG_20 hM)) (KRG_20_2 hM) ?_
  refine a_iload_n d_G_draw_139 rfl ?_
  obtain ⟨c2, c3, v⟩ := v
  refine a_aald d_G_draw_140 ⟨by rw [KNG_22 hM]; decide, by rw [KNG_22 hM]; decide⟩ c2 (lt_len (NNG_22 hM) c3) ?_
  obtain ⟨c4, v⟩ := v
  refine a_getIN fl_G_142 d_G_draw_141 (beq_iff_eq.mpr c4) ?_
  obtain ⟨vt, vf⟩ := v
  refine a_icmp_ge (tgt := 180) d_G_draw_144 (by decide) (fun c => ?_) (fun c => ?_)
  · have v := vt (c); clear vt vf
    refine a_iinc (L' := [some (vr 20), some (vi (wr (x1 + (1 : Int)))), some (vi x2), some (vi x3), none]) d_G_draw_180 rfl (Nat.le_of_ble_eq_true rfl) rfl rfl ?_
    refine a_goto (tgt := 124) d_G_draw_183 (by decide) ?_
    exact Ev.weak v ⟨rfl, rfl, rfl, trivial⟩
  · have v := vf (Int.not_le.mp c); clear vt vf
    refine a_aload_n d_G_draw_147 rfl ?_
    refine a_getAe fl_G_17 d_G_draw_148 (beq_iff_eq.mpr (KNG_20 hM)) (KRG_20_2 hM) ?_
    refine a_iload_n d_G_draw_151 rfl ?_
    obtain ⟨c6, c7, v⟩ := v
    refine a_aald d_G_draw_152 ⟨by rw [KNG_22 hM]; decide, by rw [KNG_22 hM]; decide⟩ c6 (lt_len (NNG_22 hM) c7) ?_
    obtain ⟨c8, v⟩ := v
    refine a_getZN fl_G_139 d_G_draw_153 (beq_iff_eq.mpr c8) ?_
    obtain ⟨vt, vf⟩ := v
    refine a_if_eq (tgt := 180) d_G_draw_156 (by decide) (fun c => ?_) (fun c => ?_)
    · have v := vt (c); clear vt vf
      refine a_iinc (L' := [some (vr 20), some (vi (wr (x1 + (1 : Int)))), some (vi x2), some (vi x3), none]) d_G_draw_180 rfl (Nat.le_of_ble_eq_true rfl) rfl rfl ?_
      refine a_goto (tgt := 124) d_G_draw_183 (by decide) ?_
      exact Ev.weak v ⟨rfl, rfl, rfl, trivial⟩
    · have v := vf (c); clear vt vf
      refine a_aload_n d_G_draw_159 rfl ?_
      refine a_getAe fl_G_17 d_G_draw_160 (beq_iff_eq.mpr (KNG_20 hM)) (KRG_20_2 hM) ?_
      refine a_iload_n d_G_draw_163 rfl ?_
      obtain ⟨c10, c11, v⟩ := v
      refine a_aald d_G_draw_164 ⟨by rw [KNG_22 hM]; decide, by rw [KNG_22 hM]; decide⟩ c10 (lt_len (NNG_22 hM) c11) ?_
      obtain ⟨c12, v⟩ := v
      refine a_getAN fl_G_145 d_G_draw_165 (beq_iff_eq.mpr c12) ?_
      refine a_iload_n d_G_draw_168 rfl ?_
      obtain ⟨c13, c14, c15, v⟩ := v
      refine a_aald d_G_draw_169 c13 c14 c15 ?_
      refine a_aload_n d_G_draw_170 rfl ?_
      obtain ⟨c16, v⟩ := v
      refine b_callU (as := [vr 20]) (b := (xR h (xR h (xR h 22 (x1).toNat) 4) (x2).toNat)) (st := []) (kc1 := 0) (ks1 := 0) (kc2 := kc) (ks2 := ks) (d' := d) ml_G_152 mt_Op_spread rfl d_G_draw_171 rfl rfl (fun kd hq => by rcases opk_cases hq with rfl | rfl | rfl | rfl | rfl | rfl | rfl <;> exact Nat.le_of_ble_eq_true rfl) (Nat.le_refl _) (by omega) (by omega) c16 ?_
      refine Ev.mono v ?_
      intro u h1 v
      obtain ⟨rfl, v⟩ := kv_el v
      obtain ⟨hm1, v⟩ := v
      change Ev l D Y_G_draw _ _ _ 174 [some (vr 20), some (vi x1), some (vi x2), some (vi x3), none] [] _ _
      refine a_iinc (L' := [some (vr 20), some (vi x1), some (vi (wr (x2 + (1 : Int)))), some (vi x3), none]) d_G_draw_174 rfl (Nat.le_of_ble_eq_true rfl) rfl rfl ?_
      refine a_goto (tgt := 134) d_G_draw_177 (by decide) ?_
      exact v
theorem d_G_close_0 : decode Y_G_close.2.1 0 = .ok (.iconst 0, 1) := by decide +kernel
theorem d_G_close_1 : decode Y_G_close.2.1 1 = .ok (.istore_n 1, 1) := by decide +kernel
theorem d_G_close_2 : decode Y_G_close.2.1 2 = .ok (.iload_n 1, 1) := by decide +kernel
theorem d_G_close_3 : decode Y_G_close.2.1 3 = .ok (.aload_n 0, 1) := by decide +kernel
theorem d_G_close_4 : decode Y_G_close.2.1 4 = .ok (.getfield 133, 3) := by decide +kernel
theorem d_G_close_7 : decode Y_G_close.2.1 7 = .ok (.if_icmp .ge 101, 3) := by decide +kernel
theorem d_G_close_10 : decode Y_G_close.2.1 10 = .ok (.aload_n 0, 1) := by decide +kernel
theorem d_G_close_11 : decode Y_G_close.2.1 11 = .ok (.getfield 33, 3) := by decide +kernel
theorem d_G_close_14 : decode Y_G_close.2.1 14 = .ok (.iload_n 1, 1) := by decide +kernel
theorem d_G_close_15 : decode Y_G_close.2.1 15 = .ok (.aaload, 1) := by decide +kernel
theorem d_G_close_16 : decode Y_G_close.2.1 16 = .ok (.iconst 0, 1) := by decide +kernel
theorem d_G_close_17 : decode Y_G_close.2.1 17 = .ok (.invokestatic 127, 3) := by decide +kernel
theorem d_G_close_20 : decode Y_G_close.2.1 20 = .ok (.aload_n 0, 1) := by decide +kernel
theorem d_G_close_21 : decode Y_G_close.2.1 21 = .ok (.getfield 17, 3) := by decide +kernel
theorem d_G_close_24 : decode Y_G_close.2.1 24 = .ok (.iload_n 1, 1) := by decide +kernel
theorem d_G_close_25 : decode Y_G_close.2.1 25 = .ok (.aaload, 1) := by decide +kernel
theorem d_G_close_26 : decode Y_G_close.2.1 26 = .ok (.astore_n 2, 1) := by decide +kernel
theorem d_G_close_27 : decode Y_G_close.2.1 27 = .ok (.iconst 0, 1) := by decide +kernel
theorem d_G_close_28 : decode Y_G_close.2.1 28 = .ok (.istore_n 3, 1) := by decide +kernel
theorem d_G_close_29 : decode Y_G_close.2.1 29 = .ok (.iload_n 3, 1) := by decide +kernel
theorem d_G_close_30 : decode Y_G_close.2.1 30 = .ok (.aload_n 2, 1) := by decide +kernel
theorem d_G_close_31 : decode Y_G_close.2.1 31 = .ok (.getfield 142, 3) := by decide +kernel
theorem d_G_close_34 : decode Y_G_close.2.1 34 = .ok (.if_icmp .ge 68, 3) := by decide +kernel
theorem d_G_close_37 : decode Y_G_close.2.1 37 = .ok (.aload_n 2, 1) := by decide +kernel
theorem d_G_close_38 : decode Y_G_close.2.1 38 = .ok (.getfield 139, 3) := by decide +kernel
theorem d_G_close_41 : decode Y_G_close.2.1 41 = .ok (.ifCond .eq 61, 3) := by decide +kernel
theorem d_G_close_44 : decode Y_G_close.2.1 44 = .ok (.aload_n 2, 1) := by decide +kernel
theorem d_G_close_45 : decode Y_G_close.2.1 45 = .ok (.getfield 145, 3) := by decide +kernel
theorem d_G_close_48 : decode Y_G_close.2.1 48 = .ok (.iload_n 3, 1) := by decide +kernel
theorem d_G_close_49 : decode Y_G_close.2.1 49 = .ok (.aaload, 1) := by decide +kernel
theorem d_G_close_50 : decode Y_G_close.2.1 50 = .ok (.aload_n 0, 1) := by decide +kernel
theorem d_G_close_51 : decode Y_G_close.2.1 51 = .ok (.invokevirtual 159, 3) := by decide +kernel
theorem d_G_close_54 : decode Y_G_close.2.1 54 = .ok (.iconst 0, 1) := by decide +kernel
theorem d_G_close_55 : decode Y_G_close.2.1 55 = .ok (.istore 4, 2) := by decide +kernel
theorem d_G_close_57 : decode Y_G_close.2.1 57 = .ok (.iload 4, 2) := by decide +kernel
theorem d_G_close_59 : decode Y_G_close.2.1 59 = .ok (.aload_n 0, 1) := by decide +kernel
theorem d_G_close_60 : decode Y_G_close.2.1 60 = .ok (.getfield 133, 3) := by decide +kernel
theorem d_G_close_63 : decode Y_G_close.2.1 63 = .ok (.if_icmp .ge 33, 3) := by decide +kernel
theorem d_G_close_66 : decode Y_G_close.2.1 66 = .ok (.aload_n 0, 1) := by decide +kernel
theorem d_G_close_67 : decode Y_G_close.2.1 67 = .ok (.getfield 33, 3) := by decide +kernel
theorem d_G_close_70 : decode Y_G_close.2.1 70 = .ok (.iload_n 1, 1) := by decide +kernel
theorem d_G_close_71 : decode Y_G_close.2.1 71 = .ok (.aaload, 1) := by decide +kernel
theorem d_G_close_72 : decode Y_G_close.2.1 72 = .ok (.iload 4, 2) := by decide +kernel
theorem d_G_close_74 : decode Y_G_close.2.1 74 = .ok (.dup2, 1) := by decide +kernel
theorem d_G_close_75 : decode Y_G_close.2.1 75 = .ok (.baload, 1) := by decide +kernel
theorem d_G_close_76 : decode Y_G_close.2.1 76 = .ok (.aload_n 2, 1) := by decide +kernel
theorem d_G_close_77 : decode Y_G_close.2.1 77 = .ok (.getfield 145, 3) := by decide +kernel
theorem d_G_close_80 : decode Y_G_close.2.1 80 = .ok (.iload_n 3, 1) := by decide +kernel
theorem d_G_close_81 : decode Y_G_close.2.1 81 = .ok (.aaload, 1) := by decide +kernel
theorem d_G_close_82 : decode Y_G_close.2.1 82 = .ok (.getfield 162, 3) := by decide +kernel
theorem d_G_close_85 : decode Y_G_close.2.1 85 = .ok (.iload 4, 2) := by decide +kernel
theorem d_G_close_87 : decode Y_G_close.2.1 87 = .ok (.baload, 1) := by decide +kernel
theorem d_G_close_88 : decode Y_G_close.2.1 88 = .ok (.ior, 1) := by decide +kernel
theorem d_G_close_89 : decode Y_G_close.2.1 89 = .ok (.bastore, 1) := by decide +kernel
theorem d_G_close_90 : decode Y_G_close.2.1 90 = .ok (.iinc 4 1, 3) := by decide +kernel
theorem d_G_close_93 : decode Y_G_close.2.1 93 = .ok (.goto (-36), 3) := by decide +kernel
theorem d_G_close_96 : decode Y_G_close.2.1 96 = .ok (.iinc 3 1, 3) := by decide +kernel
theorem d_G_close_99 : decode Y_G_close.2.1 99 = .ok (.goto (-70), 3) := by decide +kernel
theorem d_G_close_102 : decode Y_G_close.2.1 102 = .ok (.iinc 1 1, 3) := by decide +kernel
theorem d_G_close_105 : decode Y_G_close.2.1 105 = .ok (.goto (-103), 3) := by decide +kernel
theorem d_G_close_108 : decode Y_G_close.2.1 108 = .ok (.iconst 0, 1) := by decide +kernel
theorem d_G_close_109 : decode Y_G_close.2.1 109 = .ok (.istore_n 1, 1) := by decide +kernel
theorem d_G_close_110 : decode Y_G_close.2.1 110 = .ok (.iload_n 1, 1) := by decide +kernel
theorem d_G_close_111 : decode Y_G_close.2.1 111 = .ok (.aload_n 0, 1) := by decide +kernel
theorem d_G_close_112 : decode Y_G_close.2.1 112 = .ok (.getfield 133, 3) := by decide +kernel
theorem d_G_close_115 : decode Y_G_close.2.1 115 = .ok (.if_icmp .ge 71, 3) := by decide +kernel
theorem d_G_close_118 : decode Y_G_close.2.1 118 = .ok (.iconst 0, 1) := by decide +kernel
theorem d_G_close_119 : decode Y_G_close.2.1 119 = .ok (.istore_n 2, 1) := by decide +kernel
theorem d_G_close_120 : decode Y_G_close.2.1 120 = .ok (.iload_n 2, 1) := by decide +kernel
theorem d_G_close_121 : decode Y_G_close.2.1 121 = .ok (.aload_n 0, 1) := by decide +kernel
theorem d_G_close_122 : decode Y_G_close.2.1 122 = .ok (.getfield 133, 3) := by decide +kernel
theorem d_G_close_125 : decode Y_G_close.2.1 125 = .ok (.if_icmp .ge 55, 3) := by decide +kernel
theorem d_G_close_128 : decode Y_G_close.2.1 128 = .ok (.iconst 0, 1) := by decide +kernel
theorem d_G_close_129 : decode Y_G_close.2.1 129 = .ok (.istore_n 3, 1) := by decide +kernel
theorem d_G_close_130 : decode Y_G_close.2.1 130 = .ok (.iload_n 3, 1) := by decide +kernel
theorem d_G_close_131 : decode Y_G_close.2.1 131 = .ok (.aload_n 0, 1) := by decide +kernel
theorem d_G_close_132 : decode Y_G_close.2.1 132 = .ok (.getfield 133, 3) := by decide +kernel
theorem d_G_close_135 : decode Y_G_close.2.1 135 = .ok (.if_icmp .ge 39, 3) := by decide +kernel
theorem d_G_close_138 : decode Y_G_close.2.1 138 = .ok (.aload_n 0, 1) := by decide +kernel
theorem d_G_close_139 : decode Y_G_close.2.1 139 = .ok (.getfield 33, 3) := by decide +kernel
theorem d_G_close_142 : decode Y_G_close.2.1 142 = .ok (.iload_n 2, 1) := by decide +kernel
theorem d_G_close_143 : decode Y_G_close.2.1 143 = .ok (.aaload, 1) := by decide +kernel
theorem d_G_close_144 : decode Y_G_close.2.1 144 = .ok (.iload_n 1, 1) := by decide +kernel
theorem d_G_close_145 : decode Y_G_close.2.1 145 = .ok (.baload, 1) := by decide +kernel
theorem d_G_close_146 : decode Y_G_close.2.1 146 = .ok (.ifCond .eq 28, 3) := by decide +kernel
theorem d_G_close_149 : decode Y_G_close.2.1 149 = .ok (.aload_n 0, 1) := by decide +kernel
theorem d_G_close_150 : decode Y_G_close.2.1 150 = .ok (.getfield 33, 3) := by decide +kernel
theorem d_G_close_153 : decode Y_G_close.2.1 153 = .ok (.iload_n 2, 1) := by decide +kernel
theorem d_G_close_154 : decode Y_G_close.2.1 154 = .ok (.aaload, 1) := by decide +kernel
theorem d_G_close_155 : decode Y_G_close.2.1 155 = .ok (.iload_n 3, 1) := by decide +kernel
theorem d_G_close_156 : decode Y_G_close.2.1 156 = .ok (.dup2, 1) := by decide +kernel
theorem d_G_close_157 : decode Y_G_close.2.1 157 = .ok (.baload, 1) := by decide +kernel
theorem d_G_close_158 : decode Y_G_close.2.1 158 = .ok (.aload_n 0, 1) := by decide +kernel
theorem d_G_close_159 : decode Y_G_close.2.1 159 = .ok (.getfield 33, 3) := by decide +kernel
theorem d_G_close_162 : decode Y_G_close.2.1 162 = .ok (.iload_n 1, 1) := by decide +kernel
theorem d_G_close_163 : decode Y_G_close.2.1 163 = .ok (.aaload, 1) := by decide +kernel
theorem d_G_close_164 : decode Y_G_close.2.1 164 = .ok (.iload_n 3, 1) := by decide +kernel
theorem d_G_close_165 : decode Y_G_close.2.1 165 = .ok (.baload, 1) := by decide +kernel
theorem d_G_close_166 : decode Y_G_close.2.1 166 = .ok (.ior, 1) := by decide +kernel
theorem d_G_close_167 : decode Y_G_close.2.1 167 = .ok (.bastore, 1) := by decide +kernel
theorem d_G_close_168 : decode Y_G_close.2.1 168 = .ok (.iinc 3 1, 3) := by decide +kernel
theorem d_G_close_171 : decode Y_G_close.2.1 171 = .ok (.goto (-41), 3) := by decide +kernel
theorem d_G_close_174 : decode Y_G_close.2.1 174 = .ok (.iinc 2 1, 3) := by decide +kernel
theorem d_G_close_177 : decode Y_G_close.2.1 177 = .ok (.goto (-57), 3) := by decide +kernel
theorem d_G_close_180 : decode Y_G_close.2.1 180 = .ok (.iinc 1 1, 3) := by decide +kernel
theorem d_G_close_183 : decode Y_G_close.2.1 183 = .ok (.goto (-73), 3) := by decide +kernel
theorem d_G_close_186 : decode Y_G_close.2.1 186 = .ok (.return_, 1) := by decide +kernel
theorem g_G_close_0 {l : Launch} {D : DD} {d kc ks : Nat} {h : Hp} {Φ : Option AV → Hp → Prop} (hM : GS h) (v : Ev l D Y_G_close (d + 1) kc ks 2 [some (vr 20), some (vi (0 : Int)), none, none, none] [] h Φ) : Ev l D Y_G_close (d + 1) kc ks 0 [some (vr 20), none, none, none, none] [] h Φ := by
  refine a_iconst d_G_close_0 ⟨by decide, by decide⟩ ?_
  refine a_istore_n (L' := [some (vr 20), some (vi (0 : Int)), none, none, none]) d_G_close_1 (Nat.le_of_ble_eq_true rfl) rfl rfl ?_
  exact v
theorem g_G_close_2 {l : Launch} {D : DD} {d kc ks : Nat} {h : Hp} {Φ : Option AV → Hp → Prop} {x1 : Int} (hM : GS h) (v : (x1 ≥ xI h 20 3 → (Ev l D Y_G_close (d + 1) kc ks 110 [some (vr 20), some (vi (0 : Int)), none, none, none] [] h Φ)) ∧ (x1 < xI h 20 3 → (0 ≤ x1 ∧ x1 < 48 ∧ (Ev l D Y_Arr_fillZ d 0 0 0 [some (vr (xR h 30 (x1).toNat)), some (vi (0 : Int)), none, none] [] h (kv (fun h1 => GS h1 ∧ (0 ≤ x1 ∧ x1 < 48 ∧ (Ev l D Y_G_close (d + 1) kc ks 29 [some (vr 20), some (vi x1), some (vr (xR h1 22 (x1).toNat)), some (vi (0 : Int)), none] [] h1 Φ)))))))) : Ev l D Y_G_close (d + 1) kc ks 2 [some (vr 20), some (vi x1), none, none, none] [] h Φ := by
  refine a_iload_n d_G_close_2 rfl ?_
  refine a_aload_n d_G_close_3 rfl ?_
  refine a_getI fl_G_133 d_G_close_4 (beq_iff_eq.mpr (KNG_20 hM)) ?_
  obtain ⟨vt, vf⟩ := v
  refine a_icmp_ge (tgt := 108) d_G_close_7 (by decide) (fun c => ?_) (fun c => ?_)
  · have v := vt (c); clear vt vf
    refine a_iconst d_G_close_108 ⟨by decide, by decide⟩ ?_
    refine a_istore_n (L' := [some (vr 20), some (vi (0 : Int)), none, none, none]) d_G_close_109 (Nat.le_of_ble_eq_true rfl) rfl rfl ?_
    exact v
  · have v := vf (Int.not_le.mp c); clear vt vf
    refine a_aload_n d_G_close_10 rfl ?_
    refine a_getAe fl_G_33 d_G_close_11 (beq_iff_eq.mpr (KNG_20 hM)) (KRG_20_12 hM) ?_
    refine a_iload_n d_G_close_14 rfl ?_
    obtain ⟨c2, c3, v⟩ := v
    refine a_aald d_G_close_15 ⟨by rw [KNG_30 hM]; decide, by rw [KNG_30 hM]; decide⟩ c2 (lt_len (NNG_30 hM) c3) ?_
    refine a_iconst d_G_close_16 ⟨by decide, by decide⟩ ?_
    refine b_callS (as := [vr (xR h 30 (x1).toNat), vi (0 : Int)]) (st := []) (kc1 := 0) (ks1 := 0) (kc2 := kc) (ks2 := ks) (d' := d) ml_G_127 rfl d_G_close_17 rfl rfl (Nat.le_of_ble_eq_true rfl) rfl (Nat.le_refl _) (by omega) (by omega) ?_
    refine Ev.mono v ?_
    intro u h1 v
    obtain ⟨rfl, v⟩ := kv_el v
    obtain ⟨hm1, v⟩ := v
    change Ev l D Y_G_close _ _ _ 20 [some (vr 20), some (vi x1), none, none, none] [] _ _
    refine a_aload_n d_G_close_20 rfl ?_
    refine a_getAe fl_G_17 d_G_close_21 (beq_iff_eq.mpr (KNG_20 hm1)) (KRG_20_2 hm1) ?_
    refine a_iload_n d_G_close_24 rfl ?_
    obtain ⟨c5, c6, v⟩ := v
    refine a_aald d_G_close_25 ⟨by rw [KNG_22 hm1]; decide, by rw [KNG_22 hm1]; decide⟩ c5 (lt_len (NNG_22 hm1) c6) ?_
    refine a_astore_n (L' := [some (vr 20), some (vi x1), some (vr (xR h1 22 (x1).toNat)), none, none]) d_G_close_26 (Nat.le_of_ble_eq_true rfl) rfl rfl ?_
    refine a_iconst d_G_close_27 ⟨by decide, by decide⟩ ?_
    refine a_istore_n (L' := [some (vr 20), some (vi x1), some (vr (xR h1 22 (x1).toNat)), some (vi (0 : Int)), none]) d_G_close_28 (Nat.le_of_ble_eq_true rfl) rfl rfl ?_
    exact v
theorem g_G_close_110 {l : Launch} {D : DD} {d kc ks : Nat} {h : Hp} {Φ : Option AV → Hp → Prop} {x1 : Int} (hM : GS h) (v : (x1 ≥ xI h 20 3 → (Φ none h)) ∧ (x1 < xI h 20 3 → (Ev l D Y_G_close (d + 1) kc ks 120 [some (vr 20), some (vi x1), some (vi (0 : Int)), none, none] [] h Φ))) : Ev l D Y_G_close (d + 1) kc ks 110 [some (vr 20), some (vi x1), none, none, none] [] h Φ := by
  refine a_iload_n d_G_close_110 rfl ?_
  refine a_aload_n d_G_close_111 rfl ?_
  refine a_getI fl_G_133 d_G_close_112 (beq_iff_eq.mpr (KNG_20 hM)) ?_
  obtain ⟨vt, vf⟩ := v
  refine a_icmp_ge (tgt := 186) d_G_close_115 (by decide) (fun c => ?_) (fun c => ?_)
  · have v := vt (c); clear vt vf
    exact a_vret d_G_close_186 rfl v
  · have v := vf (Int.not_le.mp c); clear vt vf
    refine a_iconst d_G_close_118 ⟨by decide, by decide⟩ ?_
    refine a_istore_n (L' := [some (vr 20), some (vi x1), some (vi (0 : Int)), none, none]) d_G_close_119 (Nat.le_of_ble_eq_true rfl) rfl rfl ?_
    exact v
theorem g_G_close_29 {l : Launch} {D : DD} {d kc ks : Nat} {h : Hp} {Φ : Option AV → Hp → Prop} {x1 : Int} {x2 : Nat} {x3 : Int} (hM : GS h) (v : xK h x2 = 4 ∧ ((x3 ≥ xI h x2 5 → (Ev l D Y_G_close (d + 1) kc ks 2 [some (vr 20), some (vi (wr (x1 + (1 : Int)))), none, none, none] [] h Φ)) ∧ (x3 < xI h x2 5 → (xK h x2 = 4 ∧ ((xI h x2 7 = 0 → (Ev l D Y_G_close (d + 1) kc ks 2 [some (vr 20), some (vi (wr (x1 + (1 : Int)))), none, none, none] [] h Φ)) ∧ (¬ xI h x2 7 = 0 → (xK h x2 = 4 ∧ ((22 ≤ xK h (xR h x2 4) ∧ xK h (xR h x2 4) ≤ 27) ∧ 0 ≤ x3 ∧ x3 < xN h (xR h x2 4) ∧ (opk (xK h (xR h (xR h x2 4) (x3).toNat)) = true ∧ Ev l D (mt_Op_judge_Y (xK h (xR h (xR h x2 4) (x3).toNat))) d 0 0 0 (enL (mt_Op_judge_Y (xK h (xR h (xR h x2 4) (x3).toNat))).2.2.1 [vr (xR h (xR h x2 4) (x3).toNat), vr 20]) [] h (kv (fun h1 => GS h1 ∧ (Ev l D Y_G_close (d + 1) kc ks 57 [some (vr 20), some (vi x1), some (vr x2), some (vi x3), some (vi (0 : Int))] [] h1 Φ)))))))))))) : Ev l D Y_G_close (d + 1) kc ks 29 [some (vr 20), some (vi x1), some (vr x2), some (vi x3), none] [] h Φ := by
  refine a_iload_n d_G_close_29 rfl ?_
  refine a_aload_n d_G_close_30 rfl ?_
  obtain ⟨c1, v⟩ := v
  refine a_getIN fl_G_142 d_G_close_31 (beq_iff_eq.mpr c1) ?_
  obtain ⟨vt, vf⟩ := v
  refine a_icmp_ge (tgt := 102) d_G_close_34 (by decide) (fun c => ?_) (fun c => ?_)
  · have v := vt (c); clear vt vf
    refine a_iinc (L' := [some (vr 20), some (vi (wr (x1 + (1 : Int)))), some (vr x2), some (vi x3), none]) d_G_close_102 rfl (Nat.le_of_ble_eq_true rfl) rfl rfl ?_
    refine a_goto (tgt := 2) d_G_close_105 (by decide) ?_
    exact Ev.weak v ⟨rfl, rfl, trivial⟩
  · have v := vf (Int.not_le.mp c); clear vt vf
    refine a_aload_n d_G_close_37 rfl ?_
    obtain ⟨c2, v⟩ := v
    refine a_getZN fl_G_139 d_G_close_38 (beq_iff_eq.mpr c2) ?_
    obtain ⟨vt, vf⟩ := v
    refine a_if_eq (tgt := 102) d_G_close_41 (by decide) (fun c => ?_) (fun c => ?_)
    · have v := vt (c); clear vt vf
      refine a_iinc (L' := [some (vr 20), some (vi (wr (x1 + (1 : Int)))), some (vr x2), some (vi x3), none]) d_G_close_102 rfl (Nat.le_of_ble_eq_true rfl) rfl rfl ?_
      refine a_goto (tgt := 2) d_G_close_105 (by decide) ?_
      exact Ev.weak v ⟨rfl, rfl, trivial⟩
    · have v := vf (c); clear vt vf
      refine a_aload_n d_G_close_44 rfl ?_
      obtain ⟨c3, v⟩ := v
      refine a_getAN fl_G_145 d_G_close_45 (beq_iff_eq.mpr c3) ?_
      refine a_iload_n d_G_close_48 rfl ?_
      obtain ⟨c4, c5, c6, v⟩ := v
      refine a_aald d_G_close_49 c4 c5 c6 ?_
      refine a_aload_n d_G_close_50 rfl ?_
      obtain ⟨c7, v⟩ := v
      refine b_callU (as := [vr 20]) (b := (xR h (xR h x2 4) (x3).toNat)) (st := []) (kc1 := 0) (ks1 := 0) (kc2 := kc) (ks2 := ks) (d' := d) ml_G_159 mt_Op_judge rfl d_G_close_51 rfl rfl (fun kd hq => by rcases opk_cases hq with rfl | rfl | rfl | rfl | rfl | rfl | rfl <;> exact Nat.le_of_ble_eq_true rfl) (Nat.le_refl _) (by omega) (by omega) c7 ?_
      refine Ev.mono v ?_
      intro u h1 v
      obtain ⟨rfl, v⟩ := kv_el v
      obtain ⟨hm1, v⟩ := v
      change Ev l D Y_G_close _ _ _ 54 [some (vr 20), some (vi x1), some (vr x2), some (vi x3), none] [] _ _
      refine a_iconst d_G_close_54 ⟨by decide, by decide⟩ ?_
      refine a_istore (L' := [some (vr 20), some (vi x1), some (vr x2), some (vi x3), some (vi (0 : Int))]) d_G_close_55 (Nat.le_of_ble_eq_true rfl) rfl rfl ?_
      exact v
theorem g_G_close_120 {l : Launch} {D : DD} {d kc ks : Nat} {h : Hp} {Φ : Option AV → Hp → Prop} {x1 : Int} {x2 : Int} (hM : GS h) (v : (x2 ≥ xI h 20 3 → (Ev l D Y_G_close (d + 1) kc ks 110 [some (vr 20), some (vi (wr (x1 + (1 : Int)))), none, none, none] [] h Φ)) ∧ (x2 < xI h 20 3 → (Ev l D Y_G_close (d + 1) kc ks 130 [some (vr 20), some (vi x1), some (vi x2), some (vi (0 : Int)), none] [] h Φ))) : Ev l D Y_G_close (d + 1) kc ks 120 [some (vr 20), some (vi x1), some (vi x2), none, none] [] h Φ := by
  refine a_iload_n d_G_close_120 rfl ?_
  refine a_aload_n d_G_close_121 rfl ?_
  refine a_getI fl_G_133 d_G_close_122 (beq_iff_eq.mpr (KNG_20 hM)) ?_
  obtain ⟨vt, vf⟩ := v
  refine a_icmp_ge (tgt := 180) d_G_close_125 (by decide) (fun c => ?_) (fun c => ?_)
  · have v := vt (c); clear vt vf
    refine a_iinc (L' := [some (vr 20), some (vi (wr (x1 + (1 : Int)))), some (vi x2), none, none]) d_G_close_180 rfl (Nat.le_of_ble_eq_true rfl) rfl rfl ?_
    refine a_goto (tgt := 110) d_G_close_183 (by decide) ?_
    exact Ev.weak v ⟨rfl, rfl, trivial⟩
  · have v := vf (Int.not_le.mp c); clear vt vf
    refine a_iconst d_G_close_128 ⟨by decide, by decide⟩ ?_
    refine a_istore_n (L' := [some (vr 20), some (vi x1), some (vi x2), some (vi (0 : Int)), none]) d_G_close_129 (Nat.le_of_ble_eq_true rfl) rfl rfl ?_
    exact v
theorem g_G_close_57 {l : Launch} {D : DD} {d kc ks : Nat} {h : Hp} {Φ : Option AV → Hp → Prop} {x1 : Int} {x2 : Nat} {x3 : Int} {x4 : Int} (hM : GS h) (v : (x4 ≥ xI h 20 3 → (Ev l D Y_G_close (d + 1) kc ks 29 [some (vr 20), some (vi x1), some (vr x2), some (vi (wr (x3 + (1 : Int)))), none] [] h Φ)) ∧ (x4 < xI h 20 3 → (0 ≤ x1 ∧ x1 < 48 ∧ (xK h (xR h 30 (x1).toNat) = 21 ∧ 0 ≤ x4 ∧ x4 < xN h (xR h 30 (x1).toNat) ∧ (xK h x2 = 4 ∧ ((22 ≤ xK h (xR h x2 4) ∧ xK h (xR h x2 4) ≤ 27) ∧ 0 ≤ x3 ∧ x3 < xN h (xR h x2 4) ∧ (opk (xK h (xR h (xR h x2 4) (x3).toNat)) = true ∧ (xK h (xR h (xR h (xR h x2 4) (x3).toNat) 2) = 21 ∧ 0 ≤ x4 ∧ x4 < xN h (xR h (xR h (xR h x2 4) (x3).toNat) 2) ∧ (xK h (xR h 30 (x1).toNat) = 21 ∧ 16 ≤ xR h 30 (x1).toNat ∧ 0 ≤ x4 ∧ x4 < xN h (xR h 30 (x1).toNat) ∧ (iorV (xI h (xR h 30 (x1).toNat) (x4).toNat) (xI h (xR h (xR h (xR h x2 4) (x3).toNat) 2) (x4).toNat) = 0 ∨ iorV (xI h (xR h 30 (x1).toNat) (x4).toNat) (xI h (xR h (xR h (xR h x2 4) (x3).toNat) 2) (x4).toNat) = 1) ∧ (∀ h1 : Hp, h1 = sI h (xR h 30 (x1).toNat) (x4).toNat (iorV (xI h (xR h 30 (x1).toNat) (x4).toNat) (xI h (xR h (xR h (xR h x2 4) (x3).toNat) 2) (x4).toNat)) → (Ev l D Y_G_close (d + 1) kc ks 57 [some (vr 20), some (vi x1), some (vr x2), some (vi x3), some (vi (wr (x4 + (1 : Int))))] [] h1 Φ))))))))))) : Ev l D Y_G_close (d + 1) kc ks 57 [some (vr 20), some (vi x1), some (vr x2), some (vi x3), some (vi x4)] [] h Φ := by
  refine a_iload d_G_close_57 rfl ?_
  refine a_aload_n d_G_close_59 rfl ?_
  refine a_getI fl_G_133 d_G_close_60 (beq_iff_eq.mpr (KNG_20 hM)) ?_
  obtain ⟨vt, vf⟩ := v
  refine a_icmp_ge (tgt := 96) d_G_close_63 (by decide) (fun c => ?_) (fun c => ?_)
  · have v := vt (c); clear vt vf
    refine a_iinc (L' := [some (vr 20), some (vi x1), some (vr x2), some (vi (wr (x3 + (1 : Int)))), some (vi x4)]) d_G_close_96 rfl (Nat.le_of_ble_eq_true rfl) rfl rfl ?_
    refine a_goto (tgt := 29) d_G_close_99 (by decide) ?_
    exact Ev.weak v ⟨rfl, rfl, rfl, rfl, trivial⟩
  · have v := vf (Int.not_le.mp c); clear vt vf
    refine a_aload_n d_G_close_66 rfl ?_
    refine a_getAe fl_G_33 d_G_close_67 (beq_iff_eq.mpr (KNG_20 hM)) (KRG_20_12 hM) ?_
    refine a_iload_n d_G_close_70 rfl ?_
    obtain ⟨c2, c3, v⟩ := v
    refine a_aald d_G_close_71 ⟨by rw [KNG_30 hM]; decide, by rw [KNG_30 hM]; decide⟩ c2 (lt_len (NNG_30 hM) c3) ?_
    refine a_iload d_G_close_72 rfl ?_
    refine a_dup2 d_G_close_74 rfl rfl ?_
    obtain ⟨c4, c5, c6, v⟩ := v
    refine a_zald d_G_close_75 c4 c5 c6 ?_
    refine a_aload_n d_G_close_76 rfl ?_
    obtain ⟨c7, v⟩ := v
    refine a_getAN fl_G_145 d_G_close_77 (beq_iff_eq.mpr c7) ?_
    refine a_iload_n d_G_close_80 rfl ?_
    obtain ⟨c8, c9, c10, v⟩ := v
    refine a_aald d_G_close_81 c8 c9 c10 ?_
    obtain ⟨c11, v⟩ := v
    refine a_getA fl_G_162 d_G_close_82 c11 ?_
    refine a_iload d_G_close_85 rfl ?_
    obtain ⟨c12, c13, c14, v⟩ := v
    refine a_zald d_G_close_87 c12 c13 c14 ?_
    refine a_ior d_G_close_88 ?_
    obtain ⟨c15, c16, c17, c18, c19, v⟩ := v
    have v := v _ rfl
    refine a_zast d_G_close_89 c15 c16 c17 c18 c19 ?_
    refine a_iinc (L' := [some (vr 20), some (vi x1), some (vr x2), some (vi x3), some (vi (wr (x4 + (1 : Int))))]) d_G_close_90 rfl (Nat.le_of_ble_eq_true rfl) rfl rfl ?_
    refine a_goto (tgt := 57) d_G_close_93 (by decide) ?_
    exact v
theorem g_G_close_130 {l : Launch} {D : DD} {d kc ks : Nat} {h : Hp} {Φ : Option AV → Hp → Prop} {x1 : Int} {x2 : Int} {x3 : Int} (hM : GS h) (v : (x3 ≥ xI h 20 3 → (Ev l D Y_G_close (d + 1) kc ks 120 [some (vr 20), some (vi x1), some (vi (wr (x2 + (1 : Int)))), none, none] [] h Φ)) ∧ (x3 < xI h 20 3 → (0 ≤ x2 ∧ x2 < 48 ∧ (xK h (xR h 30 (x2).toNat) = 21 ∧ 0 ≤ x1 ∧ x1 < xN h (xR h 30 (x2).toNat) ∧ ((xI h (xR h 30 (x2).toNat) (x1).toNat = 0 → (Ev l D Y_G_close (d + 1) kc ks 120 [some (vr 20), some (vi x1), some (vi (wr (x2 + (1 : Int)))), none, none] [] h Φ)) ∧ (¬ xI h (xR h 30 (x2).toNat) (x1).toNat = 0 → (0 ≤ x2 ∧ x2 < 48 ∧ (xK h (xR h 30 (x2).toNat) = 21 ∧ 0 ≤ x3 ∧ x3 < xN h (xR h 30 (x2).toNat) ∧ (0 ≤ x1 ∧ x1 < 48 ∧ (xK h (xR h 30 (x1).toNat) = 21 ∧ 0 ≤ x3 ∧ x3 < xN h (xR h 30 (x1).toNat) ∧ (xK h (xR h 30 (x2).toNat) = 21 ∧ 16 ≤ xR h 30 (x2).toNat ∧ 0 ≤ x3 ∧ x3 < xN h (xR h 30 (x2).toNat) ∧ (iorV (xI h (xR h 30 (x2).toNat) (x3).toNat) (xI h (xR h 30 (x1).toNat) (x3).toNat) = 0 ∨ iorV (xI h (xR h 30 (x2).toNat) (x3).toNat) (xI h (xR h 30 (x1).toNat) (x3).toNat) = 1) ∧ (∀ h1 : Hp, h1 = sI h (xR h 30 (x2).toNat) (x3).toNat (iorV (xI h (xR h 30 (x2).toNat) (x3).toNat) (xI h (xR h 30 (x1).toNat) (x3).toNat)) → (Ev l D Y_G_close (d + 1) kc ks 130 [some (vr 20), some (vi x1), some (vi x2), some (vi (wr (x3 + (1 : Int)))), none] [] h1 Φ))))))))))))) : Ev l D Y_G_close (d + 1) kc ks 130 [some (vr 20), some (vi x1), some (vi x2), some (vi x3), none] [] h Φ := by
  refine a_iload_n d_G_close_130 rfl ?_
  refine a_aload_n d_G_close_131 rfl ?_
  refine a_getI fl_G_133 d_G_close_132 (beq_iff_eq.mpr (KNG_20 hM)) ?_
  obtain ⟨vt, vf⟩ := v
  refine a_icmp_ge (tgt := 174) d_G_close_135 (by decide) (fun c => ?_) (fun c => ?_)
  · have v := vt (c); clear vt vf
    refine a_iinc (L' := [some (vr 20), some (vi x1), some (vi (wr (x2 + (1 : Int)))), some (vi x3), none]) d_G_close_174 rfl (Nat.le_of_ble_eq_true rfl) rfl rfl ?_
    refine a_goto (tgt := 120) d_G_close_177 (by decide) ?_
    exact Ev.weak v ⟨rfl, rfl, rfl, trivial⟩
  · have v := vf (Int.not_le.mp c); clear vt vf
    refine a_aload_n d_G_close_138 rfl ?_
    refine a_getAe fl_G_33 d_G_close_139 (beq_iff_eq.mpr (KNG_20 hM)) (KRG_20_12 hM) ?_
    refine a_iload_n d_G_close_142 rfl ?_
    obtain ⟨c2, c3, v⟩ := v
    refine a_aald d_G_close_143 ⟨by rw [KNG_30 hM]; decide, by rw [KNG_30 hM]; decide⟩ c2 (lt_len (NNG_30 hM) c3) ?_
    refine a_iload_n d_G_close_144 rfl ?_
    obtain ⟨c4, c5, c6, v⟩ := v
    refine a_zald d_G_close_145 c4 c5 c6 ?_
    obtain ⟨vt, vf⟩ := v
    refine a_if_eq (tgt := 174) d_G_close_146 (by decide) (fun c => ?_) (fun c => ?_)
    · have v := vt (c); clear vt vf
      refine a_iinc (L' := [some (vr 20), some (vi x1), some (vi (wr (x2 + (1 : Int)))), some (vi x3), none]) d_G_close_174 rfl (Nat.le_of_ble_eq_true rfl) rfl rfl ?_
      refine a_goto (tgt := 120) d_G_close_177 (by decide) ?_
      exact Ev.weak v ⟨rfl, rfl, rfl, trivial⟩
    · have v := vf (c); clear vt vf
      refine a_aload_n d_G_close_149 rfl ?_
      refine a_getAe fl_G_33 d_G_close_150 (beq_iff_eq.mpr (KNG_20 hM)) (KRG_20_12 hM) ?_
      refine a_iload_n d_G_close_153 rfl ?_
      obtain ⟨c8, c9, v⟩ := v
      refine a_aald d_G_close_154 ⟨by rw [KNG_30 hM]; decide, by rw [KNG_30 hM]; decide⟩ c8 (lt_len (NNG_30 hM) c9) ?_
      refine a_iload_n d_G_close_155 rfl ?_
      refine a_dup2 d_G_close_156 rfl rfl ?_
      obtain ⟨c10, c11, c12, v⟩ := v
      refine a_zald d_G_close_157 c10 c11 c12 ?_
      refine a_aload_n d_G_close_158 rfl ?_
      refine a_getAe fl_G_33 d_G_close_159 (beq_iff_eq.mpr (KNG_20 hM)) (KRG_20_12 hM) ?_
      refine a_iload_n d_G_close_162 rfl ?_
      obtain ⟨c14, c15, v⟩ := v
      refine a_aald d_G_close_163 ⟨by rw [KNG_30 hM]; decide, by rw [KNG_30 hM]; decide⟩ c14 (lt_len (NNG_30 hM) c15) ?_
      refine a_iload_n d_G_close_164 rfl ?_
      obtain ⟨c16, c17, c18, v⟩ := v
      refine a_zald d_G_close_165 c16 c17 c18 ?_
      refine a_ior d_G_close_166 ?_
      obtain ⟨c19, c20, c21, c22, c23, v⟩ := v
      have v := v _ rfl
      refine a_zast d_G_close_167 c19 c20 c21 c22 c23 ?_
      refine a_iinc (L' := [some (vr 20), some (vi x1), some (vi x2), some (vi (wr (x3 + (1 : Int)))), none]) d_G_close_168 rfl (Nat.le_of_ble_eq_true rfl) rfl rfl ?_
      refine a_goto (tgt := 130) d_G_close_171 (by decide) ?_
      exact v
theorem d_G_calls_0 : decode Y_G_calls.2.1 0 = .ok (.iconst 0, 1) := by decide +kernel
theorem d_G_calls_1 : decode Y_G_calls.2.1 1 = .ok (.istore_n 3, 1) := by decide +kernel
theorem d_G_calls_2 : decode Y_G_calls.2.1 2 = .ok (.iconst 0, 1) := by decide +kernel
theorem d_G_calls_3 : decode Y_G_calls.2.1 3 = .ok (.istore 4, 2) := by decide +kernel
theorem d_G_calls_5 : decode Y_G_calls.2.1 5 = .ok (.iload 4, 2) := by decide +kernel
theorem d_G_calls_7 : decode Y_G_calls.2.1 7 = .ok (.aload_n 1, 1) := by decide +kernel
theorem d_G_calls_8 : decode Y_G_calls.2.1 8 = .ok (.getfield 142, 3) := by decide +kernel
theorem d_G_calls_11 : decode Y_G_calls.2.1 11 = .ok (.if_icmp .ge 33, 3) := by decide +kernel
theorem d_G_calls_14 : decode Y_G_calls.2.1 14 = .ok (.aload_n 1, 1) := by decide +kernel
theorem d_G_calls_15 : decode Y_G_calls.2.1 15 = .ok (.getfield 139, 3) := by decide +kernel
theorem d_G_calls_18 : decode Y_G_calls.2.1 18 = .ok (.ifCond .eq 26, 3) := by decide +kernel
theorem d_G_calls_21 : decode Y_G_calls.2.1 21 = .ok (.iload_n 3, 1) := by decide +kernel
theorem d_G_calls_22 : decode Y_G_calls.2.1 22 = .ok (.ifCond .ne 22, 3) := by decide +kernel
theorem d_G_calls_25 : decode Y_G_calls.2.1 25 = .ok (.aload_n 1, 1) := by decide +kernel
theorem d_G_calls_26 : decode Y_G_calls.2.1 26 = .ok (.getfield 145, 3) := by decide +kernel
theorem d_G_calls_29 : decode Y_G_calls.2.1 29 = .ok (.iload 4, 2) := by decide +kernel
theorem d_G_calls_31 : decode Y_G_calls.2.1 31 = .ok (.aaload, 1) := by decide +kernel
theorem d_G_calls_32 : decode Y_G_calls.2.1 32 = .ok (.getfield 162, 3) := by decide +kernel
theorem d_G_calls_35 : decode Y_G_calls.2.1 35 = .ok (.iload_n 2, 1) := by decide +kernel
theorem d_G_calls_36 : decode Y_G_calls.2.1 36 = .ok (.baload, 1) := by decide +kernel
theorem d_G_calls_37 : decode Y_G_calls.2.1 37 = .ok (.istore_n 3, 1) := by decide +kernel
theorem d_G_calls_38 : decode Y_G_calls.2.1 38 = .ok (.iinc 4 1, 3) := by decide +kernel
theorem d_G_calls_41 : decode Y_G_calls.2.1 41 = .ok (.goto (-36), 3) := by decide +kernel
theorem d_G_calls_44 : decode Y_G_calls.2.1 44 = .ok (.iload_n 3, 1) := by decide +kernel
theorem d_G_calls_45 : decode Y_G_calls.2.1 45 = .ok (.ireturn, 1) := by decide +kernel
theorem g_G_calls_0 {l : Launch} {D : DD} {d kc ks : Nat} {h : Hp} {Φ : Option AV → Hp → Prop} {x1 : Nat} {x2 : Int} (hM : GS h) (v : Ev l D Y_G_calls d kc ks 5 [some (vr 20), some (vr x1), some (vi x2), some (vi (0 : Int)), some (vi (0 : Int))] [] h Φ) : Ev l D Y_G_calls d kc ks 0 [some (vr 20), some (vr x1), some (vi x2), none, none] [] h Φ := by
  refine a_iconst d_G_calls_0 ⟨by decide, by decide⟩ ?_
  refine a_istore_n (L' := [some (vr 20), some (vr x1), some (vi x2), some (vi (0 : Int)), none]) d_G_calls_1 (Nat.le_of_ble_eq_true rfl) rfl rfl ?_
  refine a_iconst d_G_calls_2 ⟨by decide, by decide⟩ ?_
  refine a_istore (L' := [some (vr 20), some (vr x1), some (vi x2), some (vi (0 : Int)), some (vi (0 : Int))]) d_G_calls_3 (Nat.le_of_ble_eq_true rfl) rfl rfl ?_
  exact v
theorem g_G_calls_5 {l : Launch} {D : DD} {d kc ks : Nat} {h : Hp} {Φ : Option AV → Hp → Prop} {x1 : Nat} {x2 : Int} {x3 : Int} {x4 : Int} (hM : GS h) (v : xK h x1 = 4 ∧ ((x4 ≥ xI h x1 5 → ((x3 = 0 ∨ x3 = 1) ∧ Φ (some (vi x3)) h)) ∧ (x4 < xI h x1 5 → (xK h x1 = 4 ∧ ((xI h x1 7 = 0 → ((x3 = 0 ∨ x3 = 1) ∧ Φ (some (vi x3)) h)) ∧ (¬ xI h x1 7 = 0 → ((¬ x3 = 0 → ((x3 = 0 ∨ x3 = 1) ∧ Φ (some (vi x3)) h)) ∧ (x3 = 0 → (xK h x1 = 4 ∧ ((22 ≤ xK h (xR h x1 4) ∧ xK h (xR h x1 4) ≤ 27) ∧ 0 ≤ x4 ∧ x4 < xN h (xR h x1 4) ∧ (opk (xK h (xR h (xR h x1 4) (x4).toNat)) = true ∧ (xK h (xR h (xR h (xR h x1 4) (x4).toNat) 2) = 21 ∧ 0 ≤ x2 ∧ x2 < xN h (xR h (xR h (xR h x1 4) (x4).toNat) 2) ∧ (Ev l D Y_G_calls d kc ks 5 [some (vr 20), some (vr x1), some (vi x2), some (vi (xI h (xR h (xR h (xR h x1 4) (x4).toNat) 2) (x2).toNat)), some (vi (wr (x4 + (1 : Int))))] [] h Φ))))))))))))) : Ev l D Y_G_calls d kc ks 5 [some (vr 20), some (vr x1), some (vi x2), some (vi x3), some (vi x4)] [] h Φ := by
  refine a_iload d_G_calls_5 rfl ?_
  refine a_aload_n d_G_calls_7 rfl ?_
  obtain ⟨c1, v⟩ := v
  refine a_getIN fl_G_142 d_G_calls_8 (beq_iff_eq.mpr c1) ?_
  obtain ⟨vt, vf⟩ := v
  refine a_icmp_ge (tgt := 44) d_G_calls_11 (by decide) (fun c => ?_) (fun c => ?_)
  · have v := vt (c); clear vt vf
    refine a_iload_n d_G_calls_44 rfl ?_
    exact a_zret d_G_calls_45 rfl v.1 v.2
  · have v := vf (Int.not_le.mp c); clear vt vf
    refine a_aload_n d_G_calls_14 rfl ?_
    obtain ⟨c2, v⟩ := v
    refine a_getZN fl_G_139 d_G_calls_15 (beq_iff_eq.mpr c2) ?_
    obtain ⟨vt, vf⟩ := v
    refine a_if_eq (tgt := 44) d_G_calls_18 (by decide) (fun c => ?_) (fun c => ?_)
    · have v := vt (c); clear vt vf
      refine a_iload_n d_G_calls_44 rfl ?_
      exact a_zret d_G_calls_45 rfl v.1 v.2
    · have v := vf (c); clear vt vf
      refine a_iload_n d_G_calls_21 rfl ?_
      obtain ⟨vt, vf⟩ := v
      refine a_if_ne (tgt := 44) d_G_calls_22 (by decide) (fun c => ?_) (fun c => ?_)
      · have v := vt (c); clear vt vf
        refine a_iload_n d_G_calls_44 rfl ?_
        exact a_zret d_G_calls_45 rfl v.1 v.2
      · have v := vf (Classical.not_not.mp c); clear vt vf
        refine a_aload_n d_G_calls_25 rfl ?_
        obtain ⟨c3, v⟩ := v
        refine a_getAN fl_G_145 d_G_calls_26 (beq_iff_eq.mpr c3) ?_
        refine a_iload d_G_calls_29 rfl ?_
        obtain ⟨c4, c5, c6, v⟩ := v
        refine a_aald d_G_calls_31 c4 c5 c6 ?_
        obtain ⟨c7, v⟩ := v
        refine a_getA fl_G_162 d_G_calls_32 c7 ?_
        refine a_iload_n d_G_calls_35 rfl ?_
        obtain ⟨c8, c9, c10, v⟩ := v
        refine a_zald d_G_calls_36 c8 c9 c10 ?_
        refine a_istore_n (L' := [some (vr 20), some (vr x1), some (vi x2), some (vi (xI h (xR h (xR h (xR h x1 4) (x4).toNat) 2) (x2).toNat)), some (vi x4)]) d_G_calls_37 (Nat.le_of_ble_eq_true rfl) rfl rfl ?_
        refine a_iinc (L' := [some (vr 20), some (vr x1), some (vi x2), some (vi (xI h (xR h (xR h (xR h x1 4) (x4).toNat) 2) (x2).toNat)), some (vi (wr (x4 + (1 : Int))))]) d_G_calls_38 rfl (Nat.le_of_ble_eq_true rfl) rfl rfl ?_
        refine a_goto (tgt := 5) d_G_calls_41 (by decide) ?_
        exact v
theorem d_G_ring_0 : decode Y_G_ring.2.1 0 = .ok (.iconst 0, 1) := by decide +kernel
theorem d_G_ring_1 : decode Y_G_ring.2.1 1 = .ok (.istore_n 2, 1) := by decide +kernel
theorem d_G_ring_2 : decode Y_G_ring.2.1 2 = .ok (.iconst 0, 1) := by decide +kernel
theorem d_G_ring_3 : decode Y_G_ring.2.1 3 = .ok (.istore_n 3, 1) := by decide +kernel
theorem d_G_ring_4 : decode Y_G_ring.2.1 4 = .ok (.iload_n 3, 1) := by decide +kernel
theorem d_G_ring_5 : decode Y_G_ring.2.1 5 = .ok (.aload_n 0, 1) := by decide +kernel
theorem d_G_ring_6 : decode Y_G_ring.2.1 6 = .ok (.getfield 133, 3) := by decide +kernel
theorem d_G_ring_9 : decode Y_G_ring.2.1 9 = .ok (.if_icmp .ge 39, 3) := by decide +kernel
theorem d_G_ring_12 : decode Y_G_ring.2.1 12 = .ok (.iload_n 2, 1) := by decide +kernel
theorem d_G_ring_13 : decode Y_G_ring.2.1 13 = .ok (.aload_n 0, 1) := by decide +kernel
theorem d_G_ring_14 : decode Y_G_ring.2.1 14 = .ok (.getfield 33, 3) := by decide +kernel
theorem d_G_ring_17 : decode Y_G_ring.2.1 17 = .ok (.iload_n 1, 1) := by decide +kernel
theorem d_G_ring_18 : decode Y_G_ring.2.1 18 = .ok (.aaload, 1) := by decide +kernel
theorem d_G_ring_19 : decode Y_G_ring.2.1 19 = .ok (.iload_n 3, 1) := by decide +kernel
theorem d_G_ring_20 : decode Y_G_ring.2.1 20 = .ok (.baload, 1) := by decide +kernel
theorem d_G_ring_21 : decode Y_G_ring.2.1 21 = .ok (.ifCond .eq 18, 3) := by decide +kernel
theorem d_G_ring_24 : decode Y_G_ring.2.1 24 = .ok (.aload_n 0, 1) := by decide +kernel
theorem d_G_ring_25 : decode Y_G_ring.2.1 25 = .ok (.getfield 33, 3) := by decide +kernel
theorem d_G_ring_28 : decode Y_G_ring.2.1 28 = .ok (.iload_n 3, 1) := by decide +kernel
theorem d_G_ring_29 : decode Y_G_ring.2.1 29 = .ok (.aaload, 1) := by decide +kernel
theorem d_G_ring_30 : decode Y_G_ring.2.1 30 = .ok (.iload_n 1, 1) := by decide +kernel
theorem d_G_ring_31 : decode Y_G_ring.2.1 31 = .ok (.baload, 1) := by decide +kernel
theorem d_G_ring_32 : decode Y_G_ring.2.1 32 = .ok (.ifCond .eq 7, 3) := by decide +kernel
theorem d_G_ring_35 : decode Y_G_ring.2.1 35 = .ok (.iconst 1, 1) := by decide +kernel
theorem d_G_ring_36 : decode Y_G_ring.2.1 36 = .ok (.goto 4, 3) := by decide +kernel
theorem d_G_ring_39 : decode Y_G_ring.2.1 39 = .ok (.iconst 0, 1) := by decide +kernel
theorem d_G_ring_40 : decode Y_G_ring.2.1 40 = .ok (.iadd, 1) := by decide +kernel
theorem d_G_ring_41 : decode Y_G_ring.2.1 41 = .ok (.istore_n 2, 1) := by decide +kernel
theorem d_G_ring_42 : decode Y_G_ring.2.1 42 = .ok (.iinc 3 1, 3) := by decide +kernel
theorem d_G_ring_45 : decode Y_G_ring.2.1 45 = .ok (.goto (-41), 3) := by decide +kernel
theorem d_G_ring_48 : decode Y_G_ring.2.1 48 = .ok (.iload_n 2, 1) := by decide +kernel
theorem d_G_ring_49 : decode Y_G_ring.2.1 49 = .ok (.ireturn, 1) := by decide +kernel
theorem g_G_ring_0 {l : Launch} {D : DD} {d kc ks : Nat} {h : Hp} {Φ : Option AV → Hp → Prop} {x1 : Int} (hM : GS h) (v : Ev l D Y_G_ring d kc ks 4 [some (vr 20), some (vi x1), some (vi (0 : Int)), some (vi (0 : Int))] [] h Φ) : Ev l D Y_G_ring d kc ks 0 [some (vr 20), some (vi x1), none, none] [] h Φ := by
  refine a_iconst d_G_ring_0 ⟨by decide, by decide⟩ ?_
  refine a_istore_n (L' := [some (vr 20), some (vi x1), some (vi (0 : Int)), none]) d_G_ring_1 (Nat.le_of_ble_eq_true rfl) rfl rfl ?_
  refine a_iconst d_G_ring_2 ⟨by decide, by decide⟩ ?_
  refine a_istore_n (L' := [some (vr 20), some (vi x1), some (vi (0 : Int)), some (vi (0 : Int))]) d_G_ring_3 (Nat.le_of_ble_eq_true rfl) rfl rfl ?_
  exact v
theorem g_G_ring_4 {l : Launch} {D : DD} {d kc ks : Nat} {h : Hp} {Φ : Option AV → Hp → Prop} {x1 : Int} {x2 : Int} {x3 : Int} (hM : GS h) (v : (x3 ≥ xI h 20 3 → (Φ (some (vi x2)) h)) ∧ (x3 < xI h 20 3 → (0 ≤ x1 ∧ x1 < 48 ∧ (xK h (xR h 30 (x1).toNat) = 21 ∧ 0 ≤ x3 ∧ x3 < xN h (xR h 30 (x1).toNat) ∧ ((xI h (xR h 30 (x1).toNat) (x3).toNat = 0 → (Ev l D Y_G_ring d kc ks 40 [some (vr 20), some (vi x1), some (vi x2), some (vi x3)] [vi (0 : Int), vi x2] h Φ)) ∧ (¬ xI h (xR h 30 (x1).toNat) (x3).toNat = 0 → (0 ≤ x3 ∧ x3 < 48 ∧ (xK h (xR h 30 (x3).toNat) = 21 ∧ 0 ≤ x1 ∧ x1 < xN h (xR h 30 (x3).toNat) ∧ ((xI h (xR h 30 (x3).toNat) (x1).toNat = 0 → (Ev l D Y_G_ring d kc ks 40 [some (vr 20), some (vi x1), some (vi x2), some (vi x3)] [vi (0 : Int), vi x2] h Φ)) ∧ (¬ xI h (xR h 30 (x3).toNat) (x1).toNat = 0 → (Ev l D Y_G_ring d kc ks 40 [some (vr 20), some (vi x1), some (vi x2), some (vi x3)] [vi (1 : Int), vi x2] h Φ))))))))))) : Ev l D Y_G_ring d kc ks 4 [some (vr 20), some (vi x1), some (vi x2), some (vi x3)] [] h Φ := by
  refine a_iload_n d_G_ring_4 rfl ?_
  refine a_aload_n d_G_ring_5 rfl ?_
  refine a_getI fl_G_133 d_G_ring_6 (beq_iff_eq.mpr (KNG_20 hM)) ?_
  obtain ⟨vt, vf⟩ := v
  refine a_icmp_ge (tgt := 48) d_G_ring_9 (by decide) (fun c => ?_) (fun c => ?_)
  · have v := vt (c); clear vt vf
    refine a_iload_n d_G_ring_48 rfl ?_
    exact a_iret d_G_ring_49 rfl v
  · have v := vf (Int.not_le.mp c); clear vt vf
    refine a_iload_n d_G_ring_12 rfl ?_
    refine a_aload_n d_G_ring_13 rfl ?_
    refine a_getAe fl_G_33 d_G_ring_14 (beq_iff_eq.mpr (KNG_20 hM)) (KRG_20_12 hM) ?_
    refine a_iload_n d_G_ring_17 rfl ?_
    obtain ⟨c2, c3, v⟩ := v
    refine a_aald d_G_ring_18 ⟨by rw [KNG_30 hM]; decide, by rw [KNG_30 hM]; decide⟩ c2 (lt_len (NNG_30 hM) c3) ?_
    refine a_iload_n d_G_ring_19 rfl ?_
    obtain ⟨c4, c5, c6, v⟩ := v
    refine a_zald d_G_ring_20 c4 c5 c6 ?_
    obtain ⟨vt, vf⟩ := v
    refine a_if_eq (tgt := 39) d_G_ring_21 (by decide) (fun c => ?_) (fun c => ?_)
    · have v := vt (c); clear vt vf
      refine a_iconst d_G_ring_39 ⟨by decide, by decide⟩ ?_
      exact v
    · have v := vf (c); clear vt vf
      refine a_aload_n d_G_ring_24 rfl ?_
      refine a_getAe fl_G_33 d_G_ring_25 (beq_iff_eq.mpr (KNG_20 hM)) (KRG_20_12 hM) ?_
      refine a_iload_n d_G_ring_28 rfl ?_
      obtain ⟨c8, c9, v⟩ := v
      refine a_aald d_G_ring_29 ⟨by rw [KNG_30 hM]; decide, by rw [KNG_30 hM]; decide⟩ c8 (lt_len (NNG_30 hM) c9) ?_
      refine a_iload_n d_G_ring_30 rfl ?_
      obtain ⟨c10, c11, c12, v⟩ := v
      refine a_zald d_G_ring_31 c10 c11 c12 ?_
      obtain ⟨vt, vf⟩ := v
      refine a_if_eq (tgt := 39) d_G_ring_32 (by decide) (fun c => ?_) (fun c => ?_)
      · have v := vt (c); clear vt vf
        refine a_iconst d_G_ring_39 ⟨by decide, by decide⟩ ?_
        exact v
      · have v := vf (c); clear vt vf
        refine a_iconst d_G_ring_35 ⟨by decide, by decide⟩ ?_
        refine a_goto (tgt := 40) d_G_ring_36 (by decide) ?_
        exact v
theorem g_G_ring_40 {l : Launch} {D : DD} {d kc ks : Nat} {h : Hp} {Φ : Option AV → Hp → Prop} {x1 : Int} {x2 : Int} {x3 : Int} {y0 : Int} {y1 : Int} (hM : GS h) (v : Ev l D Y_G_ring d kc ks 4 [some (vr 20), some (vi x1), some (vi (wr (y1 + y0))), some (vi (wr (x3 + (1 : Int))))] [] h Φ) : Ev l D Y_G_ring d kc ks 40 [some (vr 20), some (vi x1), some (vi x2), some (vi x3)] [vi y0, vi y1] h Φ := by
  refine a_iadd d_G_ring_40 ?_
  refine a_istore_n (L' := [some (vr 20), some (vi x1), some (vi (wr (y1 + y0))), some (vi x3)]) d_G_ring_41 (Nat.le_of_ble_eq_true rfl) rfl rfl ?_
  refine a_iinc (L' := [some (vr 20), some (vi x1), some (vi (wr (y1 + y0))), some (vi (wr (x3 + (1 : Int))))]) d_G_ring_42 rfl (Nat.le_of_ble_eq_true rfl) rfl rfl ?_
  refine a_goto (tgt := 4) d_G_ring_45 (by decide) ?_
  exact v
theorem d_G_count_0 : decode Y_G_count.2.1 0 = .ok (.aload_n 0, 1) := by decide +kernel
theorem d_G_count_1 : decode Y_G_count.2.1 1 = .ok (.invokevirtual 260, 3) := by decide +kernel
theorem d_G_count_4 : decode Y_G_count.2.1 4 = .ok (.iconst 0, 1) := by decide +kernel
theorem d_G_count_5 : decode Y_G_count.2.1 5 = .ok (.istore_n 2, 1) := by decide +kernel
theorem d_G_count_6 : decode Y_G_count.2.1 6 = .ok (.iload_n 1, 1) := by decide +kernel
theorem d_G_count_7 : decode Y_G_count.2.1 7 = .ok (.tableswitch 152 0 9 #[53, 58, 63, 120, 120, 68, 68, 120, 120, 120], 53) := by decide +kernel
theorem d_G_count_60 : decode Y_G_count.2.1 60 = .ok (.aload_n 0, 1) := by decide +kernel
theorem d_G_count_61 : decode Y_G_count.2.1 61 = .ok (.getfield 55, 3) := by decide +kernel
theorem d_G_count_64 : decode Y_G_count.2.1 64 = .ok (.ireturn, 1) := by decide +kernel
theorem d_G_count_65 : decode Y_G_count.2.1 65 = .ok (.aload_n 0, 1) := by decide +kernel
theorem d_G_count_66 : decode Y_G_count.2.1 66 = .ok (.getfield 133, 3) := by decide +kernel
theorem d_G_count_69 : decode Y_G_count.2.1 69 = .ok (.ireturn, 1) := by decide +kernel
theorem d_G_count_70 : decode Y_G_count.2.1 70 = .ok (.aload_n 0, 1) := by decide +kernel
theorem d_G_count_71 : decode Y_G_count.2.1 71 = .ok (.getfield 256, 3) := by decide +kernel
theorem d_G_count_74 : decode Y_G_count.2.1 74 = .ok (.ireturn, 1) := by decide +kernel
theorem d_G_count_75 : decode Y_G_count.2.1 75 = .ok (.iconst 0, 1) := by decide +kernel
theorem d_G_count_76 : decode Y_G_count.2.1 76 = .ok (.istore_n 3, 1) := by decide +kernel
theorem d_G_count_77 : decode Y_G_count.2.1 77 = .ok (.iload_n 3, 1) := by decide +kernel
theorem d_G_count_78 : decode Y_G_count.2.1 78 = .ok (.aload_n 0, 1) := by decide +kernel
theorem d_G_count_79 : decode Y_G_count.2.1 79 = .ok (.getfield 55, 3) := by decide +kernel
theorem d_G_count_82 : decode Y_G_count.2.1 82 = .ok (.if_icmp .ge 43, 3) := by decide +kernel
theorem d_G_count_85 : decode Y_G_count.2.1 85 = .ok (.iload_n 2, 1) := by decide +kernel
theorem d_G_count_86 : decode Y_G_count.2.1 86 = .ok (.iload_n 1, 1) := by decide +kernel
theorem d_G_count_87 : decode Y_G_count.2.1 87 = .ok (.iconst 5, 1) := by decide +kernel
theorem d_G_count_88 : decode Y_G_count.2.1 88 = .ok (.if_icmp .ne 15, 3) := by decide +kernel
theorem d_G_count_91 : decode Y_G_count.2.1 91 = .ok (.aload_n 0, 1) := by decide +kernel
theorem d_G_count_92 : decode Y_G_count.2.1 92 = .ok (.getfield 21, 3) := by decide +kernel
theorem d_G_count_95 : decode Y_G_count.2.1 95 = .ok (.iload_n 3, 1) := by decide +kernel
theorem d_G_count_96 : decode Y_G_count.2.1 96 = .ok (.baload, 1) := by decide +kernel
theorem d_G_count_97 : decode Y_G_count.2.1 97 = .ok (.ifCond .eq 19, 3) := by decide +kernel
theorem d_G_count_100 : decode Y_G_count.2.1 100 = .ok (.goto 12, 3) := by decide +kernel
theorem d_G_count_103 : decode Y_G_count.2.1 103 = .ok (.aload_n 0, 1) := by decide +kernel
theorem d_G_count_104 : decode Y_G_count.2.1 104 = .ok (.getfield 25, 3) := by decide +kernel
theorem d_G_count_107 : decode Y_G_count.2.1 107 = .ok (.iload_n 3, 1) := by decide +kernel
theorem d_G_count_108 : decode Y_G_count.2.1 108 = .ok (.baload, 1) := by decide +kernel
theorem d_G_count_109 : decode Y_G_count.2.1 109 = .ok (.ifCond .eq 7, 3) := by decide +kernel
theorem d_G_count_112 : decode Y_G_count.2.1 112 = .ok (.iconst 1, 1) := by decide +kernel
theorem d_G_count_113 : decode Y_G_count.2.1 113 = .ok (.goto 4, 3) := by decide +kernel
theorem d_G_count_116 : decode Y_G_count.2.1 116 = .ok (.iconst 0, 1) := by decide +kernel
theorem d_G_count_117 : decode Y_G_count.2.1 117 = .ok (.iadd, 1) := by decide +kernel
theorem d_G_count_118 : decode Y_G_count.2.1 118 = .ok (.istore_n 2, 1) := by decide +kernel
theorem d_G_count_119 : decode Y_G_count.2.1 119 = .ok (.iinc 3 1, 3) := by decide +kernel
theorem d_G_count_122 : decode Y_G_count.2.1 122 = .ok (.goto (-45), 3) := by decide +kernel
theorem d_G_count_125 : decode Y_G_count.2.1 125 = .ok (.iload_n 2, 1) := by decide +kernel
theorem d_G_count_126 : decode Y_G_count.2.1 126 = .ok (.ireturn, 1) := by decide +kernel
theorem d_G_count_127 : decode Y_G_count.2.1 127 = .ok (.iconst 0, 1) := by decide +kernel
theorem d_G_count_128 : decode Y_G_count.2.1 128 = .ok (.istore_n 3, 1) := by decide +kernel
theorem d_G_count_129 : decode Y_G_count.2.1 129 = .ok (.iload_n 3, 1) := by decide +kernel
theorem d_G_count_130 : decode Y_G_count.2.1 130 = .ok (.aload_n 0, 1) := by decide +kernel
theorem d_G_count_131 : decode Y_G_count.2.1 131 = .ok (.getfield 133, 3) := by decide +kernel
theorem d_G_count_134 : decode Y_G_count.2.1 134 = .ok (.if_icmp .ge 23, 3) := by decide +kernel
theorem d_G_count_137 : decode Y_G_count.2.1 137 = .ok (.iload_n 2, 1) := by decide +kernel
theorem d_G_count_138 : decode Y_G_count.2.1 138 = .ok (.aload_n 0, 1) := by decide +kernel
theorem d_G_count_139 : decode Y_G_count.2.1 139 = .ok (.aload_n 0, 1) := by decide +kernel
theorem d_G_count_140 : decode Y_G_count.2.1 140 = .ok (.getfield 17, 3) := by decide +kernel
theorem d_G_count_143 : decode Y_G_count.2.1 143 = .ok (.iload_n 3, 1) := by decide +kernel
theorem d_G_count_144 : decode Y_G_count.2.1 144 = .ok (.aaload, 1) := by decide +kernel
theorem d_G_count_145 : decode Y_G_count.2.1 145 = .ok (.iload_n 1, 1) := by decide +kernel
theorem d_G_count_146 : decode Y_G_count.2.1 146 = .ok (.invokevirtual 263, 3) := by decide +kernel
theorem d_G_count_149 : decode Y_G_count.2.1 149 = .ok (.iadd, 1) := by decide +kernel
theorem d_G_count_150 : decode Y_G_count.2.1 150 = .ok (.istore_n 2, 1) := by decide +kernel
theorem d_G_count_151 : decode Y_G_count.2.1 151 = .ok (.iinc 3 1, 3) := by decide +kernel
theorem d_G_count_154 : decode Y_G_count.2.1 154 = .ok (.goto (-25), 3) := by decide +kernel
theorem d_G_count_157 : decode Y_G_count.2.1 157 = .ok (.iload_n 2, 1) := by decide +kernel
theorem d_G_count_158 : decode Y_G_count.2.1 158 = .ok (.ireturn, 1) := by decide +kernel
theorem d_G_count_159 : decode Y_G_count.2.1 159 = .ok (.bipush (-102), 2) := by decide +kernel
theorem d_G_count_161 : decode Y_G_count.2.1 161 = .ok (.ireturn, 1) := by decide +kernel
theorem g_G_count_0 {l : Launch} {D : DD} {d kc ks : Nat} {h : Hp} {Φ : Option AV → Hp → Prop} {x1 : Int} (hM : GS h) (v : Ev l D Y_G_draw d 0 0 0 [some (vr 20), none, none, none, none] [] h (kv (fun h1 => GS h1 ∧ ((x1 = (0 : Int) → (Φ (some (vi (xI h1 20 1))) h1)) ∧ (x1 = (1 : Int) → (Φ (some (vi (xI h1 20 3))) h1)) ∧ (x1 = (2 : Int) → (Φ (some (vi (xI h1 20 4))) h1)) ∧ (x1 = (3 : Int) → (Ev l D Y_G_count (d + 1) kc ks 129 [some (vr 20), some (vi x1), some (vi (0 : Int)), some (vi (0 : Int))] [] h1 Φ)) ∧ (x1 = (4 : Int) → (Ev l D Y_G_count (d + 1) kc ks 129 [some (vr 20), some (vi x1), some (vi (0 : Int)), some (vi (0 : Int))] [] h1 Φ)) ∧ (x1 = (5 : Int) → (Ev l D Y_G_count (d + 1) kc ks 77 [some (vr 20), some (vi x1), some (vi (0 : Int)), some (vi (0 : Int))] [] h1 Φ)) ∧ (x1 = (6 : Int) → (Ev l D Y_G_count (d + 1) kc ks 77 [some (vr 20), some (vi x1), some (vi (0 : Int)), some (vi (0 : Int))] [] h1 Φ)) ∧ (x1 = (7 : Int) → (Ev l D Y_G_count (d + 1) kc ks 129 [some (vr 20), some (vi x1), some (vi (0 : Int)), some (vi (0 : Int))] [] h1 Φ)) ∧ (x1 = (8 : Int) → (Ev l D Y_G_count (d + 1) kc ks 129 [some (vr 20), some (vi x1), some (vi (0 : Int)), some (vi (0 : Int))] [] h1 Φ)) ∧ (x1 = (9 : Int) → (Ev l D Y_G_count (d + 1) kc ks 129 [some (vr 20), some (vi x1), some (vi (0 : Int)), some (vi (0 : Int))] [] h1 Φ)) ∧ (x1 < (0 : Int) ∨ (9 : Int) < x1 → (Φ (some (vi (-102 : Int))) h1)))))) : Ev l D Y_G_count (d + 1) kc ks 0 [some (vr 20), some (vi x1), none, none] [] h Φ := by
  refine a_aload_n d_G_count_0 rfl ?_
  refine b_callV (as := []) (b := 20) (st := []) (kd := 1) (kc1 := 0) (ks1 := 0) (kc2 := kc) (ks2 := ks) (d' := d) ml_G_260 rfl d_G_count_1 rfl rfl (Nat.le_of_ble_eq_true rfl) (by decide) rfl (Nat.le_refl _) (by omega) (by omega) (KNG_20 hM) ?_
  refine Ev.mono v ?_
  intro u h1 v
  obtain ⟨rfl, v⟩ := kv_el v
  obtain ⟨hm1, v⟩ := v
  change Ev l D Y_G_count _ _ _ 4 [some (vr 20), some (vi x1), none, none] [] _ _
  refine a_iconst d_G_count_4 ⟨by decide, by decide⟩ ?_
  refine a_istore_n (L' := [some (vr 20), some (vi x1), some (vi (0 : Int)), none]) d_G_count_5 (Nat.le_of_ble_eq_true rfl) rfl rfl ?_
  refine a_iload_n d_G_count_6 rfl ?_
  obtain ⟨v0, v1, v2, v3, v4, v5, v6, v7, v8, v9, vd⟩ := v
  refine a_tab (tgt := 159) [60, 65, 70, 127, 127, 75, 75, 127, 127, 127] d_G_count_7 (by decide) (by decide) (by decide) (fun c => ?_) (fun i t hi c => ?_)
  · have v := vd c; clear vd v0 v1 v2 v3 v4 v5 v6 v7 v8 v9
    refine a_bipush d_G_count_159 ⟨by decide, by decide⟩ (by decide) ?_
    exact a_iret d_G_count_161 rfl v
  · match i, hi, c with
    | 0, hi, c =>
      obtain rfl : 60 = t := Option.some.inj hi
      have v := v0 (by omega); clear vd v0 v1 v2 v3 v4 v5 v6 v7 v8 v9
      refine a_aload_n d_G_count_60 rfl ?_
      refine a_getI fl_G_55 d_G_count_61 (beq_iff_eq.mpr (KNG_20 hm1)) ?_
      exact a_iret d_G_count_64 rfl v
    | 1, hi, c =>
      obtain rfl : 65 = t := Option.some.inj hi
      have v := v1 (by omega); clear vd v0 v1 v2 v3 v4 v5 v6 v7 v8 v9
      refine a_aload_n d_G_count_65 rfl ?_
      refine a_getI fl_G_133 d_G_count_66 (beq_iff_eq.mpr (KNG_20 hm1)) ?_
      exact a_iret d_G_count_69 rfl v
    | 2, hi, c =>
      obtain rfl : 70 = t := Option.some.inj hi
      have v := v2 (by omega); clear vd v0 v1 v2 v3 v4 v5 v6 v7 v8 v9
      refine a_aload_n d_G_count_70 rfl ?_
      refine a_getI fl_G_256 d_G_count_71 (beq_iff_eq.mpr (KNG_20 hm1)) ?_
      exact a_iret d_G_count_74 rfl v
    | 3, hi, c =>
      obtain rfl : 127 = t := Option.some.inj hi
      have v := v3 (by omega); clear vd v0 v1 v2 v3 v4 v5 v6 v7 v8 v9
      refine a_iconst d_G_count_127 ⟨by decide, by decide⟩ ?_
      refine a_istore_n (L' := [some (vr 20), some (vi x1), some (vi (0 : Int)), some (vi (0 : Int))]) d_G_count_128 (Nat.le_of_ble_eq_true rfl) rfl rfl ?_
      exact v
    | 4, hi, c =>
      obtain rfl : 127 = t := Option.some.inj hi
      have v := v4 (by omega); clear vd v0 v1 v2 v3 v4 v5 v6 v7 v8 v9
      refine a_iconst d_G_count_127 ⟨by decide, by decide⟩ ?_
      refine a_istore_n (L' := [some (vr 20), some (vi x1), some (vi (0 : Int)), some (vi (0 : Int))]) d_G_count_128 (Nat.le_of_ble_eq_true rfl) rfl rfl ?_
      exact v
    | 5, hi, c =>
      obtain rfl : 75 = t := Option.some.inj hi
      have v := v5 (by omega); clear vd v0 v1 v2 v3 v4 v5 v6 v7 v8 v9
      refine a_iconst d_G_count_75 ⟨by decide, by decide⟩ ?_
      refine a_istore_n (L' := [some (vr 20), some (vi x1), some (vi (0 : Int)), some (vi (0 : Int))]) d_G_count_76 (Nat.le_of_ble_eq_true rfl) rfl rfl ?_
      exact v
    | 6, hi, c =>
      obtain rfl : 75 = t := Option.some.inj hi
      have v := v6 (by omega); clear vd v0 v1 v2 v3 v4 v5 v6 v7 v8 v9
      refine a_iconst d_G_count_75 ⟨by decide, by decide⟩ ?_
      refine a_istore_n (L' := [some (vr 20), some (vi x1), some (vi (0 : Int)), some (vi (0 : Int))]) d_G_count_76 (Nat.le_of_ble_eq_true rfl) rfl rfl ?_
      exact v
    | 7, hi, c =>
      obtain rfl : 127 = t := Option.some.inj hi
      have v := v7 (by omega); clear vd v0 v1 v2 v3 v4 v5 v6 v7 v8 v9
      refine a_iconst d_G_count_127 ⟨by decide, by decide⟩ ?_
      refine a_istore_n (L' := [some (vr 20), some (vi x1), some (vi (0 : Int)), some (vi (0 : Int))]) d_G_count_128 (Nat.le_of_ble_eq_true rfl) rfl rfl ?_
      exact v
    | 8, hi, c =>
      obtain rfl : 127 = t := Option.some.inj hi
      have v := v8 (by omega); clear vd v0 v1 v2 v3 v4 v5 v6 v7 v8 v9
      refine a_iconst d_G_count_127 ⟨by decide, by decide⟩ ?_
      refine a_istore_n (L' := [some (vr 20), some (vi x1), some (vi (0 : Int)), some (vi (0 : Int))]) d_G_count_128 (Nat.le_of_ble_eq_true rfl) rfl rfl ?_
      exact v
    | 9, hi, c =>
      obtain rfl : 127 = t := Option.some.inj hi
      have v := v9 (by omega); clear vd v0 v1 v2 v3 v4 v5 v6 v7 v8 v9
      refine a_iconst d_G_count_127 ⟨by decide, by decide⟩ ?_
      refine a_istore_n (L' := [some (vr 20), some (vi x1), some (vi (0 : Int)), some (vi (0 : Int))]) d_G_count_128 (Nat.le_of_ble_eq_true rfl) rfl rfl ?_
      exact v
    | i + 10, hi, c => exact absurd hi (by simp)
theorem g_G_count_129 {l : Launch} {D : DD} {d kc ks : Nat} {h : Hp} {Φ : Option AV → Hp → Prop} {x1 : Int} {x2 : Int} {x3 : Int} (hM : GS h) (v : (x3 ≥ xI h 20 3 → (Φ (some (vi x2)) h)) ∧ (x3 < xI h 20 3 → (0 ≤ x3 ∧ x3 < 48 ∧ (Ev l D Y_G_countOf d 0 0 0 [some (vr 20), some (vr (xR h 22 (x3).toNat)), some (vi x1), none, none, none] [] h (ki (fun r1 h1 => GS h1 ∧ (Ev l D Y_G_count (d + 1) kc ks 129 [some (vr 20), some (vi x1), some (vi (wr (x2 + r1))), some (vi (wr (x3 + (1 : Int))))] [] h1 Φ))))))) : Ev l D Y_G_count (d + 1) kc ks 129 [some (vr 20), some (vi x1), some (vi x2), some (vi x3)] [] h Φ := by
  refine a_iload_n d_G_count_129 rfl ?_
  refine a_aload_n d_G_count_130 rfl ?_
  refine a_getI fl_G_133 d_G_count_131 (beq_iff_eq.mpr (KNG_20 hM)) ?_
  obtain ⟨vt, vf⟩ := v
  refine a_icmp_ge (tgt := 157) d_G_count_134 (by decide) (fun c => ?_) (fun c => ?_)
  · have v := vt (c); clear vt vf
    refine a_iload_n d_G_count_157 rfl ?_
    exact a_iret d_G_count_158 rfl v
  · have v := vf (Int.not_le.mp c); clear vt vf
    refine a_iload_n d_G_count_137 rfl ?_
    refine a_aload_n d_G_count_138 rfl ?_
    refine a_aload_n d_G_count_139 rfl ?_
    refine a_getAe fl_G_17 d_G_count_140 (beq_iff_eq.mpr (KNG_20 hM)) (KRG_20_2 hM) ?_
    refine a_iload_n d_G_count_143 rfl ?_
    obtain ⟨c2, c3, v⟩ := v
    refine a_aald d_G_count_144 ⟨by rw [KNG_22 hM]; decide, by rw [KNG_22 hM]; decide⟩ c2 (lt_len (NNG_22 hM) c3) ?_
    refine a_iload_n d_G_count_145 rfl ?_
    refine b_callV (as := [vr (xR h 22 (x3).toNat), vi x1]) (b := 20) (st := [vi x2]) (kd := 1) (kc1 := 0) (ks1 := 0) (kc2 := kc) (ks2 := ks) (d' := d) ml_G_263 rfl d_G_count_146 rfl rfl (Nat.le_of_ble_eq_true rfl) (by decide) rfl (Nat.le_refl _) (by omega) (by omega) (KNG_20 hM) ?_
    refine Ev.mono v ?_
    intro u h1 v
    obtain ⟨r1, rfl, v⟩ := ki_el v
    obtain ⟨hm1, v⟩ := v
    change Ev l D Y_G_count _ _ _ 149 [some (vr 20), some (vi x1), some (vi x2), some (vi x3)] [vi r1, vi x2] _ _
    refine a_iadd d_G_count_149 ?_
    refine a_istore_n (L' := [some (vr 20), some (vi x1), some (vi (wr (x2 + r1))), some (vi x3)]) d_G_count_150 (Nat.le_of_ble_eq_true rfl) rfl rfl ?_
    refine a_iinc (L' := [some (vr 20), some (vi x1), some (vi (wr (x2 + r1))), some (vi (wr (x3 + (1 : Int))))]) d_G_count_151 rfl (Nat.le_of_ble_eq_true rfl) rfl rfl ?_
    refine a_goto (tgt := 129) d_G_count_154 (by decide) ?_
    exact v
theorem g_G_count_77 {l : Launch} {D : DD} {d kc ks : Nat} {h : Hp} {Φ : Option AV → Hp → Prop} {x1 : Int} {x2 : Int} {x3 : Int} (hM : GS h) (v : (x3 ≥ xI h 20 1 → (Φ (some (vi x2)) h)) ∧ (x3 < xI h 20 1 → ((¬ x1 = (5 : Int) → (0 ≤ x3 ∧ x3 < 16 ∧ ((xI h 24 (x3).toNat = 0 → (Ev l D Y_G_count (d + 1) kc ks 117 [some (vr 20), some (vi x1), some (vi x2), some (vi x3)] [vi (0 : Int), vi x2] h Φ)) ∧ (¬ xI h 24 (x3).toNat = 0 → (Ev l D Y_G_count (d + 1) kc ks 117 [some (vr 20), some (vi x1), some (vi x2), some (vi x3)] [vi (1 : Int), vi x2] h Φ))))) ∧ (x1 = (5 : Int) → (0 ≤ x3 ∧ x3 < 16 ∧ ((xI h 23 (x3).toNat = 0 → (Ev l D Y_G_count (d + 1) kc ks 117 [some (vr 20), some (vi x1), some (vi x2), some (vi x3)] [vi (0 : Int), vi x2] h Φ)) ∧ (¬ xI h 23 (x3).toNat = 0 → (Ev l D Y_G_count (d + 1) kc ks 117 [some (vr 20), some (vi x1), some (vi x2), some (vi x3)] [vi (1 : Int), vi x2] h Φ)))))))) : Ev l D Y_G_count (d + 1) kc ks 77 [some (vr 20), some (vi x1), some (vi x2), some (vi x3)] [] h Φ := by
  refine a_iload_n d_G_count_77 rfl ?_
  refine a_aload_n d_G_count_78 rfl ?_
  refine a_getI fl_G_55 d_G_count_79 (beq_iff_eq.mpr (KNG_20 hM)) ?_
  obtain ⟨vt, vf⟩ := v
  refine a_icmp_ge (tgt := 125) d_G_count_82 (by decide) (fun c => ?_) (fun c => ?_)
  · have v := vt (c); clear vt vf
    refine a_iload_n d_G_count_125 rfl ?_
    exact a_iret d_G_count_126 rfl v
  · have v := vf (Int.not_le.mp c); clear vt vf
    refine a_iload_n d_G_count_85 rfl ?_
    refine a_iload_n d_G_count_86 rfl ?_
    refine a_iconst d_G_count_87 ⟨by decide, by decide⟩ ?_
    obtain ⟨vt, vf⟩ := v
    refine a_icmp_ne (tgt := 103) d_G_count_88 (by decide) (fun c => ?_) (fun c => ?_)
    · have v := vt (c); clear vt vf
      refine a_aload_n d_G_count_103 rfl ?_
      refine a_getAe fl_G_25 d_G_count_104 (beq_iff_eq.mpr (KNG_20 hM)) (KRG_20_10 hM) ?_
      refine a_iload_n d_G_count_107 rfl ?_
      obtain ⟨c2, c3, v⟩ := v
      refine a_zald d_G_count_108 (KNG_24 hM) c2 (lt_len (NNG_24 hM) c3) ?_
      obtain ⟨vt, vf⟩ := v
      refine a_if_eq (tgt := 116) d_G_count_109 (by decide) (fun c => ?_) (fun c => ?_)
      · have v := vt (c); clear vt vf
        refine a_iconst d_G_count_116 ⟨by decide, by decide⟩ ?_
        exact v
      · have v := vf (c); clear vt vf
        refine a_iconst d_G_count_112 ⟨by decide, by decide⟩ ?_
        refine a_goto (tgt := 117) d_G_count_113 (by decide) ?_
        exact v
    · have v := vf (Classical.not_not.mp c); clear vt vf
      refine a_aload_n d_G_count_91 rfl ?_
      refine a_getAe fl_G_21 d_G_count_92 (beq_iff_eq.mpr (KNG_20 hM)) (KRG_20_9 hM) ?_
      refine a_iload_n d_G_count_95 rfl ?_
      obtain ⟨c5, c6, v⟩ := v
      refine a_zald d_G_count_96 (KNG_23 hM) c5 (lt_len (NNG_23 hM) c6) ?_
      obtain ⟨vt, vf⟩ := v
      refine a_if_eq (tgt := 116) d_G_count_97 (by decide) (fun c => ?_) (fun c => ?_)
      · have v := vt (c); clear vt vf
        refine a_iconst d_G_count_116 ⟨by decide, by decide⟩ ?_
        exact v
      · have v := vf (c); clear vt vf
        refine a_goto (tgt := 112) d_G_count_100 (by decide) ?_
        refine a_iconst d_G_count_112 ⟨by decide, by decide⟩ ?_
        refine a_goto (tgt := 117) d_G_count_113 (by decide) ?_
        exact v
theorem g_G_count_117 {l : Launch} {D : DD} {d kc ks : Nat} {h : Hp} {Φ : Option AV → Hp → Prop} {x1 : Int} {x2 : Int} {x3 : Int} {y0 : Int} {y1 : Int} (hM : GS h) (v : Ev l D Y_G_count (d + 1) kc ks 77 [some (vr 20), some (vi x1), some (vi (wr (y1 + y0))), some (vi (wr (x3 + (1 : Int))))] [] h Φ) : Ev l D Y_G_count (d + 1) kc ks 117 [some (vr 20), some (vi x1), some (vi x2), some (vi x3)] [vi y0, vi y1] h Φ := by
  refine a_iadd d_G_count_117 ?_
  refine a_istore_n (L' := [some (vr 20), some (vi x1), some (vi (wr (y1 + y0))), some (vi x3)]) d_G_count_118 (Nat.le_of_ble_eq_true rfl) rfl rfl ?_
  refine a_iinc (L' := [some (vr 20), some (vi x1), some (vi (wr (y1 + y0))), some (vi (wr (x3 + (1 : Int))))]) d_G_count_119 rfl (Nat.le_of_ble_eq_true rfl) rfl rfl ?_
  refine a_goto (tgt := 77) d_G_count_122 (by decide) ?_
  exact v
theorem d_G_countOf_0 : decode Y_G_countOf.2.1 0 = .ok (.iload_n 2, 1) := by decide +kernel
theorem d_G_countOf_1 : decode Y_G_countOf.2.1 1 = .ok (.iconst 3, 1) := by decide +kernel
theorem d_G_countOf_2 : decode Y_G_countOf.2.1 2 = .ok (.if_icmp .ne 16, 3) := by decide +kernel
theorem d_G_countOf_5 : decode Y_G_countOf.2.1 5 = .ok (.aload_n 1, 1) := by decide +kernel
theorem d_G_countOf_6 : decode Y_G_countOf.2.1 6 = .ok (.getfield 136, 3) := by decide +kernel
theorem d_G_countOf_9 : decode Y_G_countOf.2.1 9 = .ok (.ifCond .eq 7, 3) := by decide +kernel
theorem d_G_countOf_12 : decode Y_G_countOf.2.1 12 = .ok (.iconst 1, 1) := by decide +kernel
theorem d_G_countOf_13 : decode Y_G_countOf.2.1 13 = .ok (.goto 4, 3) := by decide +kernel
theorem d_G_countOf_16 : decode Y_G_countOf.2.1 16 = .ok (.iconst 0, 1) := by decide +kernel
theorem d_G_countOf_17 : decode Y_G_countOf.2.1 17 = .ok (.ireturn, 1) := by decide +kernel
theorem d_G_countOf_18 : decode Y_G_countOf.2.1 18 = .ok (.aload_n 1, 1) := by decide +kernel
theorem d_G_countOf_19 : decode Y_G_countOf.2.1 19 = .ok (.getfield 139, 3) := by decide +kernel
theorem d_G_countOf_22 : decode Y_G_countOf.2.1 22 = .ok (.ifCond .ne 5, 3) := by decide +kernel
theorem d_G_countOf_25 : decode Y_G_countOf.2.1 25 = .ok (.iconst 0, 1) := by decide +kernel
theorem d_G_countOf_26 : decode Y_G_countOf.2.1 26 = .ok (.ireturn, 1) := by decide +kernel
theorem d_G_countOf_27 : decode Y_G_countOf.2.1 27 = .ok (.iload_n 2, 1) := by decide +kernel
theorem d_G_countOf_28 : decode Y_G_countOf.2.1 28 = .ok (.iconst 4, 1) := by decide +kernel
theorem d_G_countOf_29 : decode Y_G_countOf.2.1 29 = .ok (.if_icmp .ne 5, 3) := by decide +kernel
theorem d_G_countOf_32 : decode Y_G_countOf.2.1 32 = .ok (.iconst 1, 1) := by decide +kernel
theorem d_G_countOf_33 : decode Y_G_countOf.2.1 33 = .ok (.ireturn, 1) := by decide +kernel
theorem d_G_countOf_34 : decode Y_G_countOf.2.1 34 = .ok (.iload_n 2, 1) := by decide +kernel
theorem d_G_countOf_35 : decode Y_G_countOf.2.1 35 = .ok (.bipush 9, 2) := by decide +kernel
theorem d_G_countOf_37 : decode Y_G_countOf.2.1 37 = .ok (.if_icmp .ne 26, 3) := by decide +kernel
theorem d_G_countOf_40 : decode Y_G_countOf.2.1 40 = .ok (.aload_n 0, 1) := by decide +kernel
theorem d_G_countOf_41 : decode Y_G_countOf.2.1 41 = .ok (.getfield 33, 3) := by decide +kernel
theorem d_G_countOf_44 : decode Y_G_countOf.2.1 44 = .ok (.aload_n 1, 1) := by decide +kernel
theorem d_G_countOf_45 : decode Y_G_countOf.2.1 45 = .ok (.getfield 65, 3) := by decide +kernel
theorem d_G_countOf_48 : decode Y_G_countOf.2.1 48 = .ok (.aaload, 1) := by decide +kernel
theorem d_G_countOf_49 : decode Y_G_countOf.2.1 49 = .ok (.aload_n 1, 1) := by decide +kernel
theorem d_G_countOf_50 : decode Y_G_countOf.2.1 50 = .ok (.getfield 65, 3) := by decide +kernel
theorem d_G_countOf_53 : decode Y_G_countOf.2.1 53 = .ok (.baload, 1) := by decide +kernel
theorem d_G_countOf_54 : decode Y_G_countOf.2.1 54 = .ok (.ifCond .eq 7, 3) := by decide +kernel
theorem d_G_countOf_57 : decode Y_G_countOf.2.1 57 = .ok (.iconst 1, 1) := by decide +kernel
theorem d_G_countOf_58 : decode Y_G_countOf.2.1 58 = .ok (.goto 4, 3) := by decide +kernel
theorem d_G_countOf_61 : decode Y_G_countOf.2.1 61 = .ok (.iconst 0, 1) := by decide +kernel
theorem d_G_countOf_62 : decode Y_G_countOf.2.1 62 = .ok (.ireturn, 1) := by decide +kernel
theorem d_G_countOf_63 : decode Y_G_countOf.2.1 63 = .ok (.iconst 0, 1) := by decide +kernel
theorem d_G_countOf_64 : decode Y_G_countOf.2.1 64 = .ok (.istore_n 3, 1) := by decide +kernel
theorem d_G_countOf_65 : decode Y_G_countOf.2.1 65 = .ok (.iconst 0, 1) := by decide +kernel
theorem d_G_countOf_66 : decode Y_G_countOf.2.1 66 = .ok (.istore 4, 2) := by decide +kernel
theorem d_G_countOf_68 : decode Y_G_countOf.2.1 68 = .ok (.iload 4, 2) := by decide +kernel
theorem d_G_countOf_70 : decode Y_G_countOf.2.1 70 = .ok (.aload_n 1, 1) := by decide +kernel
theorem d_G_countOf_71 : decode Y_G_countOf.2.1 71 = .ok (.getfield 142, 3) := by decide +kernel
theorem d_G_countOf_74 : decode Y_G_countOf.2.1 74 = .ok (.if_icmp .ge 98, 3) := by decide +kernel
theorem d_G_countOf_77 : decode Y_G_countOf.2.1 77 = .ok (.iconst 0, 1) := by decide +kernel
theorem d_G_countOf_78 : decode Y_G_countOf.2.1 78 = .ok (.istore 5, 2) := by decide +kernel
theorem d_G_countOf_80 : decode Y_G_countOf.2.1 80 = .ok (.iload 5, 2) := by decide +kernel
theorem d_G_countOf_82 : decode Y_G_countOf.2.1 82 = .ok (.aload_n 0, 1) := by decide +kernel
theorem d_G_countOf_83 : decode Y_G_countOf.2.1 83 = .ok (.getfield 133, 3) := by decide +kernel
theorem d_G_countOf_86 : decode Y_G_countOf.2.1 86 = .ok (.if_icmp .ge 39, 3) := by decide +kernel
theorem d_G_countOf_89 : decode Y_G_countOf.2.1 89 = .ok (.iload_n 3, 1) := by decide +kernel
theorem d_G_countOf_90 : decode Y_G_countOf.2.1 90 = .ok (.iload_n 2, 1) := by decide +kernel
theorem d_G_countOf_91 : decode Y_G_countOf.2.1 91 = .ok (.bipush 7, 2) := by decide +kernel
theorem d_G_countOf_93 : decode Y_G_countOf.2.1 93 = .ok (.if_icmp .ne 23, 3) := by decide +kernel
theorem d_G_countOf_96 : decode Y_G_countOf.2.1 96 = .ok (.aload_n 1, 1) := by decide +kernel
theorem d_G_countOf_97 : decode Y_G_countOf.2.1 97 = .ok (.getfield 145, 3) := by decide +kernel
theorem d_G_countOf_100 : decode Y_G_countOf.2.1 100 = .ok (.iload 4, 2) := by decide +kernel
theorem d_G_countOf_102 : decode Y_G_countOf.2.1 102 = .ok (.aaload, 1) := by decide +kernel
theorem d_G_countOf_103 : decode Y_G_countOf.2.1 103 = .ok (.getfield 162, 3) := by decide +kernel
theorem d_G_countOf_106 : decode Y_G_countOf.2.1 106 = .ok (.iload 5, 2) := by decide +kernel
theorem d_G_countOf_108 : decode Y_G_countOf.2.1 108 = .ok (.baload, 1) := by decide +kernel
theorem d_G_countOf_109 : decode Y_G_countOf.2.1 109 = .ok (.ifCond .eq 7, 3) := by decide +kernel
theorem d_G_countOf_112 : decode Y_G_countOf.2.1 112 = .ok (.iconst 1, 1) := by decide +kernel
theorem d_G_countOf_113 : decode Y_G_countOf.2.1 113 = .ok (.goto 4, 3) := by decide +kernel
theorem d_G_countOf_116 : decode Y_G_countOf.2.1 116 = .ok (.iconst 0, 1) := by decide +kernel
theorem d_G_countOf_117 : decode Y_G_countOf.2.1 117 = .ok (.iadd, 1) := by decide +kernel
theorem d_G_countOf_118 : decode Y_G_countOf.2.1 118 = .ok (.istore_n 3, 1) := by decide +kernel
theorem d_G_countOf_119 : decode Y_G_countOf.2.1 119 = .ok (.iinc 5 1, 3) := by decide +kernel
theorem d_G_countOf_122 : decode Y_G_countOf.2.1 122 = .ok (.goto (-42), 3) := by decide +kernel
theorem d_G_countOf_125 : decode Y_G_countOf.2.1 125 = .ok (.iconst 0, 1) := by decide +kernel
theorem d_G_countOf_126 : decode Y_G_countOf.2.1 126 = .ok (.istore 5, 2) := by decide +kernel
theorem d_G_countOf_128 : decode Y_G_countOf.2.1 128 = .ok (.iload 5, 2) := by decide +kernel
theorem d_G_countOf_130 : decode Y_G_countOf.2.1 130 = .ok (.iconst 4, 1) := by decide +kernel
theorem d_G_countOf_131 : decode Y_G_countOf.2.1 131 = .ok (.if_icmp .ge 35, 3) := by decide +kernel
theorem d_G_countOf_134 : decode Y_G_countOf.2.1 134 = .ok (.iload_n 3, 1) := by decide +kernel
theorem d_G_countOf_135 : decode Y_G_countOf.2.1 135 = .ok (.iload_n 2, 1) := by decide +kernel
theorem d_G_countOf_136 : decode Y_G_countOf.2.1 136 = .ok (.bipush 8, 2) := by decide +kernel
theorem d_G_countOf_138 : decode Y_G_countOf.2.1 138 = .ok (.if_icmp .ne 19, 3) := by decide +kernel
theorem d_G_countOf_141 : decode Y_G_countOf.2.1 141 = .ok (.aload_n 1, 1) := by decide +kernel
theorem d_G_countOf_142 : decode Y_G_countOf.2.1 142 = .ok (.getfield 145, 3) := by decide +kernel
theorem d_G_countOf_145 : decode Y_G_countOf.2.1 145 = .ok (.iload 4, 2) := by decide +kernel
theorem d_G_countOf_147 : decode Y_G_countOf.2.1 147 = .ok (.aaload, 1) := by decide +kernel
theorem d_G_countOf_148 : decode Y_G_countOf.2.1 148 = .ok (.getfield 267, 3) := by decide +kernel
theorem d_G_countOf_151 : decode Y_G_countOf.2.1 151 = .ok (.iload 5, 2) := by decide +kernel
theorem d_G_countOf_153 : decode Y_G_countOf.2.1 153 = .ok (.iaload, 1) := by decide +kernel
theorem d_G_countOf_154 : decode Y_G_countOf.2.1 154 = .ok (.goto 4, 3) := by decide +kernel
theorem d_G_countOf_157 : decode Y_G_countOf.2.1 157 = .ok (.iconst 0, 1) := by decide +kernel
theorem d_G_countOf_158 : decode Y_G_countOf.2.1 158 = .ok (.iadd, 1) := by decide +kernel
theorem d_G_countOf_159 : decode Y_G_countOf.2.1 159 = .ok (.istore_n 3, 1) := by decide +kernel
theorem d_G_countOf_160 : decode Y_G_countOf.2.1 160 = .ok (.iinc 5 1, 3) := by decide +kernel
theorem d_G_countOf_163 : decode Y_G_countOf.2.1 163 = .ok (.goto (-35), 3) := by decide +kernel
theorem d_G_countOf_166 : decode Y_G_countOf.2.1 166 = .ok (.iinc 4 1, 3) := by decide +kernel
theorem d_G_countOf_169 : decode Y_G_countOf.2.1 169 = .ok (.goto (-101), 3) := by decide +kernel
theorem d_G_countOf_172 : decode Y_G_countOf.2.1 172 = .ok (.iload_n 3, 1) := by decide +kernel
theorem d_G_countOf_173 : decode Y_G_countOf.2.1 173 = .ok (.ireturn, 1) := by decide +kernel
theorem g_G_countOf_0 {l : Launch} {D : DD} {d kc ks : Nat} {h : Hp} {Φ : Option AV → Hp → Prop} {x1 : Nat} {x2 : Int} (hM : GS h) (v : (¬ x2 = (3 : Int) → (xK h x1 = 4 ∧ ((¬ xI h x1 7 = 0 → ((¬ x2 = (4 : Int) → ((¬ x2 = (9 : Int) → (Ev l D Y_G_countOf d kc ks 68 [some (vr 20), some (vr x1), some (vi x2), some (vi (0 : Int)), some (vi (0 : Int)), none] [] h Φ)) ∧ (x2 = (9 : Int) → (xK h x1 = 4 ∧ (0 ≤ xI h x1 0 ∧ xI h x1 0 < 48 ∧ (xK h x1 = 4 ∧ (xK h (xR h 30 (xI h x1 0).toNat) = 21 ∧ 0 ≤ xI h x1 0 ∧ xI h x1 0 < xN h (xR h 30 (xI h x1 0).toNat) ∧ ((xI h (xR h 30 (xI h x1 0).toNat) (xI h x1 0).toNat = 0 → (Φ (some (vi (0 : Int))) h)) ∧ (¬ xI h (xR h 30 (xI h x1 0).toNat) (xI h x1 0).toNat = 0 → (Φ (some (vi (1 : Int))) h)))))))))) ∧ (x2 = (4 : Int) → (Φ (some (vi (1 : Int))) h)))) ∧ (xI h x1 7 = 0 → (Φ (some (vi (0 : Int))) h))))) ∧ (x2 = (3 : Int) → (xK h x1 = 4 ∧ ((xI h x1 6 = 0 → (Φ (some (vi (0 : Int))) h)) ∧ (¬ xI h x1 6 = 0 → (Φ (some (vi (1 : Int))) h)))))) : Ev l D Y_G_countOf d kc ks 0 [some (vr 20), some (vr x1), some (vi x2), none, none, none] [] h Φ := by
  refine a_iload_n d_G_countOf_0 rfl ?_
  refine a_iconst d_G_countOf_1 ⟨by decide, by decide⟩ ?_
  obtain ⟨vt, vf⟩ := v
  refine a_icmp_ne (tgt := 18) d_G_countOf_2 (by decide) (fun c => ?_) (fun c => ?_)
  · have v := vt (c); clear vt vf
    refine a_aload_n d_G_countOf_18 rfl ?_
    obtain ⟨c1, v⟩ := v
    refine a_getZN fl_G_139 d_G_countOf_19 (beq_iff_eq.mpr c1) ?_
    obtain ⟨vt, vf⟩ := v
    refine a_if_ne (tgt := 27) d_G_countOf_22 (by decide) (fun c => ?_) (fun c => ?_)
    · have v := vt (c); clear vt vf
      refine a_iload_n d_G_countOf_27 rfl ?_
      refine a_iconst d_G_countOf_28 ⟨by decide, by decide⟩ ?_
      obtain ⟨vt, vf⟩ := v
      refine a_icmp_ne (tgt := 34) d_G_countOf_29 (by decide) (fun c => ?_) (fun c => ?_)
      · have v := vt (c); clear vt vf
        refine a_iload_n d_G_countOf_34 rfl ?_
        refine a_bipush d_G_countOf_35 ⟨by decide, by decide⟩ (by decide) ?_
        obtain ⟨vt, vf⟩ := v
        refine a_icmp_ne (tgt := 63) d_G_countOf_37 (by decide) (fun c => ?_) (fun c => ?_)
        · have v := vt (c); clear vt vf
          refine a_iconst d_G_countOf_63 ⟨by decide, by decide⟩ ?_
          refine a_istore_n (L' := [some (vr 20), some (vr x1), some (vi x2), some (vi (0 : Int)), none, none]) d_G_countOf_64 (Nat.le_of_ble_eq_true rfl) rfl rfl ?_
          refine a_iconst d_G_countOf_65 ⟨by decide, by decide⟩ ?_
          refine a_istore (L' := [some (vr 20), some (vr x1), some (vi x2), some (vi (0 : Int)), some (vi (0 : Int)), none]) d_G_countOf_66 (Nat.le_of_ble_eq_true rfl) rfl rfl ?_
          exact v
        · have v := vf (Classical.not_not.mp c); clear vt vf
          refine a_aload_n d_G_countOf_40 rfl ?_
          refine a_getAe fl_G_33 d_G_countOf_41 (beq_iff_eq.mpr (KNG_20 hM)) (KRG_20_12 hM) ?_
          refine a_aload_n d_G_countOf_44 rfl ?_
          obtain ⟨c2, v⟩ := v
          refine a_getIN fl_G_65 d_G_countOf_45 (beq_iff_eq.mpr c2) ?_
          obtain ⟨c4, c5, v⟩ := v
          refine a_aald d_G_countOf_48 ⟨by rw [KNG_30 hM]; decide, by rw [KNG_30 hM]; decide⟩ c4 (lt_len (NNG_30 hM) c5) ?_
          refine a_aload_n d_G_countOf_49 rfl ?_
          obtain ⟨c6, v⟩ := v
          refine a_getIN fl_G_65 d_G_countOf_50 (beq_iff_eq.mpr c6) ?_
          obtain ⟨c7, c8, c9, v⟩ := v
          refine a_zald d_G_countOf_53 c7 c8 c9 ?_
          obtain ⟨vt, vf⟩ := v
          refine a_if_eq (tgt := 61) d_G_countOf_54 (by decide) (fun c => ?_) (fun c => ?_)
          · have v := vt (c); clear vt vf
            refine a_iconst d_G_countOf_61 ⟨by decide, by decide⟩ ?_
            exact a_iret d_G_countOf_62 rfl v
          · have v := vf (c); clear vt vf
            refine a_iconst d_G_countOf_57 ⟨by decide, by decide⟩ ?_
            refine a_goto (tgt := 62) d_G_countOf_58 (by decide) ?_
            exact a_iret d_G_countOf_62 rfl v
      · have v := vf (Classical.not_not.mp c); clear vt vf
        refine a_iconst d_G_countOf_32 ⟨by decide, by decide⟩ ?_
        exact a_iret d_G_countOf_33 rfl v
    · have v := vf (Classical.not_not.mp c); clear vt vf
      refine a_iconst d_G_countOf_25 ⟨by decide, by decide⟩ ?_
      exact a_iret d_G_countOf_26 rfl v
  · have v := vf (Classical.not_not.mp c); clear vt vf
    refine a_aload_n d_G_countOf_5 rfl ?_
    obtain ⟨c10, v⟩ := v
    refine a_getZN fl_G_136 d_G_countOf_6 (beq_iff_eq.mpr c10) ?_
    obtain ⟨vt, vf⟩ := v
    refine a_if_eq (tgt := 16) d_G_countOf_9 (by decide) (fun c => ?_) (fun c => ?_)
    · have v := vt (c); clear vt vf
      refine a_iconst d_G_countOf_16 ⟨by decide, by decide⟩ ?_
      exact a_iret d_G_countOf_17 rfl v
    · have v := vf (c); clear vt vf
      refine a_iconst d_G_countOf_12 ⟨by decide, by decide⟩ ?_
      refine a_goto (tgt := 17) d_G_countOf_13 (by decide) ?_
      exact a_iret d_G_countOf_17 rfl v
theorem g_G_countOf_68 {l : Launch} {D : DD} {d kc ks : Nat} {h : Hp} {Φ : Option AV → Hp → Prop} {x1 : Nat} {x2 : Int} {x3 : Int} {x4 : Int} (hM : GS h) (v : xK h x1 = 4 ∧ ((x4 ≥ xI h x1 5 → (Φ (some (vi x3)) h)) ∧ (x4 < xI h x1 5 → (Ev l D Y_G_countOf d kc ks 80 [some (vr 20), some (vr x1), some (vi x2), some (vi x3), some (vi x4), some (vi (0 : Int))] [] h Φ)))) : Ev l D Y_G_countOf d kc ks 68 [some (vr 20), some (vr x1), some (vi x2), some (vi x3), some (vi x4), none] [] h Φ := by
  refine a_iload d_G_countOf_68 rfl ?_
  refine a_aload_n d_G_countOf_70 rfl ?_
  obtain ⟨c1, v⟩ := v
  refine a_getIN fl_G_142 d_G_countOf_71 (beq_iff_eq.mpr c1) ?_
  obtain ⟨vt, vf⟩ := v
  refine a_icmp_ge (tgt := 172) d_G_countOf_74 (by decide) (fun c => ?_) (fun c => ?_)
  · have v := vt (c); clear vt vf
    refine a_iload_n d_G_countOf_172 rfl ?_
    exact a_iret d_G_countOf_173 rfl v
  · have v := vf (Int.not_le.mp c); clear vt vf
    refine a_iconst d_G_countOf_77 ⟨by decide, by decide⟩ ?_
    refine a_istore (L' := [some (vr 20), some (vr x1), some (vi x2), some (vi x3), some (vi x4), some (vi (0 : Int))]) d_G_countOf_78 (Nat.le_of_ble_eq_true rfl) rfl rfl ?_
    exact v
theorem g_G_countOf_80 {l : Launch} {D : DD} {d kc ks : Nat} {h : Hp} {Φ : Option AV → Hp → Prop} {x1 : Nat} {x2 : Int} {x3 : Int} {x4 : Int} {x5 : Int} (hM : GS h) (v : (x5 ≥ xI h 20 3 → (Ev l D Y_G_countOf d kc ks 128 [some (vr 20), some (vr x1), some (vi x2), some (vi x3), some (vi x4), some (vi (0 : Int))] [] h Φ)) ∧ (x5 < xI h 20 3 → ((¬ x2 = (7 : Int) → (Ev l D Y_G_countOf d kc ks 117 [some (vr 20), some (vr x1), some (vi x2), some (vi x3), some (vi x4), some (vi x5)] [vi (0 : Int), vi x3] h Φ)) ∧ (x2 = (7 : Int) → (xK h x1 = 4 ∧ ((22 ≤ xK h (xR h x1 4) ∧ xK h (xR h x1 4) ≤ 27) ∧ 0 ≤ x4 ∧ x4 < xN h (xR h x1 4) ∧ (opk (xK h (xR h (xR h x1 4) (x4).toNat)) = true ∧ (xK h (xR h (xR h (xR h x1 4) (x4).toNat) 2) = 21 ∧ 0 ≤ x5 ∧ x5 < xN h (xR h (xR h (xR h x1 4) (x4).toNat) 2) ∧ ((xI h (xR h (xR h (xR h x1 4) (x4).toNat) 2) (x5).toNat = 0 → (Ev l D Y_G_countOf d kc ks 117 [some (vr 20), some (vr x1), some (vi x2), some (vi x3), some (vi x4), some (vi x5)] [vi (0 : Int), vi x3] h Φ)) ∧ (¬ xI h (xR h (xR h (xR h x1 4) (x4).toNat) 2) (x5).toNat = 0 → (Ev l D Y_G_countOf d kc ks 117 [some (vr 20), some (vr x1), some (vi x2), some (vi x3), some (vi x4), some (vi x5)] [vi (1 : Int), vi x3] h Φ))))))))))) : Ev l D Y_G_countOf d kc ks 80 [some (vr 20), some (vr x1), some (vi x2), some (vi x3), some (vi x4), some (vi x5)] [] h Φ := by
  refine a_iload d_G_countOf_80 rfl ?_
  refine a_aload_n d_G_countOf_82 rfl ?_
  refine a_getI fl_G_133 d_G_countOf_83 (beq_iff_eq.mpr (KNG_20 hM)) ?_
  obtain ⟨vt, vf⟩ := v
  refine a_icmp_ge (tgt := 125) d_G_countOf_86 (by decide) (fun c => ?_) (fun c => ?_)
  · have v := vt (c); clear vt vf
    refine a_iconst d_G_countOf_125 ⟨by decide, by decide⟩ ?_
    refine a_istore (L' := [some (vr 20), some (vr x1), some (vi x2), some (vi x3), some (vi x4), some (vi (0 : Int))]) d_G_countOf_126 (Nat.le_of_ble_eq_true rfl) rfl rfl ?_
    exact v
  · have v := vf (Int.not_le.mp c); clear vt vf
    refine a_iload_n d_G_countOf_89 rfl ?_
    refine a_iload_n d_G_countOf_90 rfl ?_
    refine a_bipush d_G_countOf_91 ⟨by decide, by decide⟩ (by decide) ?_
    obtain ⟨vt, vf⟩ := v
    refine a_icmp_ne (tgt := 116) d_G_countOf_93 (by decide) (fun c => ?_) (fun c => ?_)
    · have v := vt (c); clear vt vf
      refine a_iconst d_G_countOf_116 ⟨by decide, by decide⟩ ?_
      exact v
    · have v := vf (Classical.not_not.mp c); clear vt vf
      refine a_aload_n d_G_countOf_96 rfl ?_
      obtain ⟨c1, v⟩ := v
      refine a_getAN fl_G_145 d_G_countOf_97 (beq_iff_eq.mpr c1) ?_
      refine a_iload d_G_countOf_100 rfl ?_
      obtain ⟨c2, c3, c4, v⟩ := v
      refine a_aald d_G_countOf_102 c2 c3 c4 ?_
      obtain ⟨c5, v⟩ := v
      refine a_getA fl_G_162 d_G_countOf_103 c5 ?_
      refine a_iload d_G_countOf_106 rfl ?_
      obtain ⟨c6, c7, c8, v⟩ := v
      refine a_zald d_G_countOf_108 c6 c7 c8 ?_
      obtain ⟨vt, vf⟩ := v
      refine a_if_eq (tgt := 116) d_G_countOf_109 (by decide) (fun c => ?_) (fun c => ?_)
      · have v := vt (c); clear vt vf
        refine a_iconst d_G_countOf_116 ⟨by decide, by decide⟩ ?_
        exact v
      · have v := vf (c); clear vt vf
        refine a_iconst d_G_countOf_112 ⟨by decide, by decide⟩ ?_
        refine a_goto (tgt := 117) d_G_countOf_113 (by decide) ?_
        exact v
theorem g_G_countOf_128 {l : Launch} {D : DD} {d kc ks : Nat} {h : Hp} {Φ : Option AV → Hp → Prop} {x1 : Nat} {x2 : Int} {x3 : Int} {x4 : Int} {x5 : Int} (hM : GS h) (v : (x5 ≥ (4 : Int) → (Ev l D Y_G_countOf d kc ks 68 [some (vr 20), some (vr x1), some (vi x2), some (vi x3), some (vi (wr (x4 + (1 : Int)))), none] [] h Φ)) ∧ (x5 < (4 : Int) → ((¬ x2 = (8 : Int) → (Ev l D Y_G_countOf d kc ks 128 [some (vr 20), some (vr x1), some (vi x2), some (vi (wr (x3 + (0 : Int)))), some (vi x4), some (vi (wr (x5 + (1 : Int))))] [] h Φ)) ∧ (x2 = (8 : Int) → (xK h x1 = 4 ∧ ((22 ≤ xK h (xR h x1 4) ∧ xK h (xR h x1 4) ≤ 27) ∧ 0 ≤ x4 ∧ x4 < xN h (xR h x1 4) ∧ (opk (xK h (xR h (xR h x1 4) (x4).toNat)) = true ∧ (xK h (xR h (xR h (xR h x1 4) (x4).toNat) 3) = 20 ∧ 0 ≤ x5 ∧ x5 < xN h (xR h (xR h (xR h x1 4) (x4).toNat) 3) ∧ (Ev l D Y_G_countOf d kc ks 128 [some (vr 20), some (vr x1), some (vi x2), some (vi (wr (x3 + (xI h (xR h (xR h (xR h x1 4) (x4).toNat) 3) (x5).toNat)))), some (vi x4), some (vi (wr (x5 + (1 : Int))))] [] h Φ))))))))) : Ev l D Y_G_countOf d kc ks 128 [some (vr 20), some (vr x1), some (vi x2), some (vi x3), some (vi x4), some (vi x5)] [] h Φ := by
  refine a_iload d_G_countOf_128 rfl ?_
  refine a_iconst d_G_countOf_130 ⟨by decide, by decide⟩ ?_
  obtain ⟨vt, vf⟩ := v
  refine a_icmp_ge (tgt := 166) d_G_countOf_131 (by decide) (fun c => ?_) (fun c => ?_)
  · have v := vt (c); clear vt vf
    refine a_iinc (L' := [some (vr 20), some (vr x1), some (vi x2), some (vi x3), some (vi (wr (x4 + (1 : Int)))), some (vi x5)]) d_G_countOf_166 rfl (Nat.le_of_ble_eq_true rfl) rfl rfl ?_
    refine a_goto (tgt := 68) d_G_countOf_169 (by decide) ?_
    exact Ev.weak v ⟨rfl, rfl, rfl, rfl, rfl, trivial⟩
  · have v := vf (Int.not_le.mp c); clear vt vf
    refine a_iload_n d_G_countOf_134 rfl ?_
    refine a_iload_n d_G_countOf_135 rfl ?_
    refine a_bipush d_G_countOf_136 ⟨by decide, by decide⟩ (by decide) ?_
    obtain ⟨vt, vf⟩ := v
    refine a_icmp_ne (tgt := 157) d_G_countOf_138 (by decide) (fun c => ?_) (fun c => ?_)
    · have v := vt (c); clear vt vf
      refine a_iconst d_G_countOf_157 ⟨by decide, by decide⟩ ?_
      refine a_iadd d_G_countOf_158 ?_
      refine a_istore_n (L' := [some (vr 20), some (vr x1), some (vi x2), some (vi (wr (x3 + (0 : Int)))), some (vi x4), some (vi x5)]) d_G_countOf_159 (Nat.le_of_ble_eq_true rfl) rfl rfl ?_
      refine a_iinc (L' := [some (vr 20), some (vr x1), some (vi x2), some (vi (wr (x3 + (0 : Int)))), some (vi x4), some (vi (wr (x5 + (1 : Int))))]) d_G_countOf_160 rfl (Nat.le_of_ble_eq_true rfl) rfl rfl ?_
      refine a_goto (tgt := 128) d_G_countOf_163 (by decide) ?_
      exact v
    · have v := vf (Classical.not_not.mp c); clear vt vf
      refine a_aload_n d_G_countOf_141 rfl ?_
      obtain ⟨c1, v⟩ := v
      refine a_getAN fl_G_145 d_G_countOf_142 (beq_iff_eq.mpr c1) ?_
      refine a_iload d_G_countOf_145 rfl ?_
      obtain ⟨c2, c3, c4, v⟩ := v
      refine a_aald d_G_countOf_147 c2 c3 c4 ?_
      obtain ⟨c5, v⟩ := v
      refine a_getA fl_G_267 d_G_countOf_148 c5 ?_
      refine a_iload d_G_countOf_151 rfl ?_
      obtain ⟨c6, c7, c8, v⟩ := v
      refine a_iald d_G_countOf_153 (Or.inl c6) c7 c8 ?_
      refine a_goto (tgt := 158) d_G_countOf_154 (by decide) ?_
      refine a_iadd d_G_countOf_158 ?_
      refine a_istore_n (L' := [some (vr 20), some (vr x1), some (vi x2), some (vi (wr (x3 + (xI h (xR h (xR h (xR h x1 4) (x4).toNat) 3) (x5).toNat)))), some (vi x4), some (vi x5)]) d_G_countOf_159 (Nat.le_of_ble_eq_true rfl) rfl rfl ?_
      refine a_iinc (L' := [some (vr 20), some (vr x1), some (vi x2), some (vi (wr (x3 + (xI h (xR h (xR h (xR h x1 4) (x4).toNat) 3) (x5).toNat)))), some (vi x4), some (vi (wr (x5 + (1 : Int))))]) d_G_countOf_160 rfl (Nat.le_of_ble_eq_true rfl) rfl rfl ?_
      refine a_goto (tgt := 128) d_G_countOf_163 (by decide) ?_
      exact v
theorem g_G_countOf_117 {l : Launch} {D : DD} {d kc ks : Nat} {h : Hp} {Φ : Option AV → Hp → Prop} {x1 : Nat} {x2 : Int} {x3 : Int} {x4 : Int} {x5 : Int} {y0 : Int} {y1 : Int} (hM : GS h) (v : Ev l D Y_G_countOf d kc ks 80 [some (vr 20), some (vr x1), some (vi x2), some (vi (wr (y1 + y0))), some (vi x4), some (vi (wr (x5 + (1 : Int))))] [] h Φ) : Ev l D Y_G_countOf d kc ks 117 [some (vr 20), some (vr x1), some (vi x2), some (vi x3), some (vi x4), some (vi x5)] [vi y0, vi y1] h Φ := by
  refine a_iadd d_G_countOf_117 ?_
  refine a_istore_n (L' := [some (vr 20), some (vr x1), some (vi x2), some (vi (wr (y1 + y0))), some (vi x4), some (vi x5)]) d_G_countOf_118 (Nat.le_of_ble_eq_true rfl) rfl rfl ?_
  refine a_iinc (L' := [some (vr 20), some (vr x1), some (vi x2), some (vi (wr (y1 + y0))), some (vi x4), some (vi (wr (x5 + (1 : Int))))]) d_G_countOf_119 rfl (Nat.le_of_ble_eq_true rfl) rfl rfl ?_
  refine a_goto (tgt := 80) d_G_countOf_122 (by decide) ?_
  exact v
theorem d_G_under_0 : decode Y_G_under.2.1 0 = .ok (.aload_n 0, 1) := by decide +kernel
theorem d_G_under_1 : decode Y_G_under.2.1 1 = .ok (.iload_n 1, 1) := by decide +kernel
theorem d_G_under_2 : decode Y_G_under.2.1 2 = .ok (.invokevirtual 169, 3) := by decide +kernel
theorem d_G_under_5 : decode Y_G_under.2.1 5 = .ok (.ifCond .eq 11, 3) := by decide +kernel
theorem d_G_under_8 : decode Y_G_under.2.1 8 = .ok (.aload_n 0, 1) := by decide +kernel
theorem d_G_under_9 : decode Y_G_under.2.1 9 = .ok (.iload_n 2, 1) := by decide +kernel
theorem d_G_under_10 : decode Y_G_under.2.1 10 = .ok (.invokevirtual 169, 3) := by decide +kernel
theorem d_G_under_13 : decode Y_G_under.2.1 13 = .ok (.ifCond .ne 6, 3) := by decide +kernel
theorem d_G_under_16 : decode Y_G_under.2.1 16 = .ok (.bipush (-101), 2) := by decide +kernel
theorem d_G_under_18 : decode Y_G_under.2.1 18 = .ok (.ireturn, 1) := by decide +kernel
theorem d_G_under_19 : decode Y_G_under.2.1 19 = .ok (.aload_n 0, 1) := by decide +kernel
theorem d_G_under_20 : decode Y_G_under.2.1 20 = .ok (.getfield 11, 3) := by decide +kernel
theorem d_G_under_23 : decode Y_G_under.2.1 23 = .ok (.iload_n 1, 1) := by decide +kernel
theorem d_G_under_24 : decode Y_G_under.2.1 24 = .ok (.aaload, 1) := by decide +kernel
theorem d_G_under_25 : decode Y_G_under.2.1 25 = .ok (.aload_n 0, 1) := by decide +kernel
theorem d_G_under_26 : decode Y_G_under.2.1 26 = .ok (.getfield 11, 3) := by decide +kernel
theorem d_G_under_29 : decode Y_G_under.2.1 29 = .ok (.iload_n 2, 1) := by decide +kernel
theorem d_G_under_30 : decode Y_G_under.2.1 30 = .ok (.aaload, 1) := by decide +kernel
theorem d_G_under_31 : decode Y_G_under.2.1 31 = .ok (.invokevirtual 84, 3) := by decide +kernel
theorem d_G_under_34 : decode Y_G_under.2.1 34 = .ok (.ifCond .eq 7, 3) := by decide +kernel
theorem d_G_under_37 : decode Y_G_under.2.1 37 = .ok (.iconst 1, 1) := by decide +kernel
theorem d_G_under_38 : decode Y_G_under.2.1 38 = .ok (.goto 4, 3) := by decide +kernel
theorem d_G_under_41 : decode Y_G_under.2.1 41 = .ok (.iconst 0, 1) := by decide +kernel
theorem d_G_under_42 : decode Y_G_under.2.1 42 = .ok (.ireturn, 1) := by decide +kernel
theorem g_G_under_0 {l : Launch} {D : DD} {d kc ks : Nat} {h : Hp} {Φ : Option AV → Hp → Prop} {x1 : Int} {x2 : Int} (hM : GS h) (v : Ev l D Y_G_isType d 0 0 0 [some (vr 20), some (vi x1)] [] h (ki (fun r1 h1 => GS h1 ∧ ((r1 = 0 → (Φ (some (vi (-101 : Int))) h1)) ∧ (¬ r1 = 0 → (Ev l D Y_G_isType d 0 0 0 [some (vr 20), some (vi x2)] [] h1 (ki (fun r2 h2 => GS h2 ∧ ((¬ r2 = 0 → (0 ≤ x1 ∧ x1 < 16 ∧ (0 ≤ x2 ∧ x2 < 16 ∧ (xK h2 (xR h2 21 (x1).toNat) = 3 ∧ Ev l D Y_Type_isUnder d 0 0 0 [some (vr (xR h2 21 (x1).toNat)), some (vr (xR h2 21 (x2).toNat))] [] h2 (ki (fun r3 h3 => GS h3 ∧ ((r3 = 0 → (Φ (some (vi (0 : Int))) h3)) ∧ (¬ r3 = 0 → (Φ (some (vi (1 : Int))) h3))))))))) ∧ (r2 = 0 → (Φ (some (vi (-101 : Int))) h2))))))))))) : Ev l D Y_G_under (d + 1) kc ks 0 [some (vr 20), some (vi x1), some (vi x2)] [] h Φ := by
  refine a_aload_n d_G_under_0 rfl ?_
  refine a_iload_n d_G_under_1 rfl ?_
  refine b_callV (as := [vi x1]) (b := 20) (st := []) (kd := 1) (kc1 := 0) (ks1 := 0) (kc2 := kc) (ks2 := ks) (d' := d) ml_G_169 rfl d_G_under_2 rfl rfl (Nat.le_of_ble_eq_true rfl) (by decide) rfl (Nat.le_refl _) (by omega) (by omega) (KNG_20 hM) ?_
  refine Ev.mono v ?_
  intro u h1 v
  obtain ⟨r1, rfl, v⟩ := ki_el v
  obtain ⟨hm1, v⟩ := v
  change Ev l D Y_G_under _ _ _ 5 [some (vr 20), some (vi x1), some (vi x2)] [vi r1] _ _
  obtain ⟨vt, vf⟩ := v
  refine a_if_eq (tgt := 16) d_G_under_5 (by decide) (fun c => ?_) (fun c => ?_)
  · have v := vt (c); clear vt vf
    refine a_bipush d_G_under_16 ⟨by decide, by decide⟩ (by decide) ?_
    exact a_iret d_G_under_18 rfl v
  · have v := vf (c); clear vt vf
    refine a_aload_n d_G_under_8 rfl ?_
    refine a_iload_n d_G_under_9 rfl ?_
    refine b_callV (as := [vi x2]) (b := 20) (st := []) (kd := 1) (kc1 := 0) (ks1 := 0) (kc2 := kc) (ks2 := ks) (d' := d) ml_G_169 rfl d_G_under_10 rfl rfl (Nat.le_of_ble_eq_true rfl) (by decide) rfl (Nat.le_refl _) (by omega) (by omega) (KNG_20 hm1) ?_
    refine Ev.mono v ?_
    intro u h2 v
    obtain ⟨r2, rfl, v⟩ := ki_el v
    obtain ⟨hm2, v⟩ := v
    change Ev l D Y_G_under _ _ _ 13 [some (vr 20), some (vi x1), some (vi x2)] [vi r2] _ _
    obtain ⟨vt, vf⟩ := v
    refine a_if_ne (tgt := 19) d_G_under_13 (by decide) (fun c => ?_) (fun c => ?_)
    · have v := vt (c); clear vt vf
      refine a_aload_n d_G_under_19 rfl ?_
      refine a_getAe fl_G_11 d_G_under_20 (beq_iff_eq.mpr (KNG_20 hm2)) (KRG_20_0 hm2) ?_
      refine a_iload_n d_G_under_23 rfl ?_
      obtain ⟨c2, c3, v⟩ := v
      refine a_aald d_G_under_24 ⟨by rw [KNG_21 hm2]; decide, by rw [KNG_21 hm2]; decide⟩ c2 (lt_len (NNG_21 hm2) c3) ?_
      refine a_aload_n d_G_under_25 rfl ?_
      refine a_getAe fl_G_11 d_G_under_26 (beq_iff_eq.mpr (KNG_20 hm2)) (KRG_20_0 hm2) ?_
      refine a_iload_n d_G_under_29 rfl ?_
      obtain ⟨c5, c6, v⟩ := v
      refine a_aald d_G_under_30 ⟨by rw [KNG_21 hm2]; decide, by rw [KNG_21 hm2]; decide⟩ c5 (lt_len (NNG_21 hm2) c6) ?_
      obtain ⟨c7, v⟩ := v
      refine b_callV (as := [vr (xR h2 21 (x2).toNat)]) (b := (xR h2 21 (x1).toNat)) (st := []) (kd := 3) (kc1 := 0) (ks1 := 0) (kc2 := kc) (ks2 := ks) (d' := d) ml_G_84 rfl d_G_under_31 rfl rfl (Nat.le_of_ble_eq_true rfl) (by decide) rfl (Nat.le_refl _) (by omega) (by omega) c7 ?_
      refine Ev.mono v ?_
      intro u h3 v
      obtain ⟨r3, rfl, v⟩ := ki_el v
      obtain ⟨hm3, v⟩ := v
      change Ev l D Y_G_under _ _ _ 34 [some (vr 20), some (vi x1), some (vi x2)] [vi r3] _ _
      obtain ⟨vt, vf⟩ := v
      refine a_if_eq (tgt := 41) d_G_under_34 (by decide) (fun c => ?_) (fun c => ?_)
      · have v := vt (c); clear vt vf
        refine a_iconst d_G_under_41 ⟨by decide, by decide⟩ ?_
        exact a_iret d_G_under_42 rfl v
      · have v := vf (c); clear vt vf
        refine a_iconst d_G_under_37 ⟨by decide, by decide⟩ ?_
        refine a_goto (tgt := 42) d_G_under_38 (by decide) ?_
        exact a_iret d_G_under_42 rfl v
    · have v := vf (Classical.not_not.mp c); clear vt vf
      refine a_bipush d_G_under_16 ⟨by decide, by decide⟩ (by decide) ?_
      exact a_iret d_G_under_18 rfl v
theorem d_G_found_0 : decode Y_G_found.2.1 0 = .ok (.aload_n 0, 1) := by decide +kernel
theorem d_G_found_1 : decode Y_G_found.2.1 1 = .ok (.iload_n 1, 1) := by decide +kernel
theorem d_G_found_2 : decode Y_G_found.2.1 2 = .ok (.invokevirtual 169, 3) := by decide +kernel
theorem d_G_found_5 : decode Y_G_found.2.1 5 = .ok (.ifCond .ne 6, 3) := by decide +kernel
theorem d_G_found_8 : decode Y_G_found.2.1 8 = .ok (.bipush (-101), 2) := by decide +kernel
theorem d_G_found_10 : decode Y_G_found.2.1 10 = .ok (.ireturn, 1) := by decide +kernel
theorem d_G_found_11 : decode Y_G_found.2.1 11 = .ok (.iload_n 2, 1) := by decide +kernel
theorem d_G_found_12 : decode Y_G_found.2.1 12 = .ok (.iconst 0, 1) := by decide +kernel
theorem d_G_found_13 : decode Y_G_found.2.1 13 = .ok (.bipush 9, 2) := by decide +kernel
theorem d_G_found_15 : decode Y_G_found.2.1 15 = .ok (.invokestatic 165, 3) := by decide +kernel
theorem d_G_found_18 : decode Y_G_found.2.1 18 = .ok (.ifCond .ne 6, 3) := by decide +kernel
theorem d_G_found_21 : decode Y_G_found.2.1 21 = .ok (.bipush (-102), 2) := by decide +kernel
theorem d_G_found_23 : decode Y_G_found.2.1 23 = .ok (.ireturn, 1) := by decide +kernel
theorem d_G_found_24 : decode Y_G_found.2.1 24 = .ok (.aload_n 0, 1) := by decide +kernel
theorem d_G_found_25 : decode Y_G_found.2.1 25 = .ok (.aload_n 0, 1) := by decide +kernel
theorem d_G_found_26 : decode Y_G_found.2.1 26 = .ok (.getfield 11, 3) := by decide +kernel
theorem d_G_found_29 : decode Y_G_found.2.1 29 = .ok (.iload_n 1, 1) := by decide +kernel
theorem d_G_found_30 : decode Y_G_found.2.1 30 = .ok (.aaload, 1) := by decide +kernel
theorem d_G_found_31 : decode Y_G_found.2.1 31 = .ok (.iload_n 2, 1) := by decide +kernel
theorem d_G_found_32 : decode Y_G_found.2.1 32 = .ok (.invokevirtual 270, 3) := by decide +kernel
theorem d_G_found_35 : decode Y_G_found.2.1 35 = .ok (.astore_n 3, 1) := by decide +kernel
theorem d_G_found_36 : decode Y_G_found.2.1 36 = .ok (.aload_n 3, 1) := by decide +kernel
theorem d_G_found_37 : decode Y_G_found.2.1 37 = .ok (.ifnonnull 7, 3) := by decide +kernel
theorem d_G_found_40 : decode Y_G_found.2.1 40 = .ok (.iconst (-1), 1) := by decide +kernel
theorem d_G_found_41 : decode Y_G_found.2.1 41 = .ok (.goto 7, 3) := by decide +kernel
theorem d_G_found_44 : decode Y_G_found.2.1 44 = .ok (.aload_n 3, 1) := by decide +kernel
theorem d_G_found_45 : decode Y_G_found.2.1 45 = .ok (.getfield 65, 3) := by decide +kernel
theorem d_G_found_48 : decode Y_G_found.2.1 48 = .ok (.ireturn, 1) := by decide +kernel
theorem g_G_found_0 {l : Launch} {D : DD} {d kc ks : Nat} {h : Hp} {Φ : Option AV → Hp → Prop} {x1 : Int} {x2 : Int} (hM : GS h) (v : Ev l D Y_G_isType d 0 0 0 [some (vr 20), some (vi x1)] [] h (ki (fun r1 h1 => GS h1 ∧ ((¬ r1 = 0 → (Ev l D Y_G_within d 0 0 0 [some (vi x2), some (vi (0 : Int)), some (vi (9 : Int))] [] h1 (ki (fun r2 h2 => GS h2 ∧ ((¬ r2 = 0 → (0 ≤ x1 ∧ x1 < 16 ∧ (Ev l D Y_G_find d 0 0 0 [some (vr 20), some (vr (xR h2 21 (x1).toNat)), some (vi x2), none] [] h2 (kr (fun r3 h3 => GS h3 ∧ ((¬ r3 = 0 → (xK h3 r3 = 4 ∧ (Φ (some (vi (xI h3 r3 0))) h3))) ∧ (r3 = 0 → (Φ (some (vi (-1 : Int))) h3)))))))) ∧ (r2 = 0 → (Φ (some (vi (-102 : Int))) h2))))))) ∧ (r1 = 0 → (Φ (some (vi (-101 : Int))) h1)))))) : Ev l D Y_G_found (d + 1) kc ks 0 [some (vr 20), some (vi x1), some (vi x2), none] [] h Φ := by
  refine a_aload_n d_G_found_0 rfl ?_
  refine a_iload_n d_G_found_1 rfl ?_
  refine b_callV (as := [vi x1]) (b := 20) (st := []) (kd := 1) (kc1 := 0) (ks1 := 0) (kc2 := kc) (ks2 := ks) (d' := d) ml_G_169 rfl d_G_found_2 rfl rfl (Nat.le_of_ble_eq_true rfl) (by decide) rfl (Nat.le_refl _) (by omega) (by omega) (KNG_20 hM) ?_
  refine Ev.mono v ?_
  intro u h1 v
  obtain ⟨r1, rfl, v⟩ := ki_el v
  obtain ⟨hm1, v⟩ := v
  change Ev l D Y_G_found _ _ _ 5 [some (vr 20), some (vi x1), some (vi x2), none] [vi r1] _ _
  obtain ⟨vt, vf⟩ := v
  refine a_if_ne (tgt := 11) d_G_found_5 (by decide) (fun c => ?_) (fun c => ?_)
  · have v := vt (c); clear vt vf
    refine a_iload_n d_G_found_11 rfl ?_
    refine a_iconst d_G_found_12 ⟨by decide, by decide⟩ ?_
    refine a_bipush d_G_found_13 ⟨by decide, by decide⟩ (by decide) ?_
    refine b_callS (as := [vi x2, vi (0 : Int), vi (9 : Int)]) (st := []) (kc1 := 0) (ks1 := 0) (kc2 := kc) (ks2 := ks) (d' := d) ml_G_165 rfl d_G_found_15 rfl rfl (Nat.le_of_ble_eq_true rfl) rfl (Nat.le_refl _) (by omega) (by omega) ?_
    refine Ev.mono v ?_
    intro u h2 v
    obtain ⟨r2, rfl, v⟩ := ki_el v
    obtain ⟨hm2, v⟩ := v
    change Ev l D Y_G_found _ _ _ 18 [some (vr 20), some (vi x1), some (vi x2), none] [vi r2] _ _
    obtain ⟨vt, vf⟩ := v
    refine a_if_ne (tgt := 24) d_G_found_18 (by decide) (fun c => ?_) (fun c => ?_)
    · have v := vt (c); clear vt vf
      refine a_aload_n d_G_found_24 rfl ?_
      refine a_aload_n d_G_found_25 rfl ?_
      refine a_getAe fl_G_11 d_G_found_26 (beq_iff_eq.mpr (KNG_20 hm2)) (KRG_20_0 hm2) ?_
      refine a_iload_n d_G_found_29 rfl ?_
      obtain ⟨c2, c3, v⟩ := v
      refine a_aald d_G_found_30 ⟨by rw [KNG_21 hm2]; decide, by rw [KNG_21 hm2]; decide⟩ c2 (lt_len (NNG_21 hm2) c3) ?_
      refine a_iload_n d_G_found_31 rfl ?_
      refine b_callV (as := [vr (xR h2 21 (x1).toNat), vi x2]) (b := 20) (st := []) (kd := 1) (kc1 := 0) (ks1 := 0) (kc2 := kc) (ks2 := ks) (d' := d) ml_G_270 rfl d_G_found_32 rfl rfl (Nat.le_of_ble_eq_true rfl) (by decide) rfl (Nat.le_refl _) (by omega) (by omega) (KNG_20 hm2) ?_
      refine Ev.mono v ?_
      intro u h3 v
      obtain ⟨r3, rfl, v⟩ := kr_el v
      obtain ⟨hm3, v⟩ := v
      change Ev l D Y_G_found _ _ _ 35 [some (vr 20), some (vi x1), some (vi x2), none] [vr r3] _ _
      refine a_astore_n (L' := [some (vr 20), some (vi x1), some (vi x2), some (vr r3)]) d_G_found_35 (Nat.le_of_ble_eq_true rfl) rfl rfl ?_
      refine a_aload_n d_G_found_36 rfl ?_
      obtain ⟨vt, vf⟩ := v
      refine a_ifnonnull (tgt := 44) d_G_found_37 (by decide) (fun c => ?_) (fun c => ?_)
      · have v := vt (c); clear vt vf
        refine a_aload_n d_G_found_44 rfl ?_
        obtain ⟨c4, v⟩ := v
        refine a_getIN fl_G_65 d_G_found_45 (beq_iff_eq.mpr c4) ?_
        exact a_iret d_G_found_48 rfl v
      · have v := vf (c); clear vt vf
        refine a_iconst d_G_found_40 ⟨by decide, by decide⟩ ?_
        refine a_goto (tgt := 48) d_G_found_41 (by decide) ?_
        exact a_iret d_G_found_48 rfl v
    · have v := vf (Classical.not_not.mp c); clear vt vf
      refine a_bipush d_G_found_21 ⟨by decide, by decide⟩ (by decide) ?_
      exact a_iret d_G_found_23 rfl v
  · have v := vf (Classical.not_not.mp c); clear vt vf
    refine a_bipush d_G_found_8 ⟨by decide, by decide⟩ (by decide) ?_
    exact a_iret d_G_found_10 rfl v
theorem d_G_chosen_0 : decode Y_G_chosen.2.1 0 = .ok (.aload_n 0, 1) := by decide +kernel
theorem d_G_chosen_1 : decode Y_G_chosen.2.1 1 = .ok (.iload_n 1, 1) := by decide +kernel
theorem d_G_chosen_2 : decode Y_G_chosen.2.1 2 = .ok (.invokevirtual 169, 3) := by decide +kernel
theorem d_G_chosen_5 : decode Y_G_chosen.2.1 5 = .ok (.ifCond .eq 11, 3) := by decide +kernel
theorem d_G_chosen_8 : decode Y_G_chosen.2.1 8 = .ok (.aload_n 0, 1) := by decide +kernel
theorem d_G_chosen_9 : decode Y_G_chosen.2.1 9 = .ok (.iload_n 2, 1) := by decide +kernel
theorem d_G_chosen_10 : decode Y_G_chosen.2.1 10 = .ok (.invokevirtual 169, 3) := by decide +kernel
theorem d_G_chosen_13 : decode Y_G_chosen.2.1 13 = .ok (.ifCond .ne 6, 3) := by decide +kernel
theorem d_G_chosen_16 : decode Y_G_chosen.2.1 16 = .ok (.bipush (-101), 2) := by decide +kernel
theorem d_G_chosen_18 : decode Y_G_chosen.2.1 18 = .ok (.ireturn, 1) := by decide +kernel
theorem d_G_chosen_19 : decode Y_G_chosen.2.1 19 = .ok (.iload_n 3, 1) := by decide +kernel
theorem d_G_chosen_20 : decode Y_G_chosen.2.1 20 = .ok (.iconst 0, 1) := by decide +kernel
theorem d_G_chosen_21 : decode Y_G_chosen.2.1 21 = .ok (.bipush 9, 2) := by decide +kernel
theorem d_G_chosen_23 : decode Y_G_chosen.2.1 23 = .ok (.invokestatic 165, 3) := by decide +kernel
theorem d_G_chosen_26 : decode Y_G_chosen.2.1 26 = .ok (.ifCond .eq 21, 3) := by decide +kernel
theorem d_G_chosen_29 : decode Y_G_chosen.2.1 29 = .ok (.aload_n 0, 1) := by decide +kernel
theorem d_G_chosen_30 : decode Y_G_chosen.2.1 30 = .ok (.getfield 11, 3) := by decide +kernel
theorem d_G_chosen_33 : decode Y_G_chosen.2.1 33 = .ok (.iload_n 1, 1) := by decide +kernel
theorem d_G_chosen_34 : decode Y_G_chosen.2.1 34 = .ok (.aaload, 1) := by decide +kernel
theorem d_G_chosen_35 : decode Y_G_chosen.2.1 35 = .ok (.aload_n 0, 1) := by decide +kernel
theorem d_G_chosen_36 : decode Y_G_chosen.2.1 36 = .ok (.getfield 11, 3) := by decide +kernel
theorem d_G_chosen_39 : decode Y_G_chosen.2.1 39 = .ok (.iload_n 2, 1) := by decide +kernel
theorem d_G_chosen_40 : decode Y_G_chosen.2.1 40 = .ok (.aaload, 1) := by decide +kernel
theorem d_G_chosen_41 : decode Y_G_chosen.2.1 41 = .ok (.invokevirtual 84, 3) := by decide +kernel
theorem d_G_chosen_44 : decode Y_G_chosen.2.1 44 = .ok (.ifCond .ne 6, 3) := by decide +kernel
theorem d_G_chosen_47 : decode Y_G_chosen.2.1 47 = .ok (.bipush (-102), 2) := by decide +kernel
theorem d_G_chosen_49 : decode Y_G_chosen.2.1 49 = .ok (.ireturn, 1) := by decide +kernel
theorem d_G_chosen_50 : decode Y_G_chosen.2.1 50 = .ok (.aload_n 0, 1) := by decide +kernel
theorem d_G_chosen_51 : decode Y_G_chosen.2.1 51 = .ok (.aload_n 0, 1) := by decide +kernel
theorem d_G_chosen_52 : decode Y_G_chosen.2.1 52 = .ok (.getfield 11, 3) := by decide +kernel
theorem d_G_chosen_55 : decode Y_G_chosen.2.1 55 = .ok (.iload_n 1, 1) := by decide +kernel
theorem d_G_chosen_56 : decode Y_G_chosen.2.1 56 = .ok (.aaload, 1) := by decide +kernel
theorem d_G_chosen_57 : decode Y_G_chosen.2.1 57 = .ok (.aload_n 0, 1) := by decide +kernel
theorem d_G_chosen_58 : decode Y_G_chosen.2.1 58 = .ok (.aload_n 0, 1) := by decide +kernel
theorem d_G_chosen_59 : decode Y_G_chosen.2.1 59 = .ok (.getfield 11, 3) := by decide +kernel
theorem d_G_chosen_62 : decode Y_G_chosen.2.1 62 = .ok (.iload_n 2, 1) := by decide +kernel
theorem d_G_chosen_63 : decode Y_G_chosen.2.1 63 = .ok (.aaload, 1) := by decide +kernel
theorem d_G_chosen_64 : decode Y_G_chosen.2.1 64 = .ok (.iload_n 3, 1) := by decide +kernel
theorem d_G_chosen_65 : decode Y_G_chosen.2.1 65 = .ok (.invokevirtual 270, 3) := by decide +kernel
theorem d_G_chosen_68 : decode Y_G_chosen.2.1 68 = .ok (.invokevirtual 274, 3) := by decide +kernel
theorem d_G_chosen_71 : decode Y_G_chosen.2.1 71 = .ok (.ireturn, 1) := by decide +kernel
theorem g_G_chosen_0 {l : Launch} {D : DD} {d kc ks : Nat} {h : Hp} {Φ : Option AV → Hp → Prop} {x1 : Int} {x2 : Int} {x3 : Int} (hM : GS h) (v : Ev l D Y_G_isType d 0 0 0 [some (vr 20), some (vi x1)] [] h (ki (fun r1 h1 => GS h1 ∧ ((r1 = 0 → (Φ (some (vi (-101 : Int))) h1)) ∧ (¬ r1 = 0 → (Ev l D Y_G_isType d 0 0 0 [some (vr 20), some (vi x2)] [] h1 (ki (fun r2 h2 => GS h2 ∧ ((¬ r2 = 0 → (Ev l D Y_G_within d 0 0 0 [some (vi x3), some (vi (0 : Int)), some (vi (9 : Int))] [] h2 (ki (fun r3 h3 => GS h3 ∧ ((r3 = 0 → (Φ (some (vi (-102 : Int))) h3)) ∧ (¬ r3 = 0 → (0 ≤ x1 ∧ x1 < 16 ∧ (0 ≤ x2 ∧ x2 < 16 ∧ (xK h3 (xR h3 21 (x1).toNat) = 3 ∧ Ev l D Y_Type_isUnder d 0 0 0 [some (vr (xR h3 21 (x1).toNat)), some (vr (xR h3 21 (x2).toNat))] [] h3 (ki (fun r4 h4 => GS h4 ∧ ((¬ r4 = 0 → (0 ≤ x1 ∧ x1 < 16 ∧ (0 ≤ x2 ∧ x2 < 16 ∧ (Ev l D Y_G_find d 0 0 0 [some (vr 20), some (vr (xR h4 21 (x2).toNat)), some (vi x3), none] [] h4 (kr (fun r5 h5 => GS h5 ∧ (Ev l D Y_G_choose d 0 0 0 [some (vr 20), some (vr (xR h4 21 (x1).toNat)), some (vr r5), none, none] [] h5 (ki (fun r6 h6 => GS h6 ∧ (Φ (some (vi r6)) h6)))))))))) ∧ (r4 = 0 → (Φ (some (vi (-102 : Int))) h4)))))))))))))) ∧ (r2 = 0 → (Φ (some (vi (-101 : Int))) h2))))))))))) : Ev l D Y_G_chosen (d + 1) kc ks 0 [some (vr 20), some (vi x1), some (vi x2), some (vi x3)] [] h Φ := by
  refine a_aload_n d_G_chosen_0 rfl ?_
  refine a_iload_n d_G_chosen_1 rfl ?_
  refine b_callV (as := [vi x1]) (b := 20) (st := []) (kd := 1) (kc1 := 0) (ks1 := 0) (kc2 := kc) (ks2 := ks) (d' := d) ml_G_169 rfl d_G_chosen_2 rfl rfl (Nat.le_of_ble_eq_true rfl) (by decide) rfl (Nat.le_refl _) (by omega) (by omega) (KNG_20 hM) ?_
  refine Ev.mono v ?_
  intro u h1 v
  obtain ⟨r1, rfl, v⟩ := ki_el v
  obtain ⟨hm1, v⟩ := v
  change Ev l D Y_G_chosen _ _ _ 5 [some (vr 20), some (vi x1), some (vi x2), some (vi x3)] [vi r1] _ _
  obtain ⟨vt, vf⟩ := v
  refine a_if_eq (tgt := 16) d_G_chosen_5 (by decide) (fun c => ?_) (fun c => ?_)
  · have v := vt (c); clear vt vf
    refine a_bipush d_G_chosen_16 ⟨by decide, by decide⟩ (by decide) ?_
    exact a_iret d_G_chosen_18 rfl v
  · have v := vf (c); clear vt vf
    refine a_aload_n d_G_chosen_8 rfl ?_
    refine a_iload_n d_G_chosen_9 rfl ?_
    refine b_callV (as := [vi x2]) (b := 20) (st := []) (kd := 1) (kc1 := 0) (ks1 := 0) (kc2 := kc) (ks2 := ks) (d' := d) ml_G_169 rfl d_G_chosen_10 rfl rfl (Nat.le_of_ble_eq_true rfl) (by decide) rfl (Nat.le_refl _) (by omega) (by omega) (KNG_20 hm1) ?_
    refine Ev.mono v ?_
    intro u h2 v
    obtain ⟨r2, rfl, v⟩ := ki_el v
    obtain ⟨hm2, v⟩ := v
    change Ev l D Y_G_chosen _ _ _ 13 [some (vr 20), some (vi x1), some (vi x2), some (vi x3)] [vi r2] _ _
    obtain ⟨vt, vf⟩ := v
    refine a_if_ne (tgt := 19) d_G_chosen_13 (by decide) (fun c => ?_) (fun c => ?_)
    · have v := vt (c); clear vt vf
      refine a_iload_n d_G_chosen_19 rfl ?_
      refine a_iconst d_G_chosen_20 ⟨by decide, by decide⟩ ?_
      refine a_bipush d_G_chosen_21 ⟨by decide, by decide⟩ (by decide) ?_
      refine b_callS (as := [vi x3, vi (0 : Int), vi (9 : Int)]) (st := []) (kc1 := 0) (ks1 := 0) (kc2 := kc) (ks2 := ks) (d' := d) ml_G_165 rfl d_G_chosen_23 rfl rfl (Nat.le_of_ble_eq_true rfl) rfl (Nat.le_refl _) (by omega) (by omega) ?_
      refine Ev.mono v ?_
      intro u h3 v
      obtain ⟨r3, rfl, v⟩ := ki_el v
      obtain ⟨hm3, v⟩ := v
      change Ev l D Y_G_chosen _ _ _ 26 [some (vr 20), some (vi x1), some (vi x2), some (vi x3)] [vi r3] _ _
      obtain ⟨vt, vf⟩ := v
      refine a_if_eq (tgt := 47) d_G_chosen_26 (by decide) (fun c => ?_) (fun c => ?_)
      · have v := vt (c); clear vt vf
        refine a_bipush d_G_chosen_47 ⟨by decide, by decide⟩ (by decide) ?_
        exact a_iret d_G_chosen_49 rfl v
      · have v := vf (c); clear vt vf
        refine a_aload_n d_G_chosen_29 rfl ?_
        refine a_getAe fl_G_11 d_G_chosen_30 (beq_iff_eq.mpr (KNG_20 hm3)) (KRG_20_0 hm3) ?_
        refine a_iload_n d_G_chosen_33 rfl ?_
        obtain ⟨c2, c3, v⟩ := v
        refine a_aald d_G_chosen_34 ⟨by rw [KNG_21 hm3]; decide, by rw [KNG_21 hm3]; decide⟩ c2 (lt_len (NNG_21 hm3) c3) ?_
        refine a_aload_n d_G_chosen_35 rfl ?_
        refine a_getAe fl_G_11 d_G_chosen_36 (beq_iff_eq.mpr (KNG_20 hm3)) (KRG_20_0 hm3) ?_
        refine a_iload_n d_G_chosen_39 rfl ?_
        obtain ⟨c5, c6, v⟩ := v
        refine a_aald d_G_chosen_40 ⟨by rw [KNG_21 hm3]; decide, by rw [KNG_21 hm3]; decide⟩ c5 (lt_len (NNG_21 hm3) c6) ?_
        obtain ⟨c15, v⟩ := v
        refine b_callV (as := [vr (xR h3 21 (x2).toNat)]) (b := (xR h3 21 (x1).toNat)) (st := []) (kd := 3) (kc1 := 0) (ks1 := 0) (kc2 := kc) (ks2 := ks) (d' := d) ml_G_84 rfl d_G_chosen_41 rfl rfl (Nat.le_of_ble_eq_true rfl) (by decide) rfl (Nat.le_refl _) (by omega) (by omega) c15 ?_
        refine Ev.mono v ?_
        intro u h4 v
        obtain ⟨r4, rfl, v⟩ := ki_el v
        obtain ⟨hm4, v⟩ := v
        change Ev l D Y_G_chosen _ _ _ 44 [some (vr 20), some (vi x1), some (vi x2), some (vi x3)] [vi r4] _ _
        obtain ⟨vt, vf⟩ := v
        refine a_if_ne (tgt := 50) d_G_chosen_44 (by decide) (fun c => ?_) (fun c => ?_)
        · have v := vt (c); clear vt vf
          refine a_aload_n d_G_chosen_50 rfl ?_
          refine a_aload_n d_G_chosen_51 rfl ?_
          refine a_getAe fl_G_11 d_G_chosen_52 (beq_iff_eq.mpr (KNG_20 hm4)) (KRG_20_0 hm4) ?_
          refine a_iload_n d_G_chosen_55 rfl ?_
          obtain ⟨c8, c9, v⟩ := v
          refine a_aald d_G_chosen_56 ⟨by rw [KNG_21 hm4]; decide, by rw [KNG_21 hm4]; decide⟩ c8 (lt_len (NNG_21 hm4) c9) ?_
          refine a_aload_n d_G_chosen_57 rfl ?_
          refine a_aload_n d_G_chosen_58 rfl ?_
          refine a_getAe fl_G_11 d_G_chosen_59 (beq_iff_eq.mpr (KNG_20 hm4)) (KRG_20_0 hm4) ?_
          refine a_iload_n d_G_chosen_62 rfl ?_
          obtain ⟨c11, c12, v⟩ := v
          refine a_aald d_G_chosen_63 ⟨by rw [KNG_21 hm4]; decide, by rw [KNG_21 hm4]; decide⟩ c11 (lt_len (NNG_21 hm4) c12) ?_
          refine a_iload_n d_G_chosen_64 rfl ?_
          refine b_callV (as := [vr (xR h4 21 (x2).toNat), vi x3]) (b := 20) (st := [vr (xR h4 21 (x1).toNat), vr 20]) (kd := 1) (kc1 := 0) (ks1 := 0) (kc2 := kc) (ks2 := ks) (d' := d) ml_G_270 rfl d_G_chosen_65 rfl rfl (Nat.le_of_ble_eq_true rfl) (by decide) rfl (Nat.le_refl _) (by omega) (by omega) (KNG_20 hm4) ?_
          refine Ev.mono v ?_
          intro u h5 v
          obtain ⟨r5, rfl, v⟩ := kr_el v
          obtain ⟨hm5, v⟩ := v
          change Ev l D Y_G_chosen _ _ _ 68 [some (vr 20), some (vi x1), some (vi x2), some (vi x3)] [vr r5, vr (xR h4 21 (x1).toNat), vr 20] _ _
          refine b_callV (as := [vr (xR h4 21 (x1).toNat), vr r5]) (b := 20) (st := []) (kd := 1) (kc1 := 0) (ks1 := 0) (kc2 := kc) (ks2 := ks) (d' := d) ml_G_274 rfl d_G_chosen_68 rfl rfl (Nat.le_of_ble_eq_true rfl) (by decide) rfl (Nat.le_refl _) (by omega) (by omega) (KNG_20 hm5) ?_
          refine Ev.mono v ?_
          intro u h6 v
          obtain ⟨r6, rfl, v⟩ := ki_el v
          obtain ⟨hm6, v⟩ := v
          change Ev l D Y_G_chosen _ _ _ 71 [some (vr 20), some (vi x1), some (vi x2), some (vi x3)] [vi r6] _ _
          exact a_iret d_G_chosen_71 rfl v
        · have v := vf (Classical.not_not.mp c); clear vt vf
          refine a_bipush d_G_chosen_47 ⟨by decide, by decide⟩ (by decide) ?_
          exact a_iret d_G_chosen_49 rfl v
    · have v := vf (Classical.not_not.mp c); clear vt vf
      refine a_bipush d_G_chosen_16 ⟨by decide, by decide⟩ (by decide) ?_
      exact a_iret d_G_chosen_18 rfl v
theorem d_G_about_0 : decode Y_G_about.2.1 0 = .ok (.aload_n 0, 1) := by decide +kernel
theorem d_G_about_1 : decode Y_G_about.2.1 1 = .ok (.iload_n 1, 1) := by decide +kernel
theorem d_G_about_2 : decode Y_G_about.2.1 2 = .ok (.invokevirtual 246, 3) := by decide +kernel
theorem d_G_about_5 : decode Y_G_about.2.1 5 = .ok (.ifCond .ne 6, 3) := by decide +kernel
theorem d_G_about_8 : decode Y_G_about.2.1 8 = .ok (.bipush (-101), 2) := by decide +kernel
theorem d_G_about_10 : decode Y_G_about.2.1 10 = .ok (.ireturn, 1) := by decide +kernel
theorem d_G_about_11 : decode Y_G_about.2.1 11 = .ok (.iload_n 2, 1) := by decide +kernel
theorem d_G_about_12 : decode Y_G_about.2.1 12 = .ok (.iconst 0, 1) := by decide +kernel
theorem d_G_about_13 : decode Y_G_about.2.1 13 = .ok (.iconst 4, 1) := by decide +kernel
theorem d_G_about_14 : decode Y_G_about.2.1 14 = .ok (.invokestatic 165, 3) := by decide +kernel
theorem d_G_about_17 : decode Y_G_about.2.1 17 = .ok (.ifCond .ne 6, 3) := by decide +kernel
theorem d_G_about_20 : decode Y_G_about.2.1 20 = .ok (.bipush (-102), 2) := by decide +kernel
theorem d_G_about_22 : decode Y_G_about.2.1 22 = .ok (.ireturn, 1) := by decide +kernel
theorem d_G_about_23 : decode Y_G_about.2.1 23 = .ok (.aload_n 0, 1) := by decide +kernel
theorem d_G_about_24 : decode Y_G_about.2.1 24 = .ok (.invokevirtual 260, 3) := by decide +kernel
theorem d_G_about_27 : decode Y_G_about.2.1 27 = .ok (.aload_n 0, 1) := by decide +kernel
theorem d_G_about_28 : decode Y_G_about.2.1 28 = .ok (.getfield 17, 3) := by decide +kernel
theorem d_G_about_31 : decode Y_G_about.2.1 31 = .ok (.iload_n 1, 1) := by decide +kernel
theorem d_G_about_32 : decode Y_G_about.2.1 32 = .ok (.aaload, 1) := by decide +kernel
theorem d_G_about_33 : decode Y_G_about.2.1 33 = .ok (.getfield 139, 3) := by decide +kernel
theorem d_G_about_36 : decode Y_G_about.2.1 36 = .ok (.istore_n 3, 1) := by decide +kernel
theorem d_G_about_37 : decode Y_G_about.2.1 37 = .ok (.iconst 0, 1) := by decide +kernel
theorem d_G_about_38 : decode Y_G_about.2.1 38 = .ok (.istore 4, 2) := by decide +kernel
theorem d_G_about_40 : decode Y_G_about.2.1 40 = .ok (.iload_n 2, 1) := by decide +kernel
theorem d_G_about_41 : decode Y_G_about.2.1 41 = .ok (.tableswitch 122 0 3 #[31, 41, 62, 108], 31) := by decide +kernel
theorem d_G_about_72 : decode Y_G_about.2.1 72 = .ok (.iload_n 3, 1) := by decide +kernel
theorem d_G_about_73 : decode Y_G_about.2.1 73 = .ok (.ifCond .eq 7, 3) := by decide +kernel
theorem d_G_about_76 : decode Y_G_about.2.1 76 = .ok (.iconst 1, 1) := by decide +kernel
theorem d_G_about_77 : decode Y_G_about.2.1 77 = .ok (.goto 4, 3) := by decide +kernel
theorem d_G_about_80 : decode Y_G_about.2.1 80 = .ok (.iconst 0, 1) := by decide +kernel
theorem d_G_about_81 : decode Y_G_about.2.1 81 = .ok (.ireturn, 1) := by decide +kernel
theorem d_G_about_82 : decode Y_G_about.2.1 82 = .ok (.iload_n 3, 1) := by decide +kernel
theorem d_G_about_83 : decode Y_G_about.2.1 83 = .ok (.ifCond .eq 18, 3) := by decide +kernel
theorem d_G_about_86 : decode Y_G_about.2.1 86 = .ok (.aload_n 0, 1) := by decide +kernel
theorem d_G_about_87 : decode Y_G_about.2.1 87 = .ok (.getfield 33, 3) := by decide +kernel
theorem d_G_about_90 : decode Y_G_about.2.1 90 = .ok (.iload_n 1, 1) := by decide +kernel
theorem d_G_about_91 : decode Y_G_about.2.1 91 = .ok (.aaload, 1) := by decide +kernel
theorem d_G_about_92 : decode Y_G_about.2.1 92 = .ok (.iload_n 1, 1) := by decide +kernel
theorem d_G_about_93 : decode Y_G_about.2.1 93 = .ok (.baload, 1) := by decide +kernel
theorem d_G_about_94 : decode Y_G_about.2.1 94 = .ok (.ifCond .eq 7, 3) := by decide +kernel
theorem d_G_about_97 : decode Y_G_about.2.1 97 = .ok (.iconst 1, 1) := by decide +kernel
theorem d_G_about_98 : decode Y_G_about.2.1 98 = .ok (.goto 4, 3) := by decide +kernel
theorem d_G_about_101 : decode Y_G_about.2.1 101 = .ok (.iconst 0, 1) := by decide +kernel
theorem d_G_about_102 : decode Y_G_about.2.1 102 = .ok (.ireturn, 1) := by decide +kernel
theorem d_G_about_103 : decode Y_G_about.2.1 103 = .ok (.iconst 0, 1) := by decide +kernel
theorem d_G_about_104 : decode Y_G_about.2.1 104 = .ok (.istore 5, 2) := by decide +kernel
theorem d_G_about_106 : decode Y_G_about.2.1 106 = .ok (.iload 5, 2) := by decide +kernel
theorem d_G_about_108 : decode Y_G_about.2.1 108 = .ok (.aload_n 0, 1) := by decide +kernel
theorem d_G_about_109 : decode Y_G_about.2.1 109 = .ok (.getfield 133, 3) := by decide +kernel
theorem d_G_about_112 : decode Y_G_about.2.1 112 = .ok (.if_icmp .ge 34, 3) := by decide +kernel
theorem d_G_about_115 : decode Y_G_about.2.1 115 = .ok (.iload 4, 2) := by decide +kernel
theorem d_G_about_117 : decode Y_G_about.2.1 117 = .ok (.aload_n 0, 1) := by decide +kernel
theorem d_G_about_118 : decode Y_G_about.2.1 118 = .ok (.aload_n 0, 1) := by decide +kernel
theorem d_G_about_119 : decode Y_G_about.2.1 119 = .ok (.getfield 17, 3) := by decide +kernel
theorem d_G_about_122 : decode Y_G_about.2.1 122 = .ok (.iload 5, 2) := by decide +kernel
theorem d_G_about_124 : decode Y_G_about.2.1 124 = .ok (.aaload, 1) := by decide +kernel
theorem d_G_about_125 : decode Y_G_about.2.1 125 = .ok (.iload_n 1, 1) := by decide +kernel
theorem d_G_about_126 : decode Y_G_about.2.1 126 = .ok (.invokevirtual 278, 3) := by decide +kernel
theorem d_G_about_129 : decode Y_G_about.2.1 129 = .ok (.ifCond .eq 7, 3) := by decide +kernel
theorem d_G_about_132 : decode Y_G_about.2.1 132 = .ok (.iconst 1, 1) := by decide +kernel
theorem d_G_about_133 : decode Y_G_about.2.1 133 = .ok (.goto 4, 3) := by decide +kernel
theorem d_G_about_136 : decode Y_G_about.2.1 136 = .ok (.iconst 0, 1) := by decide +kernel
theorem d_G_about_137 : decode Y_G_about.2.1 137 = .ok (.iadd, 1) := by decide +kernel
theorem d_G_about_138 : decode Y_G_about.2.1 138 = .ok (.istore 4, 2) := by decide +kernel
theorem d_G_about_140 : decode Y_G_about.2.1 140 = .ok (.iinc 5 1, 3) := by decide +kernel
theorem d_G_about_143 : decode Y_G_about.2.1 143 = .ok (.goto (-37), 3) := by decide +kernel
theorem d_G_about_146 : decode Y_G_about.2.1 146 = .ok (.iload 4, 2) := by decide +kernel
theorem d_G_about_148 : decode Y_G_about.2.1 148 = .ok (.ireturn, 1) := by decide +kernel
theorem d_G_about_149 : decode Y_G_about.2.1 149 = .ok (.iload_n 3, 1) := by decide +kernel
theorem d_G_about_150 : decode Y_G_about.2.1 150 = .ok (.ifCond .eq 11, 3) := by decide +kernel
theorem d_G_about_153 : decode Y_G_about.2.1 153 = .ok (.aload_n 0, 1) := by decide +kernel
theorem d_G_about_154 : decode Y_G_about.2.1 154 = .ok (.iload_n 1, 1) := by decide +kernel
theorem d_G_about_155 : decode Y_G_about.2.1 155 = .ok (.invokevirtual 282, 3) := by decide +kernel
theorem d_G_about_158 : decode Y_G_about.2.1 158 = .ok (.goto 4, 3) := by decide +kernel
theorem d_G_about_161 : decode Y_G_about.2.1 161 = .ok (.iconst 0, 1) := by decide +kernel
theorem d_G_about_162 : decode Y_G_about.2.1 162 = .ok (.ireturn, 1) := by decide +kernel
theorem d_G_about_163 : decode Y_G_about.2.1 163 = .ok (.iconst 0, 1) := by decide +kernel
theorem d_G_about_164 : decode Y_G_about.2.1 164 = .ok (.istore 5, 2) := by decide +kernel
theorem d_G_about_166 : decode Y_G_about.2.1 166 = .ok (.iload 5, 2) := by decide +kernel
theorem d_G_about_168 : decode Y_G_about.2.1 168 = .ok (.aload_n 0, 1) := by decide +kernel
theorem d_G_about_169 : decode Y_G_about.2.1 169 = .ok (.getfield 133, 3) := by decide +kernel
theorem d_G_about_172 : decode Y_G_about.2.1 172 = .ok (.if_icmp .ge 40, 3) := by decide +kernel
theorem d_G_about_175 : decode Y_G_about.2.1 175 = .ok (.iload_n 3, 1) := by decide +kernel
theorem d_G_about_176 : decode Y_G_about.2.1 176 = .ok (.ifCond .eq 36, 3) := by decide +kernel
theorem d_G_about_179 : decode Y_G_about.2.1 179 = .ok (.aload_n 0, 1) := by decide +kernel
theorem d_G_about_180 : decode Y_G_about.2.1 180 = .ok (.getfield 33, 3) := by decide +kernel
theorem d_G_about_183 : decode Y_G_about.2.1 183 = .ok (.iload_n 1, 1) := by decide +kernel
theorem d_G_about_184 : decode Y_G_about.2.1 184 = .ok (.aaload, 1) := by decide +kernel
theorem d_G_about_185 : decode Y_G_about.2.1 185 = .ok (.iload 5, 2) := by decide +kernel
theorem d_G_about_187 : decode Y_G_about.2.1 187 = .ok (.baload, 1) := by decide +kernel
theorem d_G_about_188 : decode Y_G_about.2.1 188 = .ok (.ifCond .eq 18, 3) := by decide +kernel
theorem d_G_about_191 : decode Y_G_about.2.1 191 = .ok (.aload_n 0, 1) := by decide +kernel
theorem d_G_about_192 : decode Y_G_about.2.1 192 = .ok (.getfield 33, 3) := by decide +kernel
theorem d_G_about_195 : decode Y_G_about.2.1 195 = .ok (.iload 5, 2) := by decide +kernel
theorem d_G_about_197 : decode Y_G_about.2.1 197 = .ok (.aaload, 1) := by decide +kernel
theorem d_G_about_198 : decode Y_G_about.2.1 198 = .ok (.iload_n 1, 1) := by decide +kernel
theorem d_G_about_199 : decode Y_G_about.2.1 199 = .ok (.baload, 1) := by decide +kernel
theorem d_G_about_200 : decode Y_G_about.2.1 200 = .ok (.ifCond .eq 6, 3) := by decide +kernel
theorem d_G_about_203 : decode Y_G_about.2.1 203 = .ok (.iload 5, 2) := by decide +kernel
theorem d_G_about_205 : decode Y_G_about.2.1 205 = .ok (.ireturn, 1) := by decide +kernel
theorem d_G_about_206 : decode Y_G_about.2.1 206 = .ok (.iinc 5 1, 3) := by decide +kernel
theorem d_G_about_209 : decode Y_G_about.2.1 209 = .ok (.goto (-43), 3) := by decide +kernel
theorem d_G_about_212 : decode Y_G_about.2.1 212 = .ok (.iconst (-1), 1) := by decide +kernel
theorem d_G_about_213 : decode Y_G_about.2.1 213 = .ok (.ireturn, 1) := by decide +kernel
theorem g_G_about_0 {l : Launch} {D : DD} {d kc ks : Nat} {h : Hp} {Φ : Option AV → Hp → Prop} {x1 : Int} {x2 : Int} (hM : GS h) (v : Ev l D Y_G_isMember d 0 0 0 [some (vr 20), some (vi x1)] [] h (ki (fun r1 h1 => GS h1 ∧ ((¬ r1 = 0 → (Ev l D Y_G_within d 0 0 0 [some (vi x2), some (vi (0 : Int)), some (vi (4 : Int))] [] h1 (ki (fun r2 h2 => GS h2 ∧ ((¬ r2 = 0 → (Ev l D Y_G_draw d 0 0 0 [some (vr 20), none, none, none, none] [] h2 (kv (fun h3 => GS h3 ∧ (0 ≤ x1 ∧ x1 < 48 ∧ (xK h3 (xR h3 22 (x1).toNat) = 4 ∧ ((x2 = (0 : Int) → ((xI h3 (xR h3 22 (x1).toNat) 7 = 0 → (Φ (some (vi (0 : Int))) h3)) ∧ (¬ xI h3 (xR h3 22 (x1).toNat) 7 = 0 → (Φ (some (vi (1 : Int))) h3)))) ∧ (x2 = (1 : Int) → ((xI h3 (xR h3 22 (x1).toNat) 7 = 0 → (Φ (some (vi (0 : Int))) h3)) ∧ (¬ xI h3 (xR h3 22 (x1).toNat) 7 = 0 → (0 ≤ x1 ∧ x1 < 48 ∧ (xK h3 (xR h3 30 (x1).toNat) = 21 ∧ 0 ≤ x1 ∧ x1 < xN h3 (xR h3 30 (x1).toNat) ∧ ((xI h3 (xR h3 30 (x1).toNat) (x1).toNat = 0 → (Φ (some (vi (0 : Int))) h3)) ∧ (¬ xI h3 (xR h3 30 (x1).toNat) (x1).toNat = 0 → (Φ (some (vi (1 : Int))) h3)))))))) ∧ (x2 = (2 : Int) → (Ev l D Y_G_about (d + 1) kc ks 106 [some (vr 20), some (vi x1), some (vi x2), some (vi (xI h3 (xR h3 22 (x1).toNat) 7)), some (vi (0 : Int)), some (vi (0 : Int))] [] h3 Φ)) ∧ (x2 = (3 : Int) → ((xI h3 (xR h3 22 (x1).toNat) 7 = 0 → (Φ (some (vi (0 : Int))) h3)) ∧ (¬ xI h3 (xR h3 22 (x1).toNat) 7 = 0 → (Ev l D Y_G_ring d 0 0 0 [some (vr 20), some (vi x1), none, none] [] h3 (ki (fun r3 h4 => GS h4 ∧ (Φ (some (vi r3)) h4))))))) ∧ (x2 < (0 : Int) ∨ (3 : Int) < x2 → (Ev l D Y_G_about (d + 1) kc ks 166 [some (vr 20), some (vi x1), some (vi x2), some (vi (xI h3 (xR h3 22 (x1).toNat) 7)), some (vi (0 : Int)), some (vi (0 : Int))] [] h3 Φ))))))))) ∧ (r2 = 0 → (Φ (some (vi (-102 : Int))) h2))))))) ∧ (r1 = 0 → (Φ (some (vi (-101 : Int))) h1)))))) : Ev l D Y_G_about (d + 1) kc ks 0 [some (vr 20), some (vi x1), some (vi x2), none, none, none] [] h Φ := by
  refine a_aload_n d_G_about_0 rfl ?_
  refine a_iload_n d_G_about_1 rfl ?_
  refine b_callV (as := [vi x1]) (b := 20) (st := []) (kd := 1) (kc1 := 0) (ks1 := 0) (kc2 := kc) (ks2 := ks) (d' := d) ml_G_246 rfl d_G_about_2 rfl rfl (Nat.le_of_ble_eq_true rfl) (by decide) rfl (Nat.le_refl _) (by omega) (by omega) (KNG_20 hM) ?_
  refine Ev.mono v ?_
  intro u h1 v
  obtain ⟨r1, rfl, v⟩ := ki_el v
  obtain ⟨hm1, v⟩ := v
  change Ev l D Y_G_about _ _ _ 5 [some (vr 20), some (vi x1), some (vi x2), none, none, none] [vi r1] _ _
  obtain ⟨vt, vf⟩ := v
  refine a_if_ne (tgt := 11) d_G_about_5 (by decide) (fun c => ?_) (fun c => ?_)
  · have v := vt (c); clear vt vf
    refine a_iload_n d_G_about_11 rfl ?_
    refine a_iconst d_G_about_12 ⟨by decide, by decide⟩ ?_
    refine a_iconst d_G_about_13 ⟨by decide, by decide⟩ ?_
    refine b_callS (as := [vi x2, vi (0 : Int), vi (4 : Int)]) (st := []) (kc1 := 0) (ks1 := 0) (kc2 := kc) (ks2 := ks) (d' := d) ml_G_165 rfl d_G_about_14 rfl rfl (Nat.le_of_ble_eq_true rfl) rfl (Nat.le_refl _) (by omega) (by omega) ?_
    refine Ev.mono v ?_
    intro u h2 v
    obtain ⟨r2, rfl, v⟩ := ki_el v
    obtain ⟨hm2, v⟩ := v
    change Ev l D Y_G_about _ _ _ 17 [some (vr 20), some (vi x1), some (vi x2), none, none, none] [vi r2] _ _
    obtain ⟨vt, vf⟩ := v
    refine a_if_ne (tgt := 23) d_G_about_17 (by decide) (fun c => ?_) (fun c => ?_)
    · have v := vt (c); clear vt vf
      refine a_aload_n d_G_about_23 rfl ?_
      refine b_callV (as := []) (b := 20) (st := []) (kd := 1) (kc1 := 0) (ks1 := 0) (kc2 := kc) (ks2 := ks) (d' := d) ml_G_260 rfl d_G_about_24 rfl rfl (Nat.le_of_ble_eq_true rfl) (by decide) rfl (Nat.le_refl _) (by omega) (by omega) (KNG_20 hm2) ?_
      refine Ev.mono v ?_
      intro u h3 v
      obtain ⟨rfl, v⟩ := kv_el v
      obtain ⟨hm3, v⟩ := v
      change Ev l D Y_G_about _ _ _ 27 [some (vr 20), some (vi x1), some (vi x2), none, none, none] [] _ _
      refine a_aload_n d_G_about_27 rfl ?_
      refine a_getAe fl_G_17 d_G_about_28 (beq_iff_eq.mpr (KNG_20 hm3)) (KRG_20_2 hm3) ?_
      refine a_iload_n d_G_about_31 rfl ?_
      obtain ⟨c2, c3, v⟩ := v
      refine a_aald d_G_about_32 ⟨by rw [KNG_22 hm3]; decide, by rw [KNG_22 hm3]; decide⟩ c2 (lt_len (NNG_22 hm3) c3) ?_
      obtain ⟨c4, v⟩ := v
      refine a_getZN fl_G_139 d_G_about_33 (beq_iff_eq.mpr c4) ?_
      refine a_istore_n (L' := [some (vr 20), some (vi x1), some (vi x2), some (vi (xI h3 (xR h3 22 (x1).toNat) 7)), none, none]) d_G_about_36 (Nat.le_of_ble_eq_true rfl) rfl rfl ?_
      refine a_iconst d_G_about_37 ⟨by decide, by decide⟩ ?_
      refine a_istore (L' := [some (vr 20), some (vi x1), some (vi x2), some (vi (xI h3 (xR h3 22 (x1).toNat) 7)), some (vi (0 : Int)), none]) d_G_about_38 (Nat.le_of_ble_eq_true rfl) rfl rfl ?_
      refine a_iload_n d_G_about_40 rfl ?_
      obtain ⟨v0, v1, v2, v3, vd⟩ := v
      refine a_tab (tgt := 163) [72, 82, 103, 149] d_G_about_41 (by decide) (by decide) (by decide) (fun c => ?_) (fun i t hi c => ?_)
      · have v := vd c; clear vd v0 v1 v2 v3
        refine a_iconst d_G_about_163 ⟨by decide, by decide⟩ ?_
        refine a_istore (L' := [some (vr 20), some (vi x1), some (vi x2), some (vi (xI h3 (xR h3 22 (x1).toNat) 7)), some (vi (0 : Int)), some (vi (0 : Int))]) d_G_about_164 (Nat.le_of_ble_eq_true rfl) rfl rfl ?_
        exact v
      · match i, hi, c with
        | 0, hi, c =>
          obtain rfl : 72 = t := Option.some.inj hi
          have v := v0 (by omega); clear vd v0 v1 v2 v3
          refine a_iload_n d_G_about_72 rfl ?_
          obtain ⟨vt, vf⟩ := v
          refine a_if_eq (tgt := 80) d_G_about_73 (by decide) (fun c => ?_) (fun c => ?_)
          · have v := vt (c); clear vt vf
            refine a_iconst d_G_about_80 ⟨by decide, by decide⟩ ?_
            exact a_iret d_G_about_81 rfl v
          · have v := vf (c); clear vt vf
            refine a_iconst d_G_about_76 ⟨by decide, by decide⟩ ?_
            refine a_goto (tgt := 81) d_G_about_77 (by decide) ?_
            exact a_iret d_G_about_81 rfl v
        | 1, hi, c =>
          obtain rfl : 82 = t := Option.some.inj hi
          have v := v1 (by omega); clear vd v0 v1 v2 v3
          refine a_iload_n d_G_about_82 rfl ?_
          obtain ⟨vt, vf⟩ := v
          refine a_if_eq (tgt := 101) d_G_about_83 (by decide) (fun c => ?_) (fun c => ?_)
          · have v := vt (c); clear vt vf
            refine a_iconst d_G_about_101 ⟨by decide, by decide⟩ ?_
            exact a_iret d_G_about_102 rfl v
          · have v := vf (c); clear vt vf
            refine a_aload_n d_G_about_86 rfl ?_
            refine a_getAe fl_G_33 d_G_about_87 (beq_iff_eq.mpr (KNG_20 hm3)) (KRG_20_12 hm3) ?_
            refine a_iload_n d_G_about_90 rfl ?_
            obtain ⟨c6, c7, v⟩ := v
            refine a_aald d_G_about_91 ⟨by rw [KNG_30 hm3]; decide, by rw [KNG_30 hm3]; decide⟩ c6 (lt_len (NNG_30 hm3) c7) ?_
            refine a_iload_n d_G_about_92 rfl ?_
            obtain ⟨c8, c9, c10, v⟩ := v
            refine a_zald d_G_about_93 c8 c9 c10 ?_
            obtain ⟨vt, vf⟩ := v
            refine a_if_eq (tgt := 101) d_G_about_94 (by decide) (fun c => ?_) (fun c => ?_)
            · have v := vt (c); clear vt vf
              refine a_iconst d_G_about_101 ⟨by decide, by decide⟩ ?_
              exact a_iret d_G_about_102 rfl v
            · have v := vf (c); clear vt vf
              refine a_iconst d_G_about_97 ⟨by decide, by decide⟩ ?_
              refine a_goto (tgt := 102) d_G_about_98 (by decide) ?_
              exact a_iret d_G_about_102 rfl v
        | 2, hi, c =>
          obtain rfl : 103 = t := Option.some.inj hi
          have v := v2 (by omega); clear vd v0 v1 v2 v3
          refine a_iconst d_G_about_103 ⟨by decide, by decide⟩ ?_
          refine a_istore (L' := [some (vr 20), some (vi x1), some (vi x2), some (vi (xI h3 (xR h3 22 (x1).toNat) 7)), some (vi (0 : Int)), some (vi (0 : Int))]) d_G_about_104 (Nat.le_of_ble_eq_true rfl) rfl rfl ?_
          exact v
        | 3, hi, c =>
          obtain rfl : 149 = t := Option.some.inj hi
          have v := v3 (by omega); clear vd v0 v1 v2 v3
          refine a_iload_n d_G_about_149 rfl ?_
          obtain ⟨vt, vf⟩ := v
          refine a_if_eq (tgt := 161) d_G_about_150 (by decide) (fun c => ?_) (fun c => ?_)
          · have v := vt (c); clear vt vf
            refine a_iconst d_G_about_161 ⟨by decide, by decide⟩ ?_
            exact a_iret d_G_about_162 rfl v
          · have v := vf (c); clear vt vf
            refine a_aload_n d_G_about_153 rfl ?_
            refine a_iload_n d_G_about_154 rfl ?_
            refine b_callV (as := [vi x1]) (b := 20) (st := []) (kd := 1) (kc1 := 0) (ks1 := 0) (kc2 := kc) (ks2 := ks) (d' := d) ml_G_282 rfl d_G_about_155 rfl rfl (Nat.le_of_ble_eq_true rfl) (by decide) rfl (Nat.le_refl _) (by omega) (by omega) (KNG_20 hm3) ?_
            refine Ev.mono v ?_
            intro u h4 v
            obtain ⟨r3, rfl, v⟩ := ki_el v
            obtain ⟨hm4, v⟩ := v
            change Ev l D Y_G_about _ _ _ 158 [some (vr 20), some (vi x1), some (vi x2), some (vi (xI h3 (xR h3 22 (x1).toNat) 7)), some (vi (0 : Int)), none] [vi r3] _ _
            refine a_goto (tgt := 162) d_G_about_158 (by decide) ?_
            exact a_iret d_G_about_162 rfl v
        | i + 4, hi, c => exact absurd hi (by simp)
    · have v := vf (Classical.not_not.mp c); clear vt vf
      refine a_bipush d_G_about_20 ⟨by decide, by decide⟩ (by decide) ?_
      exact a_iret d_G_about_22 rfl v
  · have v := vf (Classical.not_not.mp c); clear vt vf
    refine a_bipush d_G_about_8 ⟨by decide, by decide⟩ (by decide) ?_
    exact a_iret d_G_about_10 rfl v
theorem g_G_about_106 {l : Launch} {D : DD} {d kc ks : Nat} {h : Hp} {Φ : Option AV → Hp → Prop} {x1 : Int} {x2 : Int} {x3 : Int} {x4 : Int} {x5 : Int} (hM : GS h) (v : (x5 ≥ xI h 20 3 → (Φ (some (vi x4)) h)) ∧ (x5 < xI h 20 3 → (0 ≤ x5 ∧ x5 < 48 ∧ (Ev l D Y_G_calls d 0 0 0 [some (vr 20), some (vr (xR h 22 (x5).toNat)), some (vi x1), none, none] [] h (ki (fun r1 h1 => GS h1 ∧ ((r1 = 0 → (Ev l D Y_G_about (d + 1) kc ks 106 [some (vr 20), some (vi x1), some (vi x2), some (vi x3), some (vi (wr (x4 + (0 : Int)))), some (vi (wr (x5 + (1 : Int))))] [] h1 Φ)) ∧ (¬ r1 = 0 → (Ev l D Y_G_about (d + 1) kc ks 106 [some (vr 20), some (vi x1), some (vi x2), some (vi x3), some (vi (wr (x4 + (1 : Int)))), some (vi (wr (x5 + (1 : Int))))] [] h1 Φ))))))))) : Ev l D Y_G_about (d + 1) kc ks 106 [some (vr 20), some (vi x1), some (vi x2), some (vi x3), some (vi x4), some (vi x5)] [] h Φ := by
  refine a_iload d_G_about_106 rfl ?_
  refine a_aload_n d_G_about_108 rfl ?_
  refine a_getI fl_G_133 d_G_about_109 (beq_iff_eq.mpr (KNG_20 hM)) ?_
  obtain ⟨vt, vf⟩ := v
  refine a_icmp_ge (tgt := 146) d_G_about_112 (by decide) (fun c => ?_) (fun c => ?_)
  · have v := vt (c); clear vt vf
    refine a_iload d_G_about_146 rfl ?_
    exact a_iret d_G_about_148 rfl v
  · have v := vf (Int.not_le.mp c); clear vt vf
    refine a_iload d_G_about_115 rfl ?_
    refine a_aload_n d_G_about_117 rfl ?_
    refine a_aload_n d_G_about_118 rfl ?_
    refine a_getAe fl_G_17 d_G_about_119 (beq_iff_eq.mpr (KNG_20 hM)) (KRG_20_2 hM) ?_
    refine a_iload d_G_about_122 rfl ?_
    obtain ⟨c2, c3, v⟩ := v
    refine a_aald d_G_about_124 ⟨by rw [KNG_22 hM]; decide, by rw [KNG_22 hM]; decide⟩ c2 (lt_len (NNG_22 hM) c3) ?_
    refine a_iload_n d_G_about_125 rfl ?_
    refine b_callV (as := [vr (xR h 22 (x5).toNat), vi x1]) (b := 20) (st := [vi x4]) (kd := 1) (kc1 := 0) (ks1 := 0) (kc2 := kc) (ks2 := ks) (d' := d) ml_G_278 rfl d_G_about_126 rfl rfl (Nat.le_of_ble_eq_true rfl) (by decide) rfl (Nat.le_refl _) (by omega) (by omega) (KNG_20 hM) ?_
    refine Ev.mono v ?_
    intro u h1 v
    obtain ⟨r1, rfl, v⟩ := ki_el v
    obtain ⟨hm1, v⟩ := v
    change Ev l D Y_G_about _ _ _ 129 [some (vr 20), some (vi x1), some (vi x2), some (vi x3), some (vi x4), some (vi x5)] [vi r1, vi x4] _ _
    obtain ⟨vt, vf⟩ := v
    refine a_if_eq (tgt := 136) d_G_about_129 (by decide) (fun c => ?_) (fun c => ?_)
    · have v := vt (c); clear vt vf
      refine a_iconst d_G_about_136 ⟨by decide, by decide⟩ ?_
      refine a_iadd d_G_about_137 ?_
      refine a_istore (L' := [some (vr 20), some (vi x1), some (vi x2), some (vi x3), some (vi (wr (x4 + (0 : Int)))), some (vi x5)]) d_G_about_138 (Nat.le_of_ble_eq_true rfl) rfl rfl ?_
      refine a_iinc (L' := [some (vr 20), some (vi x1), some (vi x2), some (vi x3), some (vi (wr (x4 + (0 : Int)))), some (vi (wr (x5 + (1 : Int))))]) d_G_about_140 rfl (Nat.le_of_ble_eq_true rfl) rfl rfl ?_
      refine a_goto (tgt := 106) d_G_about_143 (by decide) ?_
      exact v
    · have v := vf (c); clear vt vf
      refine a_iconst d_G_about_132 ⟨by decide, by decide⟩ ?_
      refine a_goto (tgt := 137) d_G_about_133 (by decide) ?_
      refine a_iadd d_G_about_137 ?_
      refine a_istore (L' := [some (vr 20), some (vi x1), some (vi x2), some (vi x3), some (vi (wr (x4 + (1 : Int)))), some (vi x5)]) d_G_about_138 (Nat.le_of_ble_eq_true rfl) rfl rfl ?_
      refine a_iinc (L' := [some (vr 20), some (vi x1), some (vi x2), some (vi x3), some (vi (wr (x4 + (1 : Int)))), some (vi (wr (x5 + (1 : Int))))]) d_G_about_140 rfl (Nat.le_of_ble_eq_true rfl) rfl rfl ?_
      refine a_goto (tgt := 106) d_G_about_143 (by decide) ?_
      exact v
theorem g_G_about_166 {l : Launch} {D : DD} {d kc ks : Nat} {h : Hp} {Φ : Option AV → Hp → Prop} {x1 : Int} {x2 : Int} {x3 : Int} {x4 : Int} {x5 : Int} (hM : GS h) (v : (x5 ≥ xI h 20 3 → (Φ (some (vi (-1 : Int))) h)) ∧ (x5 < xI h 20 3 → ((x3 = 0 → (Φ (some (vi (-1 : Int))) h)) ∧ (¬ x3 = 0 → (0 ≤ x1 ∧ x1 < 48 ∧ (xK h (xR h 30 (x1).toNat) = 21 ∧ 0 ≤ x5 ∧ x5 < xN h (xR h 30 (x1).toNat) ∧ ((xI h (xR h 30 (x1).toNat) (x5).toNat = 0 → (Ev l D Y_G_about (d + 1) kc ks 166 [some (vr 20), some (vi x1), some (vi x2), some (vi x3), some (vi x4), some (vi (wr (x5 + (1 : Int))))] [] h Φ)) ∧ (¬ xI h (xR h 30 (x1).toNat) (x5).toNat = 0 → (0 ≤ x5 ∧ x5 < 48 ∧ (xK h (xR h 30 (x5).toNat) = 21 ∧ 0 ≤ x1 ∧ x1 < xN h (xR h 30 (x5).toNat) ∧ ((xI h (xR h 30 (x5).toNat) (x1).toNat = 0 → (Ev l D Y_G_about (d + 1) kc ks 166 [some (vr 20), some (vi x1), some (vi x2), some (vi x3), some (vi x4), some (vi (wr (x5 + (1 : Int))))] [] h Φ)) ∧ (¬ xI h (xR h 30 (x5).toNat) (x1).toNat = 0 → (Φ (some (vi x5)) h))))))))))))) : Ev l D Y_G_about (d + 1) kc ks 166 [some (vr 20), some (vi x1), some (vi x2), some (vi x3), some (vi x4), some (vi x5)] [] h Φ := by
  refine a_iload d_G_about_166 rfl ?_
  refine a_aload_n d_G_about_168 rfl ?_
  refine a_getI fl_G_133 d_G_about_169 (beq_iff_eq.mpr (KNG_20 hM)) ?_
  obtain ⟨vt, vf⟩ := v
  refine a_icmp_ge (tgt := 212) d_G_about_172 (by decide) (fun c => ?_) (fun c => ?_)
  · have v := vt (c); clear vt vf
    refine a_iconst d_G_about_212 ⟨by decide, by decide⟩ ?_
    exact a_iret d_G_about_213 rfl v
  · have v := vf (Int.not_le.mp c); clear vt vf
    refine a_iload_n d_G_about_175 rfl ?_
    obtain ⟨vt, vf⟩ := v
    refine a_if_eq (tgt := 212) d_G_about_176 (by decide) (fun c => ?_) (fun c => ?_)
    · have v := vt (c); clear vt vf
      refine a_iconst d_G_about_212 ⟨by decide, by decide⟩ ?_
      exact a_iret d_G_about_213 rfl v
    · have v := vf (c); clear vt vf
      refine a_aload_n d_G_about_179 rfl ?_
      refine a_getAe fl_G_33 d_G_about_180 (beq_iff_eq.mpr (KNG_20 hM)) (KRG_20_12 hM) ?_
      refine a_iload_n d_G_about_183 rfl ?_
      obtain ⟨c2, c3, v⟩ := v
      refine a_aald d_G_about_184 ⟨by rw [KNG_30 hM]; decide, by rw [KNG_30 hM]; decide⟩ c2 (lt_len (NNG_30 hM) c3) ?_
      refine a_iload d_G_about_185 rfl ?_
      obtain ⟨c4, c5, c6, v⟩ := v
      refine a_zald d_G_about_187 c4 c5 c6 ?_
      obtain ⟨vt, vf⟩ := v
      refine a_if_eq (tgt := 206) d_G_about_188 (by decide) (fun c => ?_) (fun c => ?_)
      · have v := vt (c); clear vt vf
        refine a_iinc (L' := [some (vr 20), some (vi x1), some (vi x2), some (vi x3), some (vi x4), some (vi (wr (x5 + (1 : Int))))]) d_G_about_206 rfl (Nat.le_of_ble_eq_true rfl) rfl rfl ?_
        refine a_goto (tgt := 166) d_G_about_209 (by decide) ?_
        exact v
      · have v := vf (c); clear vt vf
        refine a_aload_n d_G_about_191 rfl ?_
        refine a_getAe fl_G_33 d_G_about_192 (beq_iff_eq.mpr (KNG_20 hM)) (KRG_20_12 hM) ?_
        refine a_iload d_G_about_195 rfl ?_
        obtain ⟨c8, c9, v⟩ := v
        refine a_aald d_G_about_197 ⟨by rw [KNG_30 hM]; decide, by rw [KNG_30 hM]; decide⟩ c8 (lt_len (NNG_30 hM) c9) ?_
        refine a_iload_n d_G_about_198 rfl ?_
        obtain ⟨c10, c11, c12, v⟩ := v
        refine a_zald d_G_about_199 c10 c11 c12 ?_
        obtain ⟨vt, vf⟩ := v
        refine a_if_eq (tgt := 206) d_G_about_200 (by decide) (fun c => ?_) (fun c => ?_)
        · have v := vt (c); clear vt vf
          refine a_iinc (L' := [some (vr 20), some (vi x1), some (vi x2), some (vi x3), some (vi x4), some (vi (wr (x5 + (1 : Int))))]) d_G_about_206 rfl (Nat.le_of_ble_eq_true rfl) rfl rfl ?_
          refine a_goto (tgt := 166) d_G_about_209 (by decide) ?_
          exact v
        · have v := vf (c); clear vt vf
          refine a_iload d_G_about_203 rfl ?_
          exact a_iret d_G_about_205 rfl v
theorem d_G_made_0 : decode Y_G_made.2.1 0 = .ok (.aload_n 0, 1) := by decide +kernel
theorem d_G_made_1 : decode Y_G_made.2.1 1 = .ok (.iload_n 1, 1) := by decide +kernel
theorem d_G_made_2 : decode Y_G_made.2.1 2 = .ok (.invokevirtual 169, 3) := by decide +kernel
theorem d_G_made_5 : decode Y_G_made.2.1 5 = .ok (.ifCond .ne 6, 3) := by decide +kernel
theorem d_G_made_8 : decode Y_G_made.2.1 8 = .ok (.bipush (-101), 2) := by decide +kernel
theorem d_G_made_10 : decode Y_G_made.2.1 10 = .ok (.ireturn, 1) := by decide +kernel
theorem d_G_made_11 : decode Y_G_made.2.1 11 = .ok (.iload_n 2, 1) := by decide +kernel
theorem d_G_made_12 : decode Y_G_made.2.1 12 = .ok (.iconst 0, 1) := by decide +kernel
theorem d_G_made_13 : decode Y_G_made.2.1 13 = .ok (.iconst 1, 1) := by decide +kernel
theorem d_G_made_14 : decode Y_G_made.2.1 14 = .ok (.invokestatic 165, 3) := by decide +kernel
theorem d_G_made_17 : decode Y_G_made.2.1 17 = .ok (.ifCond .ne 6, 3) := by decide +kernel
theorem d_G_made_20 : decode Y_G_made.2.1 20 = .ok (.bipush (-102), 2) := by decide +kernel
theorem d_G_made_22 : decode Y_G_made.2.1 22 = .ok (.ireturn, 1) := by decide +kernel
theorem d_G_made_23 : decode Y_G_made.2.1 23 = .ok (.aload_n 0, 1) := by decide +kernel
theorem d_G_made_24 : decode Y_G_made.2.1 24 = .ok (.invokevirtual 260, 3) := by decide +kernel
theorem d_G_made_27 : decode Y_G_made.2.1 27 = .ok (.iload_n 2, 1) := by decide +kernel
theorem d_G_made_28 : decode Y_G_made.2.1 28 = .ok (.ifCond .ne 15, 3) := by decide +kernel
theorem d_G_made_31 : decode Y_G_made.2.1 31 = .ok (.aload_n 0, 1) := by decide +kernel
theorem d_G_made_32 : decode Y_G_made.2.1 32 = .ok (.getfield 21, 3) := by decide +kernel
theorem d_G_made_35 : decode Y_G_made.2.1 35 = .ok (.iload_n 1, 1) := by decide +kernel
theorem d_G_made_36 : decode Y_G_made.2.1 36 = .ok (.baload, 1) := by decide +kernel
theorem d_G_made_37 : decode Y_G_made.2.1 37 = .ok (.ifCond .eq 19, 3) := by decide +kernel
theorem d_G_made_40 : decode Y_G_made.2.1 40 = .ok (.goto 12, 3) := by decide +kernel
theorem d_G_made_43 : decode Y_G_made.2.1 43 = .ok (.aload_n 0, 1) := by decide +kernel
theorem d_G_made_44 : decode Y_G_made.2.1 44 = .ok (.getfield 25, 3) := by decide +kernel
theorem d_G_made_47 : decode Y_G_made.2.1 47 = .ok (.iload_n 1, 1) := by decide +kernel
theorem d_G_made_48 : decode Y_G_made.2.1 48 = .ok (.baload, 1) := by decide +kernel
theorem d_G_made_49 : decode Y_G_made.2.1 49 = .ok (.ifCond .eq 7, 3) := by decide +kernel
theorem d_G_made_52 : decode Y_G_made.2.1 52 = .ok (.iconst 1, 1) := by decide +kernel
theorem d_G_made_53 : decode Y_G_made.2.1 53 = .ok (.goto 4, 3) := by decide +kernel
theorem d_G_made_56 : decode Y_G_made.2.1 56 = .ok (.iconst 0, 1) := by decide +kernel
theorem d_G_made_57 : decode Y_G_made.2.1 57 = .ok (.ireturn, 1) := by decide +kernel
theorem g_G_made_0 {l : Launch} {D : DD} {d kc ks : Nat} {h : Hp} {Φ : Option AV → Hp → Prop} {x1 : Int} {x2 : Int} (hM : GS h) (v : Ev l D Y_G_isType d 0 0 0 [some (vr 20), some (vi x1)] [] h (ki (fun r1 h1 => GS h1 ∧ ((¬ r1 = 0 → (Ev l D Y_G_within d 0 0 0 [some (vi x2), some (vi (0 : Int)), some (vi (1 : Int))] [] h1 (ki (fun r2 h2 => GS h2 ∧ ((¬ r2 = 0 → (Ev l D Y_G_draw d 0 0 0 [some (vr 20), none, none, none, none] [] h2 (kv (fun h3 => GS h3 ∧ ((¬ x2 = 0 → (0 ≤ x1 ∧ x1 < 16 ∧ ((xI h3 24 (x1).toNat = 0 → (Φ (some (vi (0 : Int))) h3)) ∧ (¬ xI h3 24 (x1).toNat = 0 → (Φ (some (vi (1 : Int))) h3))))) ∧ (x2 = 0 → (0 ≤ x1 ∧ x1 < 16 ∧ ((xI h3 23 (x1).toNat = 0 → (Φ (some (vi (0 : Int))) h3)) ∧ (¬ xI h3 23 (x1).toNat = 0 → (Φ (some (vi (1 : Int))) h3)))))))))) ∧ (r2 = 0 → (Φ (some (vi (-102 : Int))) h2))))))) ∧ (r1 = 0 → (Φ (some (vi (-101 : Int))) h1)))))) : Ev l D Y_G_made (d + 1) kc ks 0 [some (vr 20), some (vi x1), some (vi x2)] [] h Φ := by
  refine a_aload_n d_G_made_0 rfl ?_
  refine a_iload_n d_G_made_1 rfl ?_
  refine b_callV (as := [vi x1]) (b := 20) (st := []) (kd := 1) (kc1 := 0) (ks1 := 0) (kc2 := kc) (ks2 := ks) (d' := d) ml_G_169 rfl d_G_made_2 rfl rfl (Nat.le_of_ble_eq_true rfl) (by decide) rfl (Nat.le_refl _) (by omega) (by omega) (KNG_20 hM) ?_
  refine Ev.mono v ?_
  intro u h1 v
  obtain ⟨r1, rfl, v⟩ := ki_el v
  obtain ⟨hm1, v⟩ := v
  change Ev l D Y_G_made _ _ _ 5 [some (vr 20), some (vi x1), some (vi x2)] [vi r1] _ _
  obtain ⟨vt, vf⟩ := v
  refine a_if_ne (tgt := 11) d_G_made_5 (by decide) (fun c => ?_) (fun c => ?_)
  · have v := vt (c); clear vt vf
    refine a_iload_n d_G_made_11 rfl ?_
    refine a_iconst d_G_made_12 ⟨by decide, by decide⟩ ?_
    refine a_iconst d_G_made_13 ⟨by decide, by decide⟩ ?_
    refine b_callS (as := [vi x2, vi (0 : Int), vi (1 : Int)]) (st := []) (kc1 := 0) (ks1 := 0) (kc2 := kc) (ks2 := ks) (d' := d) ml_G_165 rfl d_G_made_14 rfl rfl (Nat.le_of_ble_eq_true rfl) rfl (Nat.le_refl _) (by omega) (by omega) ?_
    refine Ev.mono v ?_
    intro u h2 v
    obtain ⟨r2, rfl, v⟩ := ki_el v
    obtain ⟨hm2, v⟩ := v
    change Ev l D Y_G_made _ _ _ 17 [some (vr 20), some (vi x1), some (vi x2)] [vi r2] _ _
    obtain ⟨vt, vf⟩ := v
    refine a_if_ne (tgt := 23) d_G_made_17 (by decide) (fun c => ?_) (fun c => ?_)
    · have v := vt (c); clear vt vf
      refine a_aload_n d_G_made_23 rfl ?_
      refine b_callV (as := []) (b := 20) (st := []) (kd := 1) (kc1 := 0) (ks1 := 0) (kc2 := kc) (ks2 := ks) (d' := d) ml_G_260 rfl d_G_made_24 rfl rfl (Nat.le_of_ble_eq_true rfl) (by decide) rfl (Nat.le_refl _) (by omega) (by omega) (KNG_20 hm2) ?_
      refine Ev.mono v ?_
      intro u h3 v
      obtain ⟨rfl, v⟩ := kv_el v
      obtain ⟨hm3, v⟩ := v
      change Ev l D Y_G_made _ _ _ 27 [some (vr 20), some (vi x1), some (vi x2)] [] _ _
      refine a_iload_n d_G_made_27 rfl ?_
      obtain ⟨vt, vf⟩ := v
      refine a_if_ne (tgt := 43) d_G_made_28 (by decide) (fun c => ?_) (fun c => ?_)
      · have v := vt (c); clear vt vf
        refine a_aload_n d_G_made_43 rfl ?_
        refine a_getAe fl_G_25 d_G_made_44 (beq_iff_eq.mpr (KNG_20 hm3)) (KRG_20_10 hm3) ?_
        refine a_iload_n d_G_made_47 rfl ?_
        obtain ⟨c2, c3, v⟩ := v
        refine a_zald d_G_made_48 (KNG_24 hm3) c2 (lt_len (NNG_24 hm3) c3) ?_
        obtain ⟨vt, vf⟩ := v
        refine a_if_eq (tgt := 56) d_G_made_49 (by decide) (fun c => ?_) (fun c => ?_)
        · have v := vt (c); clear vt vf
          refine a_iconst d_G_made_56 ⟨by decide, by decide⟩ ?_
          exact a_iret d_G_made_57 rfl v
        · have v := vf (c); clear vt vf
          refine a_iconst d_G_made_52 ⟨by decide, by decide⟩ ?_
          refine a_goto (tgt := 57) d_G_made_53 (by decide) ?_
          exact a_iret d_G_made_57 rfl v
      · have v := vf (Classical.not_not.mp c); clear vt vf
        refine a_aload_n d_G_made_31 rfl ?_
        refine a_getAe fl_G_21 d_G_made_32 (beq_iff_eq.mpr (KNG_20 hm3)) (KRG_20_9 hm3) ?_
        refine a_iload_n d_G_made_35 rfl ?_
        obtain ⟨c5, c6, v⟩ := v
        refine a_zald d_G_made_36 (KNG_23 hm3) c5 (lt_len (NNG_23 hm3) c6) ?_
        obtain ⟨vt, vf⟩ := v
        refine a_if_eq (tgt := 56) d_G_made_37 (by decide) (fun c => ?_) (fun c => ?_)
        · have v := vt (c); clear vt vf
          refine a_iconst d_G_made_56 ⟨by decide, by decide⟩ ?_
          exact a_iret d_G_made_57 rfl v
        · have v := vf (c); clear vt vf
          refine a_goto (tgt := 52) d_G_made_40 (by decide) ?_
          refine a_iconst d_G_made_52 ⟨by decide, by decide⟩ ?_
          refine a_goto (tgt := 57) d_G_made_53 (by decide) ?_
          exact a_iret d_G_made_57 rfl v
    · have v := vf (Classical.not_not.mp c); clear vt vf
      refine a_bipush d_G_made_20 ⟨by decide, by decide⟩ (by decide) ?_
      exact a_iret d_G_made_22 rfl v
  · have v := vf (Classical.not_not.mp c); clear vt vf
    refine a_bipush d_G_made_8 ⟨by decide, by decide⟩ (by decide) ?_
    exact a_iret d_G_made_10 rfl v
theorem d_G_isOp_0 : decode Y_G_isOp.2.1 0 = .ok (.aload_n 0, 1) := by decide +kernel
theorem d_G_isOp_1 : decode Y_G_isOp.2.1 1 = .ok (.iload_n 1, 1) := by decide +kernel
theorem d_G_isOp_2 : decode Y_G_isOp.2.1 2 = .ok (.invokevirtual 246, 3) := by decide +kernel
theorem d_G_isOp_5 : decode Y_G_isOp.2.1 5 = .ok (.ifCond .eq 26, 3) := by decide +kernel
theorem d_G_isOp_8 : decode Y_G_isOp.2.1 8 = .ok (.iload_n 2, 1) := by decide +kernel
theorem d_G_isOp_9 : decode Y_G_isOp.2.1 9 = .ok (.iconst 0, 1) := by decide +kernel
theorem d_G_isOp_10 : decode Y_G_isOp.2.1 10 = .ok (.aload_n 0, 1) := by decide +kernel
theorem d_G_isOp_11 : decode Y_G_isOp.2.1 11 = .ok (.getfield 17, 3) := by decide +kernel
theorem d_G_isOp_14 : decode Y_G_isOp.2.1 14 = .ok (.iload_n 1, 1) := by decide +kernel
theorem d_G_isOp_15 : decode Y_G_isOp.2.1 15 = .ok (.aaload, 1) := by decide +kernel
theorem d_G_isOp_16 : decode Y_G_isOp.2.1 16 = .ok (.getfield 142, 3) := by decide +kernel
theorem d_G_isOp_19 : decode Y_G_isOp.2.1 19 = .ok (.iconst 1, 1) := by decide +kernel
theorem d_G_isOp_20 : decode Y_G_isOp.2.1 20 = .ok (.isub, 1) := by decide +kernel
theorem d_G_isOp_21 : decode Y_G_isOp.2.1 21 = .ok (.invokestatic 165, 3) := by decide +kernel
theorem d_G_isOp_24 : decode Y_G_isOp.2.1 24 = .ok (.ifCond .eq 7, 3) := by decide +kernel
theorem d_G_isOp_27 : decode Y_G_isOp.2.1 27 = .ok (.iconst 1, 1) := by decide +kernel
theorem d_G_isOp_28 : decode Y_G_isOp.2.1 28 = .ok (.goto 4, 3) := by decide +kernel
theorem d_G_isOp_31 : decode Y_G_isOp.2.1 31 = .ok (.iconst 0, 1) := by decide +kernel
theorem d_G_isOp_32 : decode Y_G_isOp.2.1 32 = .ok (.ireturn, 1) := by decide +kernel
theorem g_G_isOp_0 {l : Launch} {D : DD} {d kc ks : Nat} {h : Hp} {Φ : Option AV → Hp → Prop} {x1 : Int} {x2 : Int} (hM : GS h) (v : Ev l D Y_G_isMember d 0 0 0 [some (vr 20), some (vi x1)] [] h (ki (fun r1 h1 => GS h1 ∧ ((r1 = 0 → (Φ (some (vi (0 : Int))) h1)) ∧ (¬ r1 = 0 → (0 ≤ x1 ∧ x1 < 48 ∧ (xK h1 (xR h1 22 (x1).toNat) = 4 ∧ (Ev l D Y_G_within d 0 0 0 [some (vi x2), some (vi (0 : Int)), some (vi (wr ((xI h1 (xR h1 22 (x1).toNat) 5) - (1 : Int))))] [] h1 (ki (fun r2 h2 => GS h2 ∧ ((r2 = 0 → (Φ (some (vi (0 : Int))) h2)) ∧ (¬ r2 = 0 → (Φ (some (vi (1 : Int))) h2))))))))))))) : Ev l D Y_G_isOp (d + 1) kc ks 0 [some (vr 20), some (vi x1), some (vi x2)] [] h Φ := by
  refine a_aload_n d_G_isOp_0 rfl ?_
  refine a_iload_n d_G_isOp_1 rfl ?_
  refine b_callV (as := [vi x1]) (b := 20) (st := []) (kd := 1) (kc1 := 0) (ks1 := 0) (kc2 := kc) (ks2 := ks) (d' := d) ml_G_246 rfl d_G_isOp_2 rfl rfl (Nat.le_of_ble_eq_true rfl) (by decide) rfl (Nat.le_refl _) (by omega) (by omega) (KNG_20 hM) ?_
  refine Ev.mono v ?_
  intro u h1 v
  obtain ⟨r1, rfl, v⟩ := ki_el v
  obtain ⟨hm1, v⟩ := v
  change Ev l D Y_G_isOp _ _ _ 5 [some (vr 20), some (vi x1), some (vi x2)] [vi r1] _ _
  obtain ⟨vt, vf⟩ := v
  refine a_if_eq (tgt := 31) d_G_isOp_5 (by decide) (fun c => ?_) (fun c => ?_)
  · have v := vt (c); clear vt vf
    refine a_iconst d_G_isOp_31 ⟨by decide, by decide⟩ ?_
    exact a_zret d_G_isOp_32 rfl (Or.inl rfl) v
  · have v := vf (c); clear vt vf
    refine a_iload_n d_G_isOp_8 rfl ?_
    refine a_iconst d_G_isOp_9 ⟨by decide, by decide⟩ ?_
    refine a_aload_n d_G_isOp_10 rfl ?_
    refine a_getAe fl_G_17 d_G_isOp_11 (beq_iff_eq.mpr (KNG_20 hm1)) (KRG_20_2 hm1) ?_
    refine a_iload_n d_G_isOp_14 rfl ?_
    obtain ⟨c2, c3, v⟩ := v
    refine a_aald d_G_isOp_15 ⟨by rw [KNG_22 hm1]; decide, by rw [KNG_22 hm1]; decide⟩ c2 (lt_len (NNG_22 hm1) c3) ?_
    obtain ⟨c4, v⟩ := v
    refine a_getIN fl_G_142 d_G_isOp_16 (beq_iff_eq.mpr c4) ?_
    refine a_iconst d_G_isOp_19 ⟨by decide, by decide⟩ ?_
    refine a_isub d_G_isOp_20 ?_
    refine b_callS (as := [vi x2, vi (0 : Int), vi (wr ((xI h1 (xR h1 22 (x1).toNat) 5) - (1 : Int)))]) (st := []) (kc1 := 0) (ks1 := 0) (kc2 := kc) (ks2 := ks) (d' := d) ml_G_165 rfl d_G_isOp_21 rfl rfl (Nat.le_of_ble_eq_true rfl) rfl (Nat.le_refl _) (by omega) (by omega) ?_
    refine Ev.mono v ?_
    intro u h2 v
    obtain ⟨r2, rfl, v⟩ := ki_el v
    obtain ⟨hm2, v⟩ := v
    change Ev l D Y_G_isOp _ _ _ 24 [some (vr 20), some (vi x1), some (vi x2)] [vi r2] _ _
    obtain ⟨vt, vf⟩ := v
    refine a_if_eq (tgt := 31) d_G_isOp_24 (by decide) (fun c => ?_) (fun c => ?_)
    · have v := vt (c); clear vt vf
      refine a_iconst d_G_isOp_31 ⟨by decide, by decide⟩ ?_
      exact a_zret d_G_isOp_32 rfl (Or.inl rfl) v
    · have v := vf (c); clear vt vf
      refine a_iconst d_G_isOp_27 ⟨by decide, by decide⟩ ?_
      refine a_goto (tgt := 32) d_G_isOp_28 (by decide) ?_
      exact a_zret d_G_isOp_32 rfl (Or.inr rfl) v
theorem d_G_callee_0 : decode Y_G_callee.2.1 0 = .ok (.aload_n 0, 1) := by decide +kernel
theorem d_G_callee_1 : decode Y_G_callee.2.1 1 = .ok (.iload_n 1, 1) := by decide +kernel
theorem d_G_callee_2 : decode Y_G_callee.2.1 2 = .ok (.iload_n 2, 1) := by decide +kernel
theorem d_G_callee_3 : decode Y_G_callee.2.1 3 = .ok (.invokevirtual 286, 3) := by decide +kernel
theorem d_G_callee_6 : decode Y_G_callee.2.1 6 = .ok (.ifCond .ne 6, 3) := by decide +kernel
theorem d_G_callee_9 : decode Y_G_callee.2.1 9 = .ok (.bipush (-101), 2) := by decide +kernel
theorem d_G_callee_11 : decode Y_G_callee.2.1 11 = .ok (.ireturn, 1) := by decide +kernel
theorem d_G_callee_12 : decode Y_G_callee.2.1 12 = .ok (.aload_n 0, 1) := by decide +kernel
theorem d_G_callee_13 : decode Y_G_callee.2.1 13 = .ok (.invokevirtual 260, 3) := by decide +kernel
theorem d_G_callee_16 : decode Y_G_callee.2.1 16 = .ok (.aload_n 0, 1) := by decide +kernel
theorem d_G_callee_17 : decode Y_G_callee.2.1 17 = .ok (.getfield 17, 3) := by decide +kernel
theorem d_G_callee_20 : decode Y_G_callee.2.1 20 = .ok (.iload_n 1, 1) := by decide +kernel
theorem d_G_callee_21 : decode Y_G_callee.2.1 21 = .ok (.aaload, 1) := by decide +kernel
theorem d_G_callee_22 : decode Y_G_callee.2.1 22 = .ok (.astore 4, 2) := by decide +kernel
theorem d_G_callee_24 : decode Y_G_callee.2.1 24 = .ok (.iload_n 3, 1) := by decide +kernel
theorem d_G_callee_25 : decode Y_G_callee.2.1 25 = .ok (.istore 5, 2) := by decide +kernel
theorem d_G_callee_27 : decode Y_G_callee.2.1 27 = .ok (.iconst 0, 1) := by decide +kernel
theorem d_G_callee_28 : decode Y_G_callee.2.1 28 = .ok (.istore 6, 2) := by decide +kernel
theorem d_G_callee_30 : decode Y_G_callee.2.1 30 = .ok (.iload 6, 2) := by decide +kernel
theorem d_G_callee_32 : decode Y_G_callee.2.1 32 = .ok (.aload_n 0, 1) := by decide +kernel
theorem d_G_callee_33 : decode Y_G_callee.2.1 33 = .ok (.getfield 133, 3) := by decide +kernel
theorem d_G_callee_36 : decode Y_G_callee.2.1 36 = .ok (.if_icmp .ge 48, 3) := by decide +kernel
theorem d_G_callee_39 : decode Y_G_callee.2.1 39 = .ok (.aload 4, 2) := by decide +kernel
theorem d_G_callee_41 : decode Y_G_callee.2.1 41 = .ok (.getfield 139, 3) := by decide +kernel
theorem d_G_callee_44 : decode Y_G_callee.2.1 44 = .ok (.ifCond .eq 40, 3) := by decide +kernel
theorem d_G_callee_47 : decode Y_G_callee.2.1 47 = .ok (.iload_n 3, 1) := by decide +kernel
theorem d_G_callee_48 : decode Y_G_callee.2.1 48 = .ok (.ifCond .lt 36, 3) := by decide +kernel
theorem d_G_callee_51 : decode Y_G_callee.2.1 51 = .ok (.aload 4, 2) := by decide +kernel
theorem d_G_callee_53 : decode Y_G_callee.2.1 53 = .ok (.getfield 145, 3) := by decide +kernel
theorem d_G_callee_56 : decode Y_G_callee.2.1 56 = .ok (.iload_n 2, 1) := by decide +kernel
theorem d_G_callee_57 : decode Y_G_callee.2.1 57 = .ok (.aaload, 1) := by decide +kernel
theorem d_G_callee_58 : decode Y_G_callee.2.1 58 = .ok (.getfield 162, 3) := by decide +kernel
theorem d_G_callee_61 : decode Y_G_callee.2.1 61 = .ok (.iload 6, 2) := by decide +kernel
theorem d_G_callee_63 : decode Y_G_callee.2.1 63 = .ok (.baload, 1) := by decide +kernel
theorem d_G_callee_64 : decode Y_G_callee.2.1 64 = .ok (.ifCond .eq 14, 3) := by decide +kernel
theorem d_G_callee_67 : decode Y_G_callee.2.1 67 = .ok (.iload 5, 2) := by decide +kernel
theorem d_G_callee_69 : decode Y_G_callee.2.1 69 = .ok (.iinc 5 (-1), 3) := by decide +kernel
theorem d_G_callee_72 : decode Y_G_callee.2.1 72 = .ok (.ifCond .ne 6, 3) := by decide +kernel
theorem d_G_callee_75 : decode Y_G_callee.2.1 75 = .ok (.iload 6, 2) := by decide +kernel
theorem d_G_callee_77 : decode Y_G_callee.2.1 77 = .ok (.ireturn, 1) := by decide +kernel
theorem d_G_callee_78 : decode Y_G_callee.2.1 78 = .ok (.iinc 6 1, 3) := by decide +kernel
theorem d_G_callee_81 : decode Y_G_callee.2.1 81 = .ok (.goto (-51), 3) := by decide +kernel
theorem d_G_callee_84 : decode Y_G_callee.2.1 84 = .ok (.iconst (-1), 1) := by decide +kernel
theorem d_G_callee_85 : decode Y_G_callee.2.1 85 = .ok (.ireturn, 1) := by decide +kernel
theorem g_G_callee_0 {l : Launch} {D : DD} {d kc ks : Nat} {h : Hp} {Φ : Option AV → Hp → Prop} {x1 : Int} {x2 : Int} {x3 : Int} (hM : GS h) (v : Ev l D Y_G_isOp d 0 0 0 [some (vr 20), some (vi x1), some (vi x2)] [] h (ki (fun r1 h1 => GS h1 ∧ ((¬ r1 = 0 → (Ev l D Y_G_draw d 0 0 0 [some (vr 20), none, none, none, none] [] h1 (kv (fun h2 => GS h2 ∧ (0 ≤ x1 ∧ x1 < 48 ∧ (Ev l D Y_G_callee (d + 1) kc ks 30 [some (vr 20), some (vi x1), some (vi x2), some (vi x3), some (vr (xR h2 22 (x1).toNat)), some (vi x3), some (vi (0 : Int))] [] h2 Φ)))))) ∧ (r1 = 0 → (Φ (some (vi (-101 : Int))) h1)))))) : Ev l D Y_G_callee (d + 1) kc ks 0 [some (vr 20), some (vi x1), some (vi x2), some (vi x3), none, none, none] [] h Φ := by
  refine a_aload_n d_G_callee_0 rfl ?_
  refine a_iload_n d_G_callee_1 rfl ?_
  refine a_iload_n d_G_callee_2 rfl ?_
  refine b_callV (as := [vi x1, vi x2]) (b := 20) (st := []) (kd := 1) (kc1 := 0) (ks1 := 0) (kc2 := kc) (ks2 := ks) (d' := d) ml_G_286 rfl d_G_callee_3 rfl rfl (Nat.le_of_ble_eq_true rfl) (by decide) rfl (Nat.le_refl _) (by omega) (by omega) (KNG_20 hM) ?_
  refine Ev.mono v ?_
  intro u h1 v
  obtain ⟨r1, rfl, v⟩ := ki_el v
  obtain ⟨hm1, v⟩ := v
  change Ev l D Y_G_callee _ _ _ 6 [some (vr 20), some (vi x1), some (vi x2), some (vi x3), none, none, none] [vi r1] _ _
  obtain ⟨vt, vf⟩ := v
  refine a_if_ne (tgt := 12) d_G_callee_6 (by decide) (fun c => ?_) (fun c => ?_)
  · have v := vt (c); clear vt vf
    refine a_aload_n d_G_callee_12 rfl ?_
    refine b_callV (as := []) (b := 20) (st := []) (kd := 1) (kc1 := 0) (ks1 := 0) (kc2 := kc) (ks2 := ks) (d' := d) ml_G_260 rfl d_G_callee_13 rfl rfl (Nat.le_of_ble_eq_true rfl) (by decide) rfl (Nat.le_refl _) (by omega) (by omega) (KNG_20 hm1) ?_
    refine Ev.mono v ?_
    intro u h2 v
    obtain ⟨rfl, v⟩ := kv_el v
    obtain ⟨hm2, v⟩ := v
    change Ev l D Y_G_callee _ _ _ 16 [some (vr 20), some (vi x1), some (vi x2), some (vi x3), none, none, none] [] _ _
    refine a_aload_n d_G_callee_16 rfl ?_
    refine a_getAe fl_G_17 d_G_callee_17 (beq_iff_eq.mpr (KNG_20 hm2)) (KRG_20_2 hm2) ?_
    refine a_iload_n d_G_callee_20 rfl ?_
    obtain ⟨c2, c3, v⟩ := v
    refine a_aald d_G_callee_21 ⟨by rw [KNG_22 hm2]; decide, by rw [KNG_22 hm2]; decide⟩ c2 (lt_len (NNG_22 hm2) c3) ?_
    refine a_astore (L' := [some (vr 20), some (vi x1), some (vi x2), some (vi x3), some (vr (xR h2 22 (x1).toNat)), none, none]) d_G_callee_22 (Nat.le_of_ble_eq_true rfl) rfl rfl ?_
    refine a_iload_n d_G_callee_24 rfl ?_
    refine a_istore (L' := [some (vr 20), some (vi x1), some (vi x2), some (vi x3), some (vr (xR h2 22 (x1).toNat)), some (vi x3), none]) d_G_callee_25 (Nat.le_of_ble_eq_true rfl) rfl rfl ?_
    refine a_iconst d_G_callee_27 ⟨by decide, by decide⟩ ?_
    refine a_istore (L' := [some (vr 20), some (vi x1), some (vi x2), some (vi x3), some (vr (xR h2 22 (x1).toNat)), some (vi x3), some (vi (0 : Int))]) d_G_callee_28 (Nat.le_of_ble_eq_true rfl) rfl rfl ?_
    exact v
  · have v := vf (Classical.not_not.mp c); clear vt vf
    refine a_bipush d_G_callee_9 ⟨by decide, by decide⟩ (by decide) ?_
    exact a_iret d_G_callee_11 rfl v
theorem g_G_callee_30 {l : Launch} {D : DD} {d kc ks : Nat} {h : Hp} {Φ : Option AV → Hp → Prop} {x1 : Int} {x2 : Int} {x3 : Int} {x4 : Nat} {x5 : Int} {x6 : Int} (hM : GS h) (v : (x6 ≥ xI h 20 3 → (Φ (some (vi (-1 : Int))) h)) ∧ (x6 < xI h 20 3 → (xK h x4 = 4 ∧ ((xI h x4 7 = 0 → (Φ (some (vi (-1 : Int))) h)) ∧ (¬ xI h x4 7 = 0 → ((x3 < 0 → (Φ (some (vi (-1 : Int))) h)) ∧ (x3 ≥ 0 → (xK h x4 = 4 ∧ ((22 ≤ xK h (xR h x4 4) ∧ xK h (xR h x4 4) ≤ 27) ∧ 0 ≤ x2 ∧ x2 < xN h (xR h x4 4) ∧ (opk (xK h (xR h (xR h x4 4) (x2).toNat)) = true ∧ (xK h (xR h (xR h (xR h x4 4) (x2).toNat) 2) = 21 ∧ 0 ≤ x6 ∧ x6 < xN h (xR h (xR h (xR h x4 4) (x2).toNat) 2) ∧ ((xI h (xR h (xR h (xR h x4 4) (x2).toNat) 2) (x6).toNat = 0 → (Ev l D Y_G_callee (d + 1) kc ks 30 [some (vr 20), some (vi x1), some (vi x2), some (vi x3), some (vr x4), some (vi x5), some (vi (wr (x6 + (1 : Int))))] [] h Φ)) ∧ (¬ xI h (xR h (xR h (xR h x4 4) (x2).toNat) 2) (x6).toNat = 0 → ((¬ x5 = 0 → (Ev l D Y_G_callee (d + 1) kc ks 30 [some (vr 20), some (vi x1), some (vi x2), some (vi x3), some (vr x4), some (vi (wr (x5 + (-1 : Int)))), some (vi (wr (x6 + (1 : Int))))] [] h Φ)) ∧ (x5 = 0 → (Φ (some (vi x6)) h)))))))))))))))) : Ev l D Y_G_callee (d + 1) kc ks 30 [some (vr 20), some (vi x1), some (vi x2), some (vi x3), some (vr x4), some (vi x5), some (vi x6)] [] h Φ := by
  refine a_iload d_G_callee_30 rfl ?_
  refine a_aload_n d_G_callee_32 rfl ?_
  refine a_getI fl_G_133 d_G_callee_33 (beq_iff_eq.mpr (KNG_20 hM)) ?_
  obtain ⟨vt, vf⟩ := v
  refine a_icmp_ge (tgt := 84) d_G_callee_36 (by decide) (fun c => ?_) (fun c => ?_)
  · have v := vt (c); clear vt vf
    refine a_iconst d_G_callee_84 ⟨by decide, by decide⟩ ?_
    exact a_iret d_G_callee_85 rfl v
  · have v := vf (Int.not_le.mp c); clear vt vf
    refine a_aload d_G_callee_39 rfl ?_
    obtain ⟨c1, v⟩ := v
    refine a_getZN fl_G_139 d_G_callee_41 (beq_iff_eq.mpr c1) ?_
    obtain ⟨vt, vf⟩ := v
    refine a_if_eq (tgt := 84) d_G_callee_44 (by decide) (fun c => ?_) (fun c => ?_)
    · have v := vt (c); clear vt vf
      refine a_iconst d_G_callee_84 ⟨by decide, by decide⟩ ?_
      exact a_iret d_G_callee_85 rfl v
    · have v := vf (c); clear vt vf
      refine a_iload_n d_G_callee_47 rfl ?_
      obtain ⟨vt, vf⟩ := v
      refine a_if_lt (tgt := 84) d_G_callee_48 (by decide) (fun c => ?_) (fun c => ?_)
      · have v := vt (c); clear vt vf
        refine a_iconst d_G_callee_84 ⟨by decide, by decide⟩ ?_
        exact a_iret d_G_callee_85 rfl v
      · have v := vf (Int.not_lt.mp c); clear vt vf
        refine a_aload d_G_callee_51 rfl ?_
        obtain ⟨c2, v⟩ := v
        refine a_getAN fl_G_145 d_G_callee_53 (beq_iff_eq.mpr c2) ?_
        refine a_iload_n d_G_callee_56 rfl ?_
        obtain ⟨c3, c4, c5, v⟩ := v
        refine a_aald d_G_callee_57 c3 c4 c5 ?_
        obtain ⟨c6, v⟩ := v
        refine a_getA fl_G_162 d_G_callee_58 c6 ?_
        refine a_iload d_G_callee_61 rfl ?_
        obtain ⟨c7, c8, c9, v⟩ := v
        refine a_zald d_G_callee_63 c7 c8 c9 ?_
        obtain ⟨vt, vf⟩ := v
        refine a_if_eq (tgt := 78) d_G_callee_64 (by decide) (fun c => ?_) (fun c => ?_)
        · have v := vt (c); clear vt vf
          refine a_iinc (L' := [some (vr 20), some (vi x1), some (vi x2), some (vi x3), some (vr x4), some (vi x5), some (vi (wr (x6 + (1 : Int))))]) d_G_callee_78 rfl (Nat.le_of_ble_eq_true rfl) rfl rfl ?_
          refine a_goto (tgt := 30) d_G_callee_81 (by decide) ?_
          exact v
        · have v := vf (c); clear vt vf
          refine a_iload d_G_callee_67 rfl ?_
          refine a_iinc (L' := [some (vr 20), some (vi x1), some (vi x2), some (vi x3), some (vr x4), some (vi (wr (x5 + (-1 : Int)))), some (vi x6)]) d_G_callee_69 rfl (Nat.le_of_ble_eq_true rfl) rfl rfl ?_
          obtain ⟨vt, vf⟩ := v
          refine a_if_ne (tgt := 78) d_G_callee_72 (by decide) (fun c => ?_) (fun c => ?_)
          · have v := vt (c); clear vt vf
            refine a_iinc (L' := [some (vr 20), some (vi x1), some (vi x2), some (vi x3), some (vr x4), some (vi (wr (x5 + (-1 : Int)))), some (vi (wr (x6 + (1 : Int))))]) d_G_callee_78 rfl (Nat.le_of_ble_eq_true rfl) rfl rfl ?_
            refine a_goto (tgt := 30) d_G_callee_81 (by decide) ?_
            exact v
          · have v := vf (Classical.not_not.mp c); clear vt vf
            refine a_iload d_G_callee_75 rfl ?_
            exact a_iret d_G_callee_77 rfl v
theorem d_G_faults_0 : decode Y_G_faults.2.1 0 = .ok (.aload_n 0, 1) := by decide +kernel
theorem d_G_faults_1 : decode Y_G_faults.2.1 1 = .ok (.iload_n 1, 1) := by decide +kernel
theorem d_G_faults_2 : decode Y_G_faults.2.1 2 = .ok (.iload_n 2, 1) := by decide +kernel
theorem d_G_faults_3 : decode Y_G_faults.2.1 3 = .ok (.invokevirtual 286, 3) := by decide +kernel
theorem d_G_faults_6 : decode Y_G_faults.2.1 6 = .ok (.ifCond .ne 6, 3) := by decide +kernel
theorem d_G_faults_9 : decode Y_G_faults.2.1 9 = .ok (.bipush (-101), 2) := by decide +kernel
theorem d_G_faults_11 : decode Y_G_faults.2.1 11 = .ok (.ireturn, 1) := by decide +kernel
theorem d_G_faults_12 : decode Y_G_faults.2.1 12 = .ok (.iload_n 3, 1) := by decide +kernel
theorem d_G_faults_13 : decode Y_G_faults.2.1 13 = .ok (.bipush (-5), 2) := by decide +kernel
theorem d_G_faults_15 : decode Y_G_faults.2.1 15 = .ok (.bipush (-2), 2) := by decide +kernel
theorem d_G_faults_17 : decode Y_G_faults.2.1 17 = .ok (.invokestatic 165, 3) := by decide +kernel
theorem d_G_faults_20 : decode Y_G_faults.2.1 20 = .ok (.ifCond .ne 6, 3) := by decide +kernel
theorem d_G_faults_23 : decode Y_G_faults.2.1 23 = .ok (.bipush (-102), 2) := by decide +kernel
theorem d_G_faults_25 : decode Y_G_faults.2.1 25 = .ok (.ireturn, 1) := by decide +kernel
theorem d_G_faults_26 : decode Y_G_faults.2.1 26 = .ok (.aload_n 0, 1) := by decide +kernel
theorem d_G_faults_27 : decode Y_G_faults.2.1 27 = .ok (.invokevirtual 260, 3) := by decide +kernel
theorem d_G_faults_30 : decode Y_G_faults.2.1 30 = .ok (.aload_n 0, 1) := by decide +kernel
theorem d_G_faults_31 : decode Y_G_faults.2.1 31 = .ok (.getfield 17, 3) := by decide +kernel
theorem d_G_faults_34 : decode Y_G_faults.2.1 34 = .ok (.iload_n 1, 1) := by decide +kernel
theorem d_G_faults_35 : decode Y_G_faults.2.1 35 = .ok (.aaload, 1) := by decide +kernel
theorem d_G_faults_36 : decode Y_G_faults.2.1 36 = .ok (.getfield 139, 3) := by decide +kernel
theorem d_G_faults_39 : decode Y_G_faults.2.1 39 = .ok (.ifCond .eq 25, 3) := by decide +kernel
theorem d_G_faults_42 : decode Y_G_faults.2.1 42 = .ok (.aload_n 0, 1) := by decide +kernel
theorem d_G_faults_43 : decode Y_G_faults.2.1 43 = .ok (.getfield 17, 3) := by decide +kernel
theorem d_G_faults_46 : decode Y_G_faults.2.1 46 = .ok (.iload_n 1, 1) := by decide +kernel
theorem d_G_faults_47 : decode Y_G_faults.2.1 47 = .ok (.aaload, 1) := by decide +kernel
theorem d_G_faults_48 : decode Y_G_faults.2.1 48 = .ok (.getfield 145, 3) := by decide +kernel
theorem d_G_faults_51 : decode Y_G_faults.2.1 51 = .ok (.iload_n 2, 1) := by decide +kernel
theorem d_G_faults_52 : decode Y_G_faults.2.1 52 = .ok (.aaload, 1) := by decide +kernel
theorem d_G_faults_53 : decode Y_G_faults.2.1 53 = .ok (.getfield 267, 3) := by decide +kernel
theorem d_G_faults_56 : decode Y_G_faults.2.1 56 = .ok (.iload_n 3, 1) := by decide +kernel
theorem d_G_faults_57 : decode Y_G_faults.2.1 57 = .ok (.ineg, 1) := by decide +kernel
theorem d_G_faults_58 : decode Y_G_faults.2.1 58 = .ok (.iconst 2, 1) := by decide +kernel
theorem d_G_faults_59 : decode Y_G_faults.2.1 59 = .ok (.isub, 1) := by decide +kernel
theorem d_G_faults_60 : decode Y_G_faults.2.1 60 = .ok (.iaload, 1) := by decide +kernel
theorem d_G_faults_61 : decode Y_G_faults.2.1 61 = .ok (.goto 4, 3) := by decide +kernel
theorem d_G_faults_64 : decode Y_G_faults.2.1 64 = .ok (.iconst 0, 1) := by decide +kernel
theorem d_G_faults_65 : decode Y_G_faults.2.1 65 = .ok (.ireturn, 1) := by decide +kernel
theorem g_G_faults_0 {l : Launch} {D : DD} {d kc ks : Nat} {h : Hp} {Φ : Option AV → Hp → Prop} {x1 : Int} {x2 : Int} {x3 : Int} (hM : GS h) (v : Ev l D Y_G_isOp d 0 0 0 [some (vr 20), some (vi x1), some (vi x2)] [] h (ki (fun r1 h1 => GS h1 ∧ ((¬ r1 = 0 → (Ev l D Y_G_within d 0 0 0 [some (vi x3), some (vi (-5 : Int)), some (vi (-2 : Int))] [] h1 (ki (fun r2 h2 => GS h2 ∧ ((¬ r2 = 0 → (Ev l D Y_G_draw d 0 0 0 [some (vr 20), none, none, none, none] [] h2 (kv (fun h3 => GS h3 ∧ (0 ≤ x1 ∧ x1 < 48 ∧ (xK h3 (xR h3 22 (x1).toNat) = 4 ∧ ((xI h3 (xR h3 22 (x1).toNat) 7 = 0 → (Φ (some (vi (0 : Int))) h3)) ∧ (¬ xI h3 (xR h3 22 (x1).toNat) 7 = 0 → (0 ≤ x1 ∧ x1 < 48 ∧ (xK h3 (xR h3 22 (x1).toNat) = 4 ∧ ((22 ≤ xK h3 (xR h3 (xR h3 22 (x1).toNat) 4) ∧ xK h3 (xR h3 (xR h3 22 (x1).toNat) 4) ≤ 27) ∧ 0 ≤ x2 ∧ x2 < xN h3 (xR h3 (xR h3 22 (x1).toNat) 4) ∧ (opk (xK h3 (xR h3 (xR h3 (xR h3 22 (x1).toNat) 4) (x2).toNat)) = true ∧ (xK h3 (xR h3 (xR h3 (xR h3 (xR h3 22 (x1).toNat) 4) (x2).toNat) 3) = 20 ∧ 0 ≤ wr ((wr (-x3)) - (2 : Int)) ∧ wr ((wr (-x3)) - (2 : Int)) < xN h3 (xR h3 (xR h3 (xR h3 (xR h3 22 (x1).toNat) 4) (x2).toNat) 3) ∧ (Φ (some (vi (xI h3 (xR h3 (xR h3 (xR h3 (xR h3 22 (x1).toNat) 4) (x2).toNat) 3) (wr ((wr (-x3)) - (2 : Int))).toNat))) h3)))))))))))))) ∧ (r2 = 0 → (Φ (some (vi (-102 : Int))) h2))))))) ∧ (r1 = 0 → (Φ (some (vi (-101 : Int))) h1)))))) : Ev l D Y_G_faults (d + 1) kc ks 0 [some (vr 20), some (vi x1), some (vi x2), some (vi x3)] [] h Φ := by
  refine a_aload_n d_G_faults_0 rfl ?_
  refine a_iload_n d_G_faults_1 rfl ?_
  refine a_iload_n d_G_faults_2 rfl ?_
  refine b_callV (as := [vi x1, vi x2]) (b := 20) (st := []) (kd := 1) (kc1 := 0) (ks1 := 0) (kc2 := kc) (ks2 := ks) (d' := d) ml_G_286 rfl d_G_faults_3 rfl rfl (Nat.le_of_ble_eq_true rfl) (by decide) rfl (Nat.le_refl _) (by omega) (by omega) (KNG_20 hM) ?_
  refine Ev.mono v ?_
  intro u h1 v
  obtain ⟨r1, rfl, v⟩ := ki_el v
  obtain ⟨hm1, v⟩ := v
  change Ev l D Y_G_faults _ _ _ 6 [some (vr 20), some (vi x1), some (vi x2), some (vi x3)] [vi r1] _ _
  obtain ⟨vt, vf⟩ := v
  refine a_if_ne (tgt := 12) d_G_faults_6 (by decide) (fun c => ?_) (fun c => ?_)
  · have v := vt (c); clear vt vf
    refine a_iload_n d_G_faults_12 rfl ?_
    refine a_bipush d_G_faults_13 ⟨by decide, by decide⟩ (by decide) ?_
    refine a_bipush d_G_faults_15 ⟨by decide, by decide⟩ (by decide) ?_
    refine b_callS (as := [vi x3, vi (-5 : Int), vi (-2 : Int)]) (st := []) (kc1 := 0) (ks1 := 0) (kc2 := kc) (ks2 := ks) (d' := d) ml_G_165 rfl d_G_faults_17 rfl rfl (Nat.le_of_ble_eq_true rfl) rfl (Nat.le_refl _) (by omega) (by omega) ?_
    refine Ev.mono v ?_
    intro u h2 v
    obtain ⟨r2, rfl, v⟩ := ki_el v
    obtain ⟨hm2, v⟩ := v
    change Ev l D Y_G_faults _ _ _ 20 [some (vr 20), some (vi x1), some (vi x2), some (vi x3)] [vi r2] _ _
    obtain ⟨vt, vf⟩ := v
    refine a_if_ne (tgt := 26) d_G_faults_20 (by decide) (fun c => ?_) (fun c => ?_)
    · have v := vt (c); clear vt vf
      refine a_aload_n d_G_faults_26 rfl ?_
      refine b_callV (as := []) (b := 20) (st := []) (kd := 1) (kc1 := 0) (ks1 := 0) (kc2 := kc) (ks2 := ks) (d' := d) ml_G_260 rfl d_G_faults_27 rfl rfl (Nat.le_of_ble_eq_true rfl) (by decide) rfl (Nat.le_refl _) (by omega) (by omega) (KNG_20 hm2) ?_
      refine Ev.mono v ?_
      intro u h3 v
      obtain ⟨rfl, v⟩ := kv_el v
      obtain ⟨hm3, v⟩ := v
      change Ev l D Y_G_faults _ _ _ 30 [some (vr 20), some (vi x1), some (vi x2), some (vi x3)] [] _ _
      refine a_aload_n d_G_faults_30 rfl ?_
      refine a_getAe fl_G_17 d_G_faults_31 (beq_iff_eq.mpr (KNG_20 hm3)) (KRG_20_2 hm3) ?_
      refine a_iload_n d_G_faults_34 rfl ?_
      obtain ⟨c2, c3, v⟩ := v
      refine a_aald d_G_faults_35 ⟨by rw [KNG_22 hm3]; decide, by rw [KNG_22 hm3]; decide⟩ c2 (lt_len (NNG_22 hm3) c3) ?_
      obtain ⟨c4, v⟩ := v
      refine a_getZN fl_G_139 d_G_faults_36 (beq_iff_eq.mpr c4) ?_
      obtain ⟨vt, vf⟩ := v
      refine a_if_eq (tgt := 64) d_G_faults_39 (by decide) (fun c => ?_) (fun c => ?_)
      · have v := vt (c); clear vt vf
        refine a_iconst d_G_faults_64 ⟨by decide, by decide⟩ ?_
        exact a_iret d_G_faults_65 rfl v
      · have v := vf (c); clear vt vf
        refine a_aload_n d_G_faults_42 rfl ?_
        refine a_getAe fl_G_17 d_G_faults_43 (beq_iff_eq.mpr (KNG_20 hm3)) (KRG_20_2 hm3) ?_
        refine a_iload_n d_G_faults_46 rfl ?_
        obtain ⟨c6, c7, v⟩ := v
        refine a_aald d_G_faults_47 ⟨by rw [KNG_22 hm3]; decide, by rw [KNG_22 hm3]; decide⟩ c6 (lt_len (NNG_22 hm3) c7) ?_
        obtain ⟨c8, v⟩ := v
        refine a_getAN fl_G_145 d_G_faults_48 (beq_iff_eq.mpr c8) ?_
        refine a_iload_n d_G_faults_51 rfl ?_
        obtain ⟨c9, c10, c11, v⟩ := v
        refine a_aald d_G_faults_52 c9 c10 c11 ?_
        obtain ⟨c12, v⟩ := v
        refine a_getA fl_G_267 d_G_faults_53 c12 ?_
        refine a_iload_n d_G_faults_56 rfl ?_
        refine a_ineg d_G_faults_57 ?_
        refine a_iconst d_G_faults_58 ⟨by decide, by decide⟩ ?_
        refine a_isub d_G_faults_59 ?_
        obtain ⟨c13, c14, c15, v⟩ := v
        refine a_iald d_G_faults_60 (Or.inl c13) c14 c15 ?_
        refine a_goto (tgt := 65) d_G_faults_61 (by decide) ?_
        exact a_iret d_G_faults_65 rfl v
    · have v := vf (Classical.not_not.mp c); clear vt vf
      refine a_bipush d_G_faults_23 ⟨by decide, by decide⟩ (by decide) ?_
      exact a_iret d_G_faults_25 rfl v
  · have v := vf (Classical.not_not.mp c); clear vt vf
    refine a_bipush d_G_faults_9 ⟨by decide, by decide⟩ (by decide) ?_
    exact a_iret d_G_faults_11 rfl v
theorem d_G_caller_0 : decode Y_G_caller.2.1 0 = .ok (.aload_n 0, 1) := by decide +kernel
theorem d_G_caller_1 : decode Y_G_caller.2.1 1 = .ok (.iload_n 1, 1) := by decide +kernel
theorem d_G_caller_2 : decode Y_G_caller.2.1 2 = .ok (.invokevirtual 246, 3) := by decide +kernel
theorem d_G_caller_5 : decode Y_G_caller.2.1 5 = .ok (.ifCond .ne 6, 3) := by decide +kernel
theorem d_G_caller_8 : decode Y_G_caller.2.1 8 = .ok (.bipush (-101), 2) := by decide +kernel
theorem d_G_caller_10 : decode Y_G_caller.2.1 10 = .ok (.ireturn, 1) := by decide +kernel
theorem d_G_caller_11 : decode Y_G_caller.2.1 11 = .ok (.aload_n 0, 1) := by decide +kernel
theorem d_G_caller_12 : decode Y_G_caller.2.1 12 = .ok (.invokevirtual 260, 3) := by decide +kernel
theorem d_G_caller_15 : decode Y_G_caller.2.1 15 = .ok (.iload_n 2, 1) := by decide +kernel
theorem d_G_caller_16 : decode Y_G_caller.2.1 16 = .ok (.istore_n 3, 1) := by decide +kernel
theorem d_G_caller_17 : decode Y_G_caller.2.1 17 = .ok (.iconst 0, 1) := by decide +kernel
theorem d_G_caller_18 : decode Y_G_caller.2.1 18 = .ok (.istore 4, 2) := by decide +kernel
theorem d_G_caller_20 : decode Y_G_caller.2.1 20 = .ok (.iload 4, 2) := by decide +kernel
theorem d_G_caller_22 : decode Y_G_caller.2.1 22 = .ok (.aload_n 0, 1) := by decide +kernel
theorem d_G_caller_23 : decode Y_G_caller.2.1 23 = .ok (.getfield 133, 3) := by decide +kernel
theorem d_G_caller_26 : decode Y_G_caller.2.1 26 = .ok (.if_icmp .ge 38, 3) := by decide +kernel
theorem d_G_caller_29 : decode Y_G_caller.2.1 29 = .ok (.iload_n 2, 1) := by decide +kernel
theorem d_G_caller_30 : decode Y_G_caller.2.1 30 = .ok (.ifCond .lt 34, 3) := by decide +kernel
theorem d_G_caller_33 : decode Y_G_caller.2.1 33 = .ok (.aload_n 0, 1) := by decide +kernel
theorem d_G_caller_34 : decode Y_G_caller.2.1 34 = .ok (.aload_n 0, 1) := by decide +kernel
theorem d_G_caller_35 : decode Y_G_caller.2.1 35 = .ok (.getfield 17, 3) := by decide +kernel
theorem d_G_caller_38 : decode Y_G_caller.2.1 38 = .ok (.iload 4, 2) := by decide +kernel
theorem d_G_caller_40 : decode Y_G_caller.2.1 40 = .ok (.aaload, 1) := by decide +kernel
theorem d_G_caller_41 : decode Y_G_caller.2.1 41 = .ok (.iload_n 1, 1) := by decide +kernel
theorem d_G_caller_42 : decode Y_G_caller.2.1 42 = .ok (.invokevirtual 278, 3) := by decide +kernel
theorem d_G_caller_45 : decode Y_G_caller.2.1 45 = .ok (.ifCond .eq 13, 3) := by decide +kernel
theorem d_G_caller_48 : decode Y_G_caller.2.1 48 = .ok (.iload_n 3, 1) := by decide +kernel
theorem d_G_caller_49 : decode Y_G_caller.2.1 49 = .ok (.iinc 3 (-1), 3) := by decide +kernel
theorem d_G_caller_52 : decode Y_G_caller.2.1 52 = .ok (.ifCond .ne 6, 3) := by decide +kernel
theorem d_G_caller_55 : decode Y_G_caller.2.1 55 = .ok (.iload 4, 2) := by decide +kernel
theorem d_G_caller_57 : decode Y_G_caller.2.1 57 = .ok (.ireturn, 1) := by decide +kernel
theorem d_G_caller_58 : decode Y_G_caller.2.1 58 = .ok (.iinc 4 1, 3) := by decide +kernel
theorem d_G_caller_61 : decode Y_G_caller.2.1 61 = .ok (.goto (-41), 3) := by decide +kernel
theorem d_G_caller_64 : decode Y_G_caller.2.1 64 = .ok (.iconst (-1), 1) := by decide +kernel
theorem d_G_caller_65 : decode Y_G_caller.2.1 65 = .ok (.ireturn, 1) := by decide +kernel
theorem g_G_caller_0 {l : Launch} {D : DD} {d kc ks : Nat} {h : Hp} {Φ : Option AV → Hp → Prop} {x1 : Int} {x2 : Int} (hM : GS h) (v : Ev l D Y_G_isMember d 0 0 0 [some (vr 20), some (vi x1)] [] h (ki (fun r1 h1 => GS h1 ∧ ((¬ r1 = 0 → (Ev l D Y_G_draw d 0 0 0 [some (vr 20), none, none, none, none] [] h1 (kv (fun h2 => GS h2 ∧ (Ev l D Y_G_caller (d + 1) kc ks 20 [some (vr 20), some (vi x1), some (vi x2), some (vi x2), some (vi (0 : Int))] [] h2 Φ))))) ∧ (r1 = 0 → (Φ (some (vi (-101 : Int))) h1)))))) : Ev l D Y_G_caller (d + 1) kc ks 0 [some (vr 20), some (vi x1), some (vi x2), none, none] [] h Φ := by
  refine a_aload_n d_G_caller_0 rfl ?_
  refine a_iload_n d_G_caller_1 rfl ?_
  refine b_callV (as := [vi x1]) (b := 20) (st := []) (kd := 1) (kc1 := 0) (ks1 := 0) (kc2 := kc) (ks2 := ks) (d' := d) ml_G_246 rfl d_G_caller_2 rfl rfl (Nat.le_of_ble_eq_true rfl) (by decide) rfl (Nat.le_refl _) (by omega) (by omega) (KNG_20 hM) ?_
  refine Ev.mono v ?_
  intro u h1 v
  obtain ⟨r1, rfl, v⟩ := ki_el v
  obtain ⟨hm1, v⟩ := v
  change Ev l D Y_G_caller _ _ _ 5 [some (vr 20), some (vi x1), some (vi x2), none, none] [vi r1] _ _
  obtain ⟨vt, vf⟩ := v
  refine a_if_ne (tgt := 11) d_G_caller_5 (by decide) (fun c => ?_) (fun c => ?_)
  · have v := vt (c); clear vt vf
    refine a_aload_n d_G_caller_11 rfl ?_
    refine b_callV (as := []) (b := 20) (st := []) (kd := 1) (kc1 := 0) (ks1 := 0) (kc2 := kc) (ks2 := ks) (d' := d) ml_G_260 rfl d_G_caller_12 rfl rfl (Nat.le_of_ble_eq_true rfl) (by decide) rfl (Nat.le_refl _) (by omega) (by omega) (KNG_20 hm1) ?_
    refine Ev.mono v ?_
    intro u h2 v
    obtain ⟨rfl, v⟩ := kv_el v
    obtain ⟨hm2, v⟩ := v
    change Ev l D Y_G_caller _ _ _ 15 [some (vr 20), some (vi x1), some (vi x2), none, none] [] _ _
    refine a_iload_n d_G_caller_15 rfl ?_
    refine a_istore_n (L' := [some (vr 20), some (vi x1), some (vi x2), some (vi x2), none]) d_G_caller_16 (Nat.le_of_ble_eq_true rfl) rfl rfl ?_
    refine a_iconst d_G_caller_17 ⟨by decide, by decide⟩ ?_
    refine a_istore (L' := [some (vr 20), some (vi x1), some (vi x2), some (vi x2), some (vi (0 : Int))]) d_G_caller_18 (Nat.le_of_ble_eq_true rfl) rfl rfl ?_
    exact v
  · have v := vf (Classical.not_not.mp c); clear vt vf
    refine a_bipush d_G_caller_8 ⟨by decide, by decide⟩ (by decide) ?_
    exact a_iret d_G_caller_10 rfl v
theorem g_G_caller_20 {l : Launch} {D : DD} {d kc ks : Nat} {h : Hp} {Φ : Option AV → Hp → Prop} {x1 : Int} {x2 : Int} {x3 : Int} {x4 : Int} (hM : GS h) (v : (x4 ≥ xI h 20 3 → (Φ (some (vi (-1 : Int))) h)) ∧ (x4 < xI h 20 3 → ((x2 < 0 → (Φ (some (vi (-1 : Int))) h)) ∧ (x2 ≥ 0 → (0 ≤ x4 ∧ x4 < 48 ∧ (Ev l D Y_G_calls d 0 0 0 [some (vr 20), some (vr (xR h 22 (x4).toNat)), some (vi x1), none, none] [] h (ki (fun r1 h1 => GS h1 ∧ ((r1 = 0 → (Ev l D Y_G_caller (d + 1) kc ks 20 [some (vr 20), some (vi x1), some (vi x2), some (vi x3), some (vi (wr (x4 + (1 : Int))))] [] h1 Φ)) ∧ (¬ r1 = 0 → ((¬ x3 = 0 → (Ev l D Y_G_caller (d + 1) kc ks 20 [some (vr 20), some (vi x1), some (vi x2), some (vi (wr (x3 + (-1 : Int)))), some (vi (wr (x4 + (1 : Int))))] [] h1 Φ)) ∧ (x3 = 0 → (Φ (some (vi x4)) h1))))))))))))) : Ev l D Y_G_caller (d + 1) kc ks 20 [some (vr 20), some (vi x1), some (vi x2), some (vi x3), some (vi x4)] [] h Φ := by
  refine a_iload d_G_caller_20 rfl ?_
  refine a_aload_n d_G_caller_22 rfl ?_
  refine a_getI fl_G_133 d_G_caller_23 (beq_iff_eq.mpr (KNG_20 hM)) ?_
  obtain ⟨vt, vf⟩ := v
  refine a_icmp_ge (tgt := 64) d_G_caller_26 (by decide) (fun c => ?_) (fun c => ?_)
  · have v := vt (c); clear vt vf
    refine a_iconst d_G_caller_64 ⟨by decide, by decide⟩ ?_
    exact a_iret d_G_caller_65 rfl v
  · have v := vf (Int.not_le.mp c); clear vt vf
    refine a_iload_n d_G_caller_29 rfl ?_
    obtain ⟨vt, vf⟩ := v
    refine a_if_lt (tgt := 64) d_G_caller_30 (by decide) (fun c => ?_) (fun c => ?_)
    · have v := vt (c); clear vt vf
      refine a_iconst d_G_caller_64 ⟨by decide, by decide⟩ ?_
      exact a_iret d_G_caller_65 rfl v
    · have v := vf (Int.not_lt.mp c); clear vt vf
      refine a_aload_n d_G_caller_33 rfl ?_
      refine a_aload_n d_G_caller_34 rfl ?_
      refine a_getAe fl_G_17 d_G_caller_35 (beq_iff_eq.mpr (KNG_20 hM)) (KRG_20_2 hM) ?_
      refine a_iload d_G_caller_38 rfl ?_
      obtain ⟨c2, c3, v⟩ := v
      refine a_aald d_G_caller_40 ⟨by rw [KNG_22 hM]; decide, by rw [KNG_22 hM]; decide⟩ c2 (lt_len (NNG_22 hM) c3) ?_
      refine a_iload_n d_G_caller_41 rfl ?_
      refine b_callV (as := [vr (xR h 22 (x4).toNat), vi x1]) (b := 20) (st := []) (kd := 1) (kc1 := 0) (ks1 := 0) (kc2 := kc) (ks2 := ks) (d' := d) ml_G_278 rfl d_G_caller_42 rfl rfl (Nat.le_of_ble_eq_true rfl) (by decide) rfl (Nat.le_refl _) (by omega) (by omega) (KNG_20 hM) ?_
      refine Ev.mono v ?_
      intro u h1 v
      obtain ⟨r1, rfl, v⟩ := ki_el v
      obtain ⟨hm1, v⟩ := v
      change Ev l D Y_G_caller _ _ _ 45 [some (vr 20), some (vi x1), some (vi x2), some (vi x3), some (vi x4)] [vi r1] _ _
      obtain ⟨vt, vf⟩ := v
      refine a_if_eq (tgt := 58) d_G_caller_45 (by decide) (fun c => ?_) (fun c => ?_)
      · have v := vt (c); clear vt vf
        refine a_iinc (L' := [some (vr 20), some (vi x1), some (vi x2), some (vi x3), some (vi (wr (x4 + (1 : Int))))]) d_G_caller_58 rfl (Nat.le_of_ble_eq_true rfl) rfl rfl ?_
        refine a_goto (tgt := 20) d_G_caller_61 (by decide) ?_
        exact v
      · have v := vf (c); clear vt vf
        refine a_iload_n d_G_caller_48 rfl ?_
        refine a_iinc (L' := [some (vr 20), some (vi x1), some (vi x2), some (vi (wr (x3 + (-1 : Int)))), some (vi x4)]) d_G_caller_49 rfl (Nat.le_of_ble_eq_true rfl) rfl rfl ?_
        obtain ⟨vt, vf⟩ := v
        refine a_if_ne (tgt := 58) d_G_caller_52 (by decide) (fun c => ?_) (fun c => ?_)
        · have v := vt (c); clear vt vf
          refine a_iinc (L' := [some (vr 20), some (vi x1), some (vi x2), some (vi (wr (x3 + (-1 : Int)))), some (vi (wr (x4 + (1 : Int))))]) d_G_caller_58 rfl (Nat.le_of_ble_eq_true rfl) rfl rfl ?_
          refine a_goto (tgt := 20) d_G_caller_61 (by decide) ?_
          exact v
        · have v := vf (Classical.not_not.mp c); clear vt vf
          refine a_iload d_G_caller_55 rfl ?_
          exact a_iret d_G_caller_57 rfl v
theorem d_G_measure_0 : decode Y_G_measure.2.1 0 = .ok (.aload_n 0, 1) := by decide +kernel
theorem d_G_measure_1 : decode Y_G_measure.2.1 1 = .ok (.getfield 43, 3) := by decide +kernel
theorem d_G_measure_4 : decode Y_G_measure.2.1 4 = .ok (.bipush 99, 2) := by decide +kernel
theorem d_G_measure_6 : decode Y_G_measure.2.1 6 = .ok (.invokestatic 290, 3) := by decide +kernel
theorem d_G_measure_9 : decode Y_G_measure.2.1 9 = .ok (.aload_n 0, 1) := by decide +kernel
theorem d_G_measure_10 : decode Y_G_measure.2.1 10 = .ok (.getfield 43, 3) := by decide +kernel
theorem d_G_measure_13 : decode Y_G_measure.2.1 13 = .ok (.iload_n 1, 1) := by decide +kernel
theorem d_G_measure_14 : decode Y_G_measure.2.1 14 = .ok (.iconst 0, 1) := by decide +kernel
theorem d_G_measure_15 : decode Y_G_measure.2.1 15 = .ok (.iastore, 1) := by decide +kernel
theorem d_G_measure_16 : decode Y_G_measure.2.1 16 = .ok (.iconst 1, 1) := by decide +kernel
theorem d_G_measure_17 : decode Y_G_measure.2.1 17 = .ok (.istore_n 2, 1) := by decide +kernel
theorem d_G_measure_18 : decode Y_G_measure.2.1 18 = .ok (.iconst 0, 1) := by decide +kernel
theorem d_G_measure_19 : decode Y_G_measure.2.1 19 = .ok (.istore_n 3, 1) := by decide +kernel
theorem d_G_measure_20 : decode Y_G_measure.2.1 20 = .ok (.iload_n 2, 1) := by decide +kernel
theorem d_G_measure_21 : decode Y_G_measure.2.1 21 = .ok (.ifCond .eq 99, 3) := by decide +kernel
theorem d_G_measure_24 : decode Y_G_measure.2.1 24 = .ok (.iconst 0, 1) := by decide +kernel
theorem d_G_measure_25 : decode Y_G_measure.2.1 25 = .ok (.istore_n 2, 1) := by decide +kernel
theorem d_G_measure_26 : decode Y_G_measure.2.1 26 = .ok (.iconst 0, 1) := by decide +kernel
theorem d_G_measure_27 : decode Y_G_measure.2.1 27 = .ok (.istore 4, 2) := by decide +kernel
theorem d_G_measure_29 : decode Y_G_measure.2.1 29 = .ok (.iload 4, 2) := by decide +kernel
theorem d_G_measure_31 : decode Y_G_measure.2.1 31 = .ok (.aload_n 0, 1) := by decide +kernel
theorem d_G_measure_32 : decode Y_G_measure.2.1 32 = .ok (.getfield 133, 3) := by decide +kernel
theorem d_G_measure_35 : decode Y_G_measure.2.1 35 = .ok (.if_icmp .ge 79, 3) := by decide +kernel
theorem d_G_measure_38 : decode Y_G_measure.2.1 38 = .ok (.iconst 0, 1) := by decide +kernel
theorem d_G_measure_39 : decode Y_G_measure.2.1 39 = .ok (.istore 5, 2) := by decide +kernel
theorem d_G_measure_41 : decode Y_G_measure.2.1 41 = .ok (.iload 5, 2) := by decide +kernel
theorem d_G_measure_43 : decode Y_G_measure.2.1 43 = .ok (.aload_n 0, 1) := by decide +kernel
theorem d_G_measure_44 : decode Y_G_measure.2.1 44 = .ok (.getfield 133, 3) := by decide +kernel
theorem d_G_measure_47 : decode Y_G_measure.2.1 47 = .ok (.if_icmp .ge 61, 3) := by decide +kernel
theorem d_G_measure_50 : decode Y_G_measure.2.1 50 = .ok (.aload_n 0, 1) := by decide +kernel
theorem d_G_measure_51 : decode Y_G_measure.2.1 51 = .ok (.getfield 43, 3) := by decide +kernel
theorem d_G_measure_54 : decode Y_G_measure.2.1 54 = .ok (.iload 4, 2) := by decide +kernel
theorem d_G_measure_56 : decode Y_G_measure.2.1 56 = .ok (.iaload, 1) := by decide +kernel
theorem d_G_measure_57 : decode Y_G_measure.2.1 57 = .ok (.iload_n 3, 1) := by decide +kernel
theorem d_G_measure_58 : decode Y_G_measure.2.1 58 = .ok (.iconst 1, 1) := by decide +kernel
theorem d_G_measure_59 : decode Y_G_measure.2.1 59 = .ok (.iadd, 1) := by decide +kernel
theorem d_G_measure_60 : decode Y_G_measure.2.1 60 = .ok (.if_icmp .le 48, 3) := by decide +kernel
theorem d_G_measure_63 : decode Y_G_measure.2.1 63 = .ok (.aload_n 0, 1) := by decide +kernel
theorem d_G_measure_64 : decode Y_G_measure.2.1 64 = .ok (.getfield 43, 3) := by decide +kernel
theorem d_G_measure_67 : decode Y_G_measure.2.1 67 = .ok (.iload 5, 2) := by decide +kernel
theorem d_G_measure_69 : decode Y_G_measure.2.1 69 = .ok (.iaload, 1) := by decide +kernel
theorem d_G_measure_70 : decode Y_G_measure.2.1 70 = .ok (.iload_n 3, 1) := by decide +kernel
theorem d_G_measure_71 : decode Y_G_measure.2.1 71 = .ok (.if_icmp .ne 31, 3) := by decide +kernel
theorem d_G_measure_74 : decode Y_G_measure.2.1 74 = .ok (.aload_n 0, 1) := by decide +kernel
theorem d_G_measure_75 : decode Y_G_measure.2.1 75 = .ok (.aload_n 0, 1) := by decide +kernel
theorem d_G_measure_76 : decode Y_G_measure.2.1 76 = .ok (.getfield 17, 3) := by decide +kernel
theorem d_G_measure_79 : decode Y_G_measure.2.1 79 = .ok (.iload 4, 2) := by decide +kernel
theorem d_G_measure_81 : decode Y_G_measure.2.1 81 = .ok (.aaload, 1) := by decide +kernel
theorem d_G_measure_82 : decode Y_G_measure.2.1 82 = .ok (.iload 5, 2) := by decide +kernel
theorem d_G_measure_84 : decode Y_G_measure.2.1 84 = .ok (.invokevirtual 278, 3) := by decide +kernel
theorem d_G_measure_87 : decode Y_G_measure.2.1 87 = .ok (.ifCond .eq 15, 3) := by decide +kernel
theorem d_G_measure_90 : decode Y_G_measure.2.1 90 = .ok (.aload_n 0, 1) := by decide +kernel
theorem d_G_measure_91 : decode Y_G_measure.2.1 91 = .ok (.getfield 43, 3) := by decide +kernel
theorem d_G_measure_94 : decode Y_G_measure.2.1 94 = .ok (.iload 4, 2) := by decide +kernel
theorem d_G_measure_96 : decode Y_G_measure.2.1 96 = .ok (.iload_n 3, 1) := by decide +kernel
theorem d_G_measure_97 : decode Y_G_measure.2.1 97 = .ok (.iconst 1, 1) := by decide +kernel
theorem d_G_measure_98 : decode Y_G_measure.2.1 98 = .ok (.iadd, 1) := by decide +kernel
theorem d_G_measure_99 : decode Y_G_measure.2.1 99 = .ok (.iastore, 1) := by decide +kernel
theorem d_G_measure_100 : decode Y_G_measure.2.1 100 = .ok (.iconst 1, 1) := by decide +kernel
theorem d_G_measure_101 : decode Y_G_measure.2.1 101 = .ok (.istore_n 2, 1) := by decide +kernel
theorem d_G_measure_102 : decode Y_G_measure.2.1 102 = .ok (.iinc 5 1, 3) := by decide +kernel
theorem d_G_measure_105 : decode Y_G_measure.2.1 105 = .ok (.goto (-64), 3) := by decide +kernel
theorem d_G_measure_108 : decode Y_G_measure.2.1 108 = .ok (.iinc 4 1, 3) := by decide +kernel
theorem d_G_measure_111 : decode Y_G_measure.2.1 111 = .ok (.goto (-82), 3) := by decide +kernel
theorem d_G_measure_114 : decode Y_G_measure.2.1 114 = .ok (.iinc 3 1, 3) := by decide +kernel
theorem d_G_measure_117 : decode Y_G_measure.2.1 117 = .ok (.goto (-97), 3) := by decide +kernel
theorem d_G_measure_120 : decode Y_G_measure.2.1 120 = .ok (.return_, 1) := by decide +kernel
theorem g_G_measure_0 {l : Launch} {D : DD} {d kc ks : Nat} {h : Hp} {Φ : Option AV → Hp → Prop} {x1 : Int} (hM : GS h) (v : Ev l D Y_Arr_fillI d 0 0 0 [some (vr 79), some (vi (99 : Int)), none, none] [] h (kv (fun h1 => GS h1 ∧ (0 ≤ x1 ∧ x1 < 48 ∧ (∀ h2 : Hp, h2 = sI h1 79 (x1).toNat (0 : Int) → (Ev l D Y_G_measure (d + 1) kc ks 20 [some (vr 20), some (vi x1), some (vi (1 : Int)), some (vi (0 : Int)), none, none] [] h2 Φ)))))) : Ev l D Y_G_measure (d + 1) kc ks 0 [some (vr 20), some (vi x1), none, none, none, none] [] h Φ := by
  refine a_aload_n d_G_measure_0 rfl ?_
  refine a_getAe fl_G_43 d_G_measure_1 (beq_iff_eq.mpr (KNG_20 hM)) (KRG_20_14 hM) ?_
  refine a_bipush d_G_measure_4 ⟨by decide, by decide⟩ (by decide) ?_
  refine b_callS (as := [vr 79, vi (99 : Int)]) (st := []) (kc1 := 0) (ks1 := 0) (kc2 := kc) (ks2 := ks) (d' := d) ml_G_290 rfl d_G_measure_6 rfl rfl (Nat.le_of_ble_eq_true rfl) rfl (Nat.le_refl _) (by omega) (by omega) ?_
  refine Ev.mono v ?_
  intro u h1 v
  obtain ⟨rfl, v⟩ := kv_el v
  obtain ⟨hm1, v⟩ := v
  change Ev l D Y_G_measure _ _ _ 9 [some (vr 20), some (vi x1), none, none, none, none] [] _ _
  refine a_aload_n d_G_measure_9 rfl ?_
  refine a_getAe fl_G_43 d_G_measure_10 (beq_iff_eq.mpr (KNG_20 hm1)) (KRG_20_14 hm1) ?_
  refine a_iload_n d_G_measure_13 rfl ?_
  refine a_iconst d_G_measure_14 ⟨by decide, by decide⟩ ?_
  obtain ⟨c3, c4, v⟩ := v
  have v := v _ rfl
  refine a_iast d_G_measure_15 (KNG_79 hm1) (by decide) c3 (lt_len (NNG_79 hm1) c4) ?_
  refine a_iconst d_G_measure_16 ⟨by decide, by decide⟩ ?_
  refine a_istore_n (L' := [some (vr 20), some (vi x1), some (vi (1 : Int)), none, none, none]) d_G_measure_17 (Nat.le_of_ble_eq_true rfl) rfl rfl ?_
  refine a_iconst d_G_measure_18 ⟨by decide, by decide⟩ ?_
  refine a_istore_n (L' := [some (vr 20), some (vi x1), some (vi (1 : Int)), some (vi (0 : Int)), none, none]) d_G_measure_19 (Nat.le_of_ble_eq_true rfl) rfl rfl ?_
  exact v
theorem g_G_measure_20 {l : Launch} {D : DD} {d kc ks : Nat} {h : Hp} {Φ : Option AV → Hp → Prop} {x1 : Int} {x2 : Int} {x3 : Int} (hM : GS h) (v : (x2 = 0 → (Φ none h)) ∧ (¬ x2 = 0 → (Ev l D Y_G_measure (d + 1) kc ks 29 [some (vr 20), some (vi x1), some (vi (0 : Int)), some (vi x3), some (vi (0 : Int)), none] [] h Φ))) : Ev l D Y_G_measure (d + 1) kc ks 20 [some (vr 20), some (vi x1), some (vi x2), some (vi x3), none, none] [] h Φ := by
  refine a_iload_n d_G_measure_20 rfl ?_
  obtain ⟨vt, vf⟩ := v
  refine a_if_eq (tgt := 120) d_G_measure_21 (by decide) (fun c => ?_) (fun c => ?_)
  · have v := vt (c); clear vt vf
    exact a_vret d_G_measure_120 rfl v
  · have v := vf (c); clear vt vf
    refine a_iconst d_G_measure_24 ⟨by decide, by decide⟩ ?_
    refine a_istore_n (L' := [some (vr 20), some (vi x1), some (vi (0 : Int)), some (vi x3), none, none]) d_G_measure_25 (Nat.le_of_ble_eq_true rfl) rfl rfl ?_
    refine a_iconst d_G_measure_26 ⟨by decide, by decide⟩ ?_
    refine a_istore (L' := [some (vr 20), some (vi x1), some (vi (0 : Int)), some (vi x3), some (vi (0 : Int)), none]) d_G_measure_27 (Nat.le_of_ble_eq_true rfl) rfl rfl ?_
    exact v
theorem g_G_measure_29 {l : Launch} {D : DD} {d kc ks : Nat} {h : Hp} {Φ : Option AV → Hp → Prop} {x1 : Int} {x2 : Int} {x3 : Int} {x4 : Int} (hM : GS h) (v : (x4 ≥ xI h 20 3 → (Ev l D Y_G_measure (d + 1) kc ks 20 [some (vr 20), some (vi x1), some (vi x2), some (vi (wr (x3 + (1 : Int)))), none, none] [] h Φ)) ∧ (x4 < xI h 20 3 → (Ev l D Y_G_measure (d + 1) kc ks 41 [some (vr 20), some (vi x1), some (vi x2), some (vi x3), some (vi x4), some (vi (0 : Int))] [] h Φ))) : Ev l D Y_G_measure (d + 1) kc ks 29 [some (vr 20), some (vi x1), some (vi x2), some (vi x3), some (vi x4), none] [] h Φ := by
  refine a_iload d_G_measure_29 rfl ?_
  refine a_aload_n d_G_measure_31 rfl ?_
  refine a_getI fl_G_133 d_G_measure_32 (beq_iff_eq.mpr (KNG_20 hM)) ?_
  obtain ⟨vt, vf⟩ := v
  refine a_icmp_ge (tgt := 114) d_G_measure_35 (by decide) (fun c => ?_) (fun c => ?_)
  · have v := vt (c); clear vt vf
    refine a_iinc (L' := [some (vr 20), some (vi x1), some (vi x2), some (vi (wr (x3 + (1 : Int)))), some (vi x4), none]) d_G_measure_114 rfl (Nat.le_of_ble_eq_true rfl) rfl rfl ?_
    refine a_goto (tgt := 20) d_G_measure_117 (by decide) ?_
    exact Ev.weak v ⟨rfl, rfl, rfl, rfl, trivial⟩
  · have v := vf (Int.not_le.mp c); clear vt vf
    refine a_iconst d_G_measure_38 ⟨by decide, by decide⟩ ?_
    refine a_istore (L' := [some (vr 20), some (vi x1), some (vi x2), some (vi x3), some (vi x4), some (vi (0 : Int))]) d_G_measure_39 (Nat.le_of_ble_eq_true rfl) rfl rfl ?_
    exact v
theorem g_G_measure_41 {l : Launch} {D : DD} {d kc ks : Nat} {h : Hp} {Φ : Option AV → Hp → Prop} {x1 : Int} {x2 : Int} {x3 : Int} {x4 : Int} {x5 : Int} (hM : GS h) (v : (x5 ≥ xI h 20 3 → (Ev l D Y_G_measure (d + 1) kc ks 29 [some (vr 20), some (vi x1), some (vi x2), some (vi x3), some (vi (wr (x4 + (1 : Int)))), none] [] h Φ)) ∧ (x5 < xI h 20 3 → (0 ≤ x4 ∧ x4 < 48 ∧ ((xI h 79 (x4).toNat ≤ wr (x3 + (1 : Int)) → (Ev l D Y_G_measure (d + 1) kc ks 29 [some (vr 20), some (vi x1), some (vi x2), some (vi x3), some (vi (wr (x4 + (1 : Int)))), none] [] h Φ)) ∧ (xI h 79 (x4).toNat > wr (x3 + (1 : Int)) → (0 ≤ x5 ∧ x5 < 48 ∧ ((¬ xI h 79 (x5).toNat = x3 → (Ev l D Y_G_measure (d + 1) kc ks 41 [some (vr 20), some (vi x1), some (vi x2), some (vi x3), some (vi x4), some (vi (wr (x5 + (1 : Int))))] [] h Φ)) ∧ (xI h 79 (x5).toNat = x3 → (0 ≤ x4 ∧ x4 < 48 ∧ (Ev l D Y_G_calls d 0 0 0 [some (vr 20), some (vr (xR h 22 (x4).toNat)), some (vi x5), none, none] [] h (ki (fun r1 h1 => GS h1 ∧ ((r1 = 0 → (Ev l D Y_G_measure (d + 1) kc ks 41 [some (vr 20), some (vi x1), some (vi x2), some (vi x3), some (vi x4), some (vi (wr (x5 + (1 : Int))))] [] h1 Φ)) ∧ (¬ r1 = 0 → (0 ≤ x4 ∧ x4 < 48 ∧ (∀ h2 : Hp, h2 = sI h1 79 (x4).toNat (wr (x3 + (1 : Int))) → (Ev l D Y_G_measure (d + 1) kc ks 41 [some (vr 20), some (vi x1), some (vi (1 : Int)), some (vi x3), some (vi x4), some (vi (wr (x5 + (1 : Int))))] [] h2 Φ))))))))))))))))) : Ev l D Y_G_measure (d + 1) kc ks 41 [some (vr 20), some (vi x1), some (vi x2), some (vi x3), some (vi x4), some (vi x5)] [] h Φ := by
  refine a_iload d_G_measure_41 rfl ?_
  refine a_aload_n d_G_measure_43 rfl ?_
  refine a_getI fl_G_133 d_G_measure_44 (beq_iff_eq.mpr (KNG_20 hM)) ?_
  obtain ⟨vt, vf⟩ := v
  refine a_icmp_ge (tgt := 108) d_G_measure_47 (by decide) (fun c => ?_) (fun c => ?_)
  · have v := vt (c); clear vt vf
    refine a_iinc (L' := [some (vr 20), some (vi x1), some (vi x2), some (vi x3), some (vi (wr (x4 + (1 : Int)))), some (vi x5)]) d_G_measure_108 rfl (Nat.le_of_ble_eq_true rfl) rfl rfl ?_
    refine a_goto (tgt := 29) d_G_measure_111 (by decide) ?_
    exact Ev.weak v ⟨rfl, rfl, rfl, rfl, rfl, trivial⟩
  · have v := vf (Int.not_le.mp c); clear vt vf
    refine a_aload_n d_G_measure_50 rfl ?_
    refine a_getAe fl_G_43 d_G_measure_51 (beq_iff_eq.mpr (KNG_20 hM)) (KRG_20_14 hM) ?_
    refine a_iload d_G_measure_54 rfl ?_
    obtain ⟨c2, c3, v⟩ := v
    refine a_iald d_G_measure_56 (Or.inl (KNG_79 hM)) c2 (lt_len (NNG_79 hM) c3) ?_
    refine a_iload_n d_G_measure_57 rfl ?_
    refine a_iconst d_G_measure_58 ⟨by decide, by decide⟩ ?_
    refine a_iadd d_G_measure_59 ?_
    obtain ⟨vt, vf⟩ := v
    refine a_icmp_le (tgt := 108) d_G_measure_60 (by decide) (fun c => ?_) (fun c => ?_)
    · have v := vt (c); clear vt vf
      refine a_iinc (L' := [some (vr 20), some (vi x1), some (vi x2), some (vi x3), some (vi (wr (x4 + (1 : Int)))), some (vi x5)]) d_G_measure_108 rfl (Nat.le_of_ble_eq_true rfl) rfl rfl ?_
      refine a_goto (tgt := 29) d_G_measure_111 (by decide) ?_
      exact Ev.weak v ⟨rfl, rfl, rfl, rfl, rfl, trivial⟩
    · have v := vf (Int.not_le.mp c); clear vt vf
      refine a_aload_n d_G_measure_63 rfl ?_
      refine a_getAe fl_G_43 d_G_measure_64 (beq_iff_eq.mpr (KNG_20 hM)) (KRG_20_14 hM) ?_
      refine a_iload d_G_measure_67 rfl ?_
      obtain ⟨c5, c6, v⟩ := v
      refine a_iald d_G_measure_69 (Or.inl (KNG_79 hM)) c5 (lt_len (NNG_79 hM) c6) ?_
      refine a_iload_n d_G_measure_70 rfl ?_
      obtain ⟨vt, vf⟩ := v
      refine a_icmp_ne (tgt := 102) d_G_measure_71 (by decide) (fun c => ?_) (fun c => ?_)
      · have v := vt (c); clear vt vf
        refine a_iinc (L' := [some (vr 20), some (vi x1), some (vi x2), some (vi x3), some (vi x4), some (vi (wr (x5 + (1 : Int))))]) d_G_measure_102 rfl (Nat.le_of_ble_eq_true rfl) rfl rfl ?_
        refine a_goto (tgt := 41) d_G_measure_105 (by decide) ?_
        exact v
      · have v := vf (Classical.not_not.mp c); clear vt vf
        refine a_aload_n d_G_measure_74 rfl ?_
        refine a_aload_n d_G_measure_75 rfl ?_
        refine a_getAe fl_G_17 d_G_measure_76 (beq_iff_eq.mpr (KNG_20 hM)) (KRG_20_2 hM) ?_
        refine a_iload d_G_measure_79 rfl ?_
        obtain ⟨c8, c9, v⟩ := v
        refine a_aald d_G_measure_81 ⟨by rw [KNG_22 hM]; decide, by rw [KNG_22 hM]; decide⟩ c8 (lt_len (NNG_22 hM) c9) ?_
        refine a_iload d_G_measure_82 rfl ?_
        refine b_callV (as := [vr (xR h 22 (x4).toNat), vi x5]) (b := 20) (st := []) (kd := 1) (kc1 := 0) (ks1 := 0) (kc2 := kc) (ks2 := ks) (d' := d) ml_G_278 rfl d_G_measure_84 rfl rfl (Nat.le_of_ble_eq_true rfl) (by decide) rfl (Nat.le_refl _) (by omega) (by omega) (KNG_20 hM) ?_
        refine Ev.mono v ?_
        intro u h1 v
        obtain ⟨r1, rfl, v⟩ := ki_el v
        obtain ⟨hm1, v⟩ := v
        change Ev l D Y_G_measure _ _ _ 87 [some (vr 20), some (vi x1), some (vi x2), some (vi x3), some (vi x4), some (vi x5)] [vi r1] _ _
        obtain ⟨vt, vf⟩ := v
        refine a_if_eq (tgt := 102) d_G_measure_87 (by decide) (fun c => ?_) (fun c => ?_)
        · have v := vt (c); clear vt vf
          refine a_iinc (L' := [some (vr 20), some (vi x1), some (vi x2), some (vi x3), some (vi x4), some (vi (wr (x5 + (1 : Int))))]) d_G_measure_102 rfl (Nat.le_of_ble_eq_true rfl) rfl rfl ?_
          refine a_goto (tgt := 41) d_G_measure_105 (by decide) ?_
          exact v
        · have v := vf (c); clear vt vf
          refine a_aload_n d_G_measure_90 rfl ?_
          refine a_getAe fl_G_43 d_G_measure_91 (beq_iff_eq.mpr (KNG_20 hm1)) (KRG_20_14 hm1) ?_
          refine a_iload d_G_measure_94 rfl ?_
          refine a_iload_n d_G_measure_96 rfl ?_
          refine a_iconst d_G_measure_97 ⟨by decide, by decide⟩ ?_
          refine a_iadd d_G_measure_98 ?_
          obtain ⟨c12, c13, v⟩ := v
          have v := v _ rfl
          refine a_iast d_G_measure_99 (KNG_79 hm1) (by decide) c12 (lt_len (NNG_79 hm1) c13) ?_
          refine a_iconst d_G_measure_100 ⟨by decide, by decide⟩ ?_
          refine a_istore_n (L' := [some (vr 20), some (vi x1), some (vi (1 : Int)), some (vi x3), some (vi x4), some (vi x5)]) d_G_measure_101 (Nat.le_of_ble_eq_true rfl) rfl rfl ?_
          refine a_iinc (L' := [some (vr 20), some (vi x1), some (vi (1 : Int)), some (vi x3), some (vi x4), some (vi (wr (x5 + (1 : Int))))]) d_G_measure_102 rfl (Nat.le_of_ble_eq_true rfl) rfl rfl ?_
          refine a_goto (tgt := 41) d_G_measure_105 (by decide) ?_
          exact v
theorem d_G_way_0 : decode Y_G_way.2.1 0 = .ok (.aload_n 0, 1) := by decide +kernel
theorem d_G_way_1 : decode Y_G_way.2.1 1 = .ok (.iload_n 1, 1) := by decide +kernel
theorem d_G_way_2 : decode Y_G_way.2.1 2 = .ok (.invokevirtual 246, 3) := by decide +kernel
theorem d_G_way_5 : decode Y_G_way.2.1 5 = .ok (.ifCond .ne 6, 3) := by decide +kernel
theorem d_G_way_8 : decode Y_G_way.2.1 8 = .ok (.bipush (-101), 2) := by decide +kernel
theorem d_G_way_10 : decode Y_G_way.2.1 10 = .ok (.ireturn, 1) := by decide +kernel
theorem d_G_way_11 : decode Y_G_way.2.1 11 = .ok (.aload_n 0, 1) := by decide +kernel
theorem d_G_way_12 : decode Y_G_way.2.1 12 = .ok (.invokevirtual 260, 3) := by decide +kernel
theorem d_G_way_15 : decode Y_G_way.2.1 15 = .ok (.aload_n 0, 1) := by decide +kernel
theorem d_G_way_16 : decode Y_G_way.2.1 16 = .ok (.getfield 17, 3) := by decide +kernel
theorem d_G_way_19 : decode Y_G_way.2.1 19 = .ok (.iload_n 1, 1) := by decide +kernel
theorem d_G_way_20 : decode Y_G_way.2.1 20 = .ok (.aaload, 1) := by decide +kernel
theorem d_G_way_21 : decode Y_G_way.2.1 21 = .ok (.getfield 139, 3) := by decide +kernel
theorem d_G_way_24 : decode Y_G_way.2.1 24 = .ok (.ifCond .eq 7, 3) := by decide +kernel
theorem d_G_way_27 : decode Y_G_way.2.1 27 = .ok (.iload_n 2, 1) := by decide +kernel
theorem d_G_way_28 : decode Y_G_way.2.1 28 = .ok (.ifCond .ge 5, 3) := by decide +kernel
theorem d_G_way_31 : decode Y_G_way.2.1 31 = .ok (.iconst (-1), 1) := by decide +kernel
theorem d_G_way_32 : decode Y_G_way.2.1 32 = .ok (.ireturn, 1) := by decide +kernel
theorem d_G_way_33 : decode Y_G_way.2.1 33 = .ok (.aload_n 0, 1) := by decide +kernel
theorem d_G_way_34 : decode Y_G_way.2.1 34 = .ok (.iload_n 1, 1) := by decide +kernel
theorem d_G_way_35 : decode Y_G_way.2.1 35 = .ok (.invokevirtual 293, 3) := by decide +kernel
theorem d_G_way_38 : decode Y_G_way.2.1 38 = .ok (.iconst (-1), 1) := by decide +kernel
theorem d_G_way_39 : decode Y_G_way.2.1 39 = .ok (.istore_n 3, 1) := by decide +kernel
theorem d_G_way_40 : decode Y_G_way.2.1 40 = .ok (.iconst 0, 1) := by decide +kernel
theorem d_G_way_41 : decode Y_G_way.2.1 41 = .ok (.istore 4, 2) := by decide +kernel
theorem d_G_way_43 : decode Y_G_way.2.1 43 = .ok (.iload 4, 2) := by decide +kernel
theorem d_G_way_45 : decode Y_G_way.2.1 45 = .ok (.aload_n 0, 1) := by decide +kernel
theorem d_G_way_46 : decode Y_G_way.2.1 46 = .ok (.getfield 133, 3) := by decide +kernel
theorem d_G_way_49 : decode Y_G_way.2.1 49 = .ok (.if_icmp .ge 49, 3) := by decide +kernel
theorem d_G_way_52 : decode Y_G_way.2.1 52 = .ok (.aload_n 0, 1) := by decide +kernel
theorem d_G_way_53 : decode Y_G_way.2.1 53 = .ok (.getfield 17, 3) := by decide +kernel
theorem d_G_way_56 : decode Y_G_way.2.1 56 = .ok (.iload 4, 2) := by decide +kernel
theorem d_G_way_58 : decode Y_G_way.2.1 58 = .ok (.aaload, 1) := by decide +kernel
theorem d_G_way_59 : decode Y_G_way.2.1 59 = .ok (.getfield 136, 3) := by decide +kernel
theorem d_G_way_62 : decode Y_G_way.2.1 62 = .ok (.ifCond .eq 28, 3) := by decide +kernel
theorem d_G_way_65 : decode Y_G_way.2.1 65 = .ok (.iload_n 3, 1) := by decide +kernel
theorem d_G_way_66 : decode Y_G_way.2.1 66 = .ok (.ifCond .lt 19, 3) := by decide +kernel
theorem d_G_way_69 : decode Y_G_way.2.1 69 = .ok (.aload_n 0, 1) := by decide +kernel
theorem d_G_way_70 : decode Y_G_way.2.1 70 = .ok (.getfield 43, 3) := by decide +kernel
theorem d_G_way_73 : decode Y_G_way.2.1 73 = .ok (.iload 4, 2) := by decide +kernel
theorem d_G_way_75 : decode Y_G_way.2.1 75 = .ok (.iaload, 1) := by decide +kernel
theorem d_G_way_76 : decode Y_G_way.2.1 76 = .ok (.aload_n 0, 1) := by decide +kernel
theorem d_G_way_77 : decode Y_G_way.2.1 77 = .ok (.getfield 43, 3) := by decide +kernel
theorem d_G_way_80 : decode Y_G_way.2.1 80 = .ok (.iload_n 3, 1) := by decide +kernel
theorem d_G_way_81 : decode Y_G_way.2.1 81 = .ok (.iaload, 1) := by decide +kernel
theorem d_G_way_82 : decode Y_G_way.2.1 82 = .ok (.if_icmp .ge 8, 3) := by decide +kernel
theorem d_G_way_85 : decode Y_G_way.2.1 85 = .ok (.iload 4, 2) := by decide +kernel
theorem d_G_way_87 : decode Y_G_way.2.1 87 = .ok (.goto 4, 3) := by decide +kernel
theorem d_G_way_90 : decode Y_G_way.2.1 90 = .ok (.iload_n 3, 1) := by decide +kernel
theorem d_G_way_91 : decode Y_G_way.2.1 91 = .ok (.istore_n 3, 1) := by decide +kernel
theorem d_G_way_92 : decode Y_G_way.2.1 92 = .ok (.iinc 4 1, 3) := by decide +kernel
theorem d_G_way_95 : decode Y_G_way.2.1 95 = .ok (.goto (-52), 3) := by decide +kernel
theorem d_G_way_98 : decode Y_G_way.2.1 98 = .ok (.iconst 0, 1) := by decide +kernel
theorem d_G_way_99 : decode Y_G_way.2.1 99 = .ok (.istore 4, 2) := by decide +kernel
theorem d_G_way_101 : decode Y_G_way.2.1 101 = .ok (.iload 4, 2) := by decide +kernel
theorem d_G_way_103 : decode Y_G_way.2.1 103 = .ok (.iload_n 2, 1) := by decide +kernel
theorem d_G_way_104 : decode Y_G_way.2.1 104 = .ok (.if_icmp .ge 74, 3) := by decide +kernel
theorem d_G_way_107 : decode Y_G_way.2.1 107 = .ok (.iconst 0, 1) := by decide +kernel
theorem d_G_way_108 : decode Y_G_way.2.1 108 = .ok (.istore 5, 2) := by decide +kernel
theorem d_G_way_110 : decode Y_G_way.2.1 110 = .ok (.iload 5, 2) := by decide +kernel
theorem d_G_way_112 : decode Y_G_way.2.1 112 = .ok (.aload_n 0, 1) := by decide +kernel
theorem d_G_way_113 : decode Y_G_way.2.1 113 = .ok (.getfield 133, 3) := by decide +kernel
theorem d_G_way_116 : decode Y_G_way.2.1 116 = .ok (.if_icmp .ge 42, 3) := by decide +kernel
theorem d_G_way_119 : decode Y_G_way.2.1 119 = .ok (.aload_n 0, 1) := by decide +kernel
theorem d_G_way_120 : decode Y_G_way.2.1 120 = .ok (.getfield 43, 3) := by decide +kernel
theorem d_G_way_123 : decode Y_G_way.2.1 123 = .ok (.iload 5, 2) := by decide +kernel
theorem d_G_way_125 : decode Y_G_way.2.1 125 = .ok (.iaload, 1) := by decide +kernel
theorem d_G_way_126 : decode Y_G_way.2.1 126 = .ok (.aload_n 0, 1) := by decide +kernel
theorem d_G_way_127 : decode Y_G_way.2.1 127 = .ok (.getfield 43, 3) := by decide +kernel
theorem d_G_way_130 : decode Y_G_way.2.1 130 = .ok (.iload_n 3, 1) := by decide +kernel
theorem d_G_way_131 : decode Y_G_way.2.1 131 = .ok (.iaload, 1) := by decide +kernel
theorem d_G_way_132 : decode Y_G_way.2.1 132 = .ok (.iconst 1, 1) := by decide +kernel
theorem d_G_way_133 : decode Y_G_way.2.1 133 = .ok (.isub, 1) := by decide +kernel
theorem d_G_way_134 : decode Y_G_way.2.1 134 = .ok (.if_icmp .ne 18, 3) := by decide +kernel
theorem d_G_way_137 : decode Y_G_way.2.1 137 = .ok (.aload_n 0, 1) := by decide +kernel
theorem d_G_way_138 : decode Y_G_way.2.1 138 = .ok (.aload_n 0, 1) := by decide +kernel
theorem d_G_way_139 : decode Y_G_way.2.1 139 = .ok (.getfield 17, 3) := by decide +kernel
theorem d_G_way_142 : decode Y_G_way.2.1 142 = .ok (.iload_n 3, 1) := by decide +kernel
theorem d_G_way_143 : decode Y_G_way.2.1 143 = .ok (.aaload, 1) := by decide +kernel
theorem d_G_way_144 : decode Y_G_way.2.1 144 = .ok (.iload 5, 2) := by decide +kernel
theorem d_G_way_146 : decode Y_G_way.2.1 146 = .ok (.invokevirtual 278, 3) := by decide +kernel
theorem d_G_way_149 : decode Y_G_way.2.1 149 = .ok (.ifCond .ne 9, 3) := by decide +kernel
theorem d_G_way_152 : decode Y_G_way.2.1 152 = .ok (.iinc 5 1, 3) := by decide +kernel
theorem d_G_way_155 : decode Y_G_way.2.1 155 = .ok (.goto (-45), 3) := by decide +kernel
theorem d_G_way_158 : decode Y_G_way.2.1 158 = .ok (.iload 5, 2) := by decide +kernel
theorem d_G_way_160 : decode Y_G_way.2.1 160 = .ok (.aload_n 0, 1) := by decide +kernel
theorem d_G_way_161 : decode Y_G_way.2.1 161 = .ok (.getfield 133, 3) := by decide +kernel
theorem d_G_way_164 : decode Y_G_way.2.1 164 = .ok (.if_icmp .ne 5, 3) := by decide +kernel
theorem d_G_way_167 : decode Y_G_way.2.1 167 = .ok (.iconst (-1), 1) := by decide +kernel
theorem d_G_way_168 : decode Y_G_way.2.1 168 = .ok (.ireturn, 1) := by decide +kernel
theorem d_G_way_169 : decode Y_G_way.2.1 169 = .ok (.iload 5, 2) := by decide +kernel
theorem d_G_way_171 : decode Y_G_way.2.1 171 = .ok (.istore_n 3, 1) := by decide +kernel
theorem d_G_way_172 : decode Y_G_way.2.1 172 = .ok (.iinc 4 1, 3) := by decide +kernel
theorem d_G_way_175 : decode Y_G_way.2.1 175 = .ok (.goto (-74), 3) := by decide +kernel
theorem d_G_way_178 : decode Y_G_way.2.1 178 = .ok (.iload_n 3, 1) := by decide +kernel
theorem d_G_way_179 : decode Y_G_way.2.1 179 = .ok (.ireturn, 1) := by decide +kernel
theorem g_G_way_0 {l : Launch} {D : DD} {d kc ks : Nat} {h : Hp} {Φ : Option AV → Hp → Prop} {x1 : Int} {x2 : Int} (hM : GS h) (v : Ev l D Y_G_isMember d 0 0 0 [some (vr 20), some (vi x1)] [] h (ki (fun r1 h1 => GS h1 ∧ ((¬ r1 = 0 → (Ev l D Y_G_draw d 0 0 0 [some (vr 20), none, none, none, none] [] h1 (kv (fun h2 => GS h2 ∧ (0 ≤ x1 ∧ x1 < 48 ∧ (xK h2 (xR h2 22 (x1).toNat) = 4 ∧ ((xI h2 (xR h2 22 (x1).toNat) 7 = 0 → (Φ (some (vi (-1 : Int))) h2)) ∧ (¬ xI h2 (xR h2 22 (x1).toNat) 7 = 0 → ((x2 ≥ 0 → (Ev l D Y_G_measure d 0 0 0 [some (vr 20), some (vi x1), none, none, none, none] [] h2 (kv (fun h3 => GS h3 ∧ (Ev l D Y_G_way (d + 1) kc ks 43 [some (vr 20), some (vi x1), some (vi x2), some (vi (-1 : Int)), some (vi (0 : Int)), none] [] h3 Φ))))) ∧ (x2 < 0 → (Φ (some (vi (-1 : Int))) h2))))))))))) ∧ (r1 = 0 → (Φ (some (vi (-101 : Int))) h1)))))) : Ev l D Y_G_way (d + 1) kc ks 0 [some (vr 20), some (vi x1), some (vi x2), none, none, none] [] h Φ := by
  refine a_aload_n d_G_way_0 rfl ?_
  refine a_iload_n d_G_way_1 rfl ?_
  refine b_callV (as := [vi x1]) (b := 20) (st := []) (kd := 1) (kc1 := 0) (ks1 := 0) (kc2 := kc) (ks2 := ks) (d' := d) ml_G_246 rfl d_G_way_2 rfl rfl (Nat.le_of_ble_eq_true rfl) (by decide) rfl (Nat.le_refl _) (by omega) (by omega) (KNG_20 hM) ?_
  refine Ev.mono v ?_
  intro u h1 v
  obtain ⟨r1, rfl, v⟩ := ki_el v
  obtain ⟨hm1, v⟩ := v
  change Ev l D Y_G_way _ _ _ 5 [some (vr 20), some (vi x1), some (vi x2), none, none, none] [vi r1] _ _
  obtain ⟨vt, vf⟩ := v
  refine a_if_ne (tgt := 11) d_G_way_5 (by decide) (fun c => ?_) (fun c => ?_)
  · have v := vt (c); clear vt vf
    refine a_aload_n d_G_way_11 rfl ?_
    refine b_callV (as := []) (b := 20) (st := []) (kd := 1) (kc1 := 0) (ks1 := 0) (kc2 := kc) (ks2 := ks) (d' := d) ml_G_260 rfl d_G_way_12 rfl rfl (Nat.le_of_ble_eq_true rfl) (by decide) rfl (Nat.le_refl _) (by omega) (by omega) (KNG_20 hm1) ?_
    refine Ev.mono v ?_
    intro u h2 v
    obtain ⟨rfl, v⟩ := kv_el v
    obtain ⟨hm2, v⟩ := v
    change Ev l D Y_G_way _ _ _ 15 [some (vr 20), some (vi x1), some (vi x2), none, none, none] [] _ _
    refine a_aload_n d_G_way_15 rfl ?_
    refine a_getAe fl_G_17 d_G_way_16 (beq_iff_eq.mpr (KNG_20 hm2)) (KRG_20_2 hm2) ?_
    refine a_iload_n d_G_way_19 rfl ?_
    obtain ⟨c2, c3, v⟩ := v
    refine a_aald d_G_way_20 ⟨by rw [KNG_22 hm2]; decide, by rw [KNG_22 hm2]; decide⟩ c2 (lt_len (NNG_22 hm2) c3) ?_
    obtain ⟨c4, v⟩ := v
    refine a_getZN fl_G_139 d_G_way_21 (beq_iff_eq.mpr c4) ?_
    obtain ⟨vt, vf⟩ := v
    refine a_if_eq (tgt := 31) d_G_way_24 (by decide) (fun c => ?_) (fun c => ?_)
    · have v := vt (c); clear vt vf
      refine a_iconst d_G_way_31 ⟨by decide, by decide⟩ ?_
      exact a_iret d_G_way_32 rfl v
    · have v := vf (c); clear vt vf
      refine a_iload_n d_G_way_27 rfl ?_
      obtain ⟨vt, vf⟩ := v
      refine a_if_ge (tgt := 33) d_G_way_28 (by decide) (fun c => ?_) (fun c => ?_)
      · have v := vt (c); clear vt vf
        refine a_aload_n d_G_way_33 rfl ?_
        refine a_iload_n d_G_way_34 rfl ?_
        refine b_callV (as := [vi x1]) (b := 20) (st := []) (kd := 1) (kc1 := 0) (ks1 := 0) (kc2 := kc) (ks2 := ks) (d' := d) ml_G_293 rfl d_G_way_35 rfl rfl (Nat.le_of_ble_eq_true rfl) (by decide) rfl (Nat.le_refl _) (by omega) (by omega) (KNG_20 hm2) ?_
        refine Ev.mono v ?_
        intro u h3 v
        obtain ⟨rfl, v⟩ := kv_el v
        obtain ⟨hm3, v⟩ := v
        change Ev l D Y_G_way _ _ _ 38 [some (vr 20), some (vi x1), some (vi x2), none, none, none] [] _ _
        refine a_iconst d_G_way_38 ⟨by decide, by decide⟩ ?_
        refine a_istore_n (L' := [some (vr 20), some (vi x1), some (vi x2), some (vi (-1 : Int)), none, none]) d_G_way_39 (Nat.le_of_ble_eq_true rfl) rfl rfl ?_
        refine a_iconst d_G_way_40 ⟨by decide, by decide⟩ ?_
        refine a_istore (L' := [some (vr 20), some (vi x1), some (vi x2), some (vi (-1 : Int)), some (vi (0 : Int)), none]) d_G_way_41 (Nat.le_of_ble_eq_true rfl) rfl rfl ?_
        exact v
      · have v := vf (Int.not_le.mp c); clear vt vf
        refine a_iconst d_G_way_31 ⟨by decide, by decide⟩ ?_
        exact a_iret d_G_way_32 rfl v
  · have v := vf (Classical.not_not.mp c); clear vt vf
    refine a_bipush d_G_way_8 ⟨by decide, by decide⟩ (by decide) ?_
    exact a_iret d_G_way_10 rfl v
theorem g_G_way_43 {l : Launch} {D : DD} {d kc ks : Nat} {h : Hp} {Φ : Option AV → Hp → Prop} {x1 : Int} {x2 : Int} {x3 : Int} {x4 : Int} (hM : GS h) (v : (x4 ≥ xI h 20 3 → (Ev l D Y_G_way (d + 1) kc ks 101 [some (vr 20), some (vi x1), some (vi x2), some (vi x3), some (vi (0 : Int)), none] [] h Φ)) ∧ (x4 < xI h 20 3 → (0 ≤ x4 ∧ x4 < 48 ∧ (xK h (xR h 22 (x4).toNat) = 4 ∧ ((xI h (xR h 22 (x4).toNat) 6 = 0 → (Ev l D Y_G_way (d + 1) kc ks 43 [some (vr 20), some (vi x1), some (vi x2), some (vi x3), some (vi (wr (x4 + (1 : Int)))), none] [] h Φ)) ∧ (¬ xI h (xR h 22 (x4).toNat) 6 = 0 → ((x3 < 0 → (Ev l D Y_G_way (d + 1) kc ks 43 [some (vr 20), some (vi x1), some (vi x2), some (vi x4), some (vi (wr (x4 + (1 : Int)))), none] [] h Φ)) ∧ (x3 ≥ 0 → (0 ≤ x4 ∧ x4 < 48 ∧ (0 ≤ x3 ∧ x3 < 48 ∧ ((xI h 79 (x4).toNat ≥ xI h 79 (x3).toNat → (Ev l D Y_G_way (d + 1) kc ks 43 [some (vr 20), some (vi x1), some (vi x2), some (vi x3), some (vi (wr (x4 + (1 : Int)))), none] [] h Φ)) ∧ (xI h 79 (x4).toNat < xI h 79 (x3).toNat → (Ev l D Y_G_way (d + 1) kc ks 43 [some (vr 20), some (vi x1), some (vi x2), some (vi x4), some (vi (wr (x4 + (1 : Int)))), none] [] h Φ))))))))))))) : Ev l D Y_G_way (d + 1) kc ks 43 [some (vr 20), some (vi x1), some (vi x2), some (vi x3), some (vi x4), none] [] h Φ := by
  refine a_iload d_G_way_43 rfl ?_
  refine a_aload_n d_G_way_45 rfl ?_
  refine a_getI fl_G_133 d_G_way_46 (beq_iff_eq.mpr (KNG_20 hM)) ?_
  obtain ⟨vt, vf⟩ := v
  refine a_icmp_ge (tgt := 98) d_G_way_49 (by decide) (fun c => ?_) (fun c => ?_)
  · have v := vt (c); clear vt vf
    refine a_iconst d_G_way_98 ⟨by decide, by decide⟩ ?_
    refine a_istore (L' := [some (vr 20), some (vi x1), some (vi x2), some (vi x3), some (vi (0 : Int)), none]) d_G_way_99 (Nat.le_of_ble_eq_true rfl) rfl rfl ?_
    exact v
  · have v := vf (Int.not_le.mp c); clear vt vf
    refine a_aload_n d_G_way_52 rfl ?_
    refine a_getAe fl_G_17 d_G_way_53 (beq_iff_eq.mpr (KNG_20 hM)) (KRG_20_2 hM) ?_
    refine a_iload d_G_way_56 rfl ?_
    obtain ⟨c2, c3, v⟩ := v
    refine a_aald d_G_way_58 ⟨by rw [KNG_22 hM]; decide, by rw [KNG_22 hM]; decide⟩ c2 (lt_len (NNG_22 hM) c3) ?_
    obtain ⟨c4, v⟩ := v
    refine a_getZN fl_G_136 d_G_way_59 (beq_iff_eq.mpr c4) ?_
    obtain ⟨vt, vf⟩ := v
    refine a_if_eq (tgt := 90) d_G_way_62 (by decide) (fun c => ?_) (fun c => ?_)
    · have v := vt (c); clear vt vf
      refine a_iload_n d_G_way_90 rfl ?_
      refine a_istore_n (L' := [some (vr 20), some (vi x1), some (vi x2), some (vi x3), some (vi x4), none]) d_G_way_91 (Nat.le_of_ble_eq_true rfl) rfl rfl ?_
      refine a_iinc (L' := [some (vr 20), some (vi x1), some (vi x2), some (vi x3), some (vi (wr (x4 + (1 : Int)))), none]) d_G_way_92 rfl (Nat.le_of_ble_eq_true rfl) rfl rfl ?_
      refine a_goto (tgt := 43) d_G_way_95 (by decide) ?_
      exact v
    · have v := vf (c); clear vt vf
      refine a_iload_n d_G_way_65 rfl ?_
      obtain ⟨vt, vf⟩ := v
      refine a_if_lt (tgt := 85) d_G_way_66 (by decide) (fun c => ?_) (fun c => ?_)
      · have v := vt (c); clear vt vf
        refine a_iload d_G_way_85 rfl ?_
        refine a_goto (tgt := 91) d_G_way_87 (by decide) ?_
        refine a_istore_n (L' := [some (vr 20), some (vi x1), some (vi x2), some (vi x4), some (vi x4), none]) d_G_way_91 (Nat.le_of_ble_eq_true rfl) rfl rfl ?_
        refine a_iinc (L' := [some (vr 20), some (vi x1), some (vi x2), some (vi x4), some (vi (wr (x4 + (1 : Int)))), none]) d_G_way_92 rfl (Nat.le_of_ble_eq_true rfl) rfl rfl ?_
        refine a_goto (tgt := 43) d_G_way_95 (by decide) ?_
        exact v
      · have v := vf (Int.not_lt.mp c); clear vt vf
        refine a_aload_n d_G_way_69 rfl ?_
        refine a_getAe fl_G_43 d_G_way_70 (beq_iff_eq.mpr (KNG_20 hM)) (KRG_20_14 hM) ?_
        refine a_iload d_G_way_73 rfl ?_
        obtain ⟨c6, c7, v⟩ := v
        refine a_iald d_G_way_75 (Or.inl (KNG_79 hM)) c6 (lt_len (NNG_79 hM) c7) ?_
        refine a_aload_n d_G_way_76 rfl ?_
        refine a_getAe fl_G_43 d_G_way_77 (beq_iff_eq.mpr (KNG_20 hM)) (KRG_20_14 hM) ?_
        refine a_iload_n d_G_way_80 rfl ?_
        obtain ⟨c9, c10, v⟩ := v
        refine a_iald d_G_way_81 (Or.inl (KNG_79 hM)) c9 (lt_len (NNG_79 hM) c10) ?_
        obtain ⟨vt, vf⟩ := v
        refine a_icmp_ge (tgt := 90) d_G_way_82 (by decide) (fun c => ?_) (fun c => ?_)
        · have v := vt (c); clear vt vf
          refine a_iload_n d_G_way_90 rfl ?_
          refine a_istore_n (L' := [some (vr 20), some (vi x1), some (vi x2), some (vi x3), some (vi x4), none]) d_G_way_91 (Nat.le_of_ble_eq_true rfl) rfl rfl ?_
          refine a_iinc (L' := [some (vr 20), some (vi x1), some (vi x2), some (vi x3), some (vi (wr (x4 + (1 : Int)))), none]) d_G_way_92 rfl (Nat.le_of_ble_eq_true rfl) rfl rfl ?_
          refine a_goto (tgt := 43) d_G_way_95 (by decide) ?_
          exact v
        · have v := vf (Int.not_le.mp c); clear vt vf
          refine a_iload d_G_way_85 rfl ?_
          refine a_goto (tgt := 91) d_G_way_87 (by decide) ?_
          refine a_istore_n (L' := [some (vr 20), some (vi x1), some (vi x2), some (vi x4), some (vi x4), none]) d_G_way_91 (Nat.le_of_ble_eq_true rfl) rfl rfl ?_
          refine a_iinc (L' := [some (vr 20), some (vi x1), some (vi x2), some (vi x4), some (vi (wr (x4 + (1 : Int)))), none]) d_G_way_92 rfl (Nat.le_of_ble_eq_true rfl) rfl rfl ?_
          refine a_goto (tgt := 43) d_G_way_95 (by decide) ?_
          exact v
theorem g_G_way_101 {l : Launch} {D : DD} {d kc ks : Nat} {h : Hp} {Φ : Option AV → Hp → Prop} {x1 : Int} {x2 : Int} {x3 : Int} {x4 : Int} (hM : GS h) (v : (x4 ≥ x2 → (Φ (some (vi x3)) h)) ∧ (x4 < x2 → (Ev l D Y_G_way (d + 1) kc ks 110 [some (vr 20), some (vi x1), some (vi x2), some (vi x3), some (vi x4), some (vi (0 : Int))] [] h Φ))) : Ev l D Y_G_way (d + 1) kc ks 101 [some (vr 20), some (vi x1), some (vi x2), some (vi x3), some (vi x4), none] [] h Φ := by
  refine a_iload d_G_way_101 rfl ?_
  refine a_iload_n d_G_way_103 rfl ?_
  obtain ⟨vt, vf⟩ := v
  refine a_icmp_ge (tgt := 178) d_G_way_104 (by decide) (fun c => ?_) (fun c => ?_)
  · have v := vt (c); clear vt vf
    refine a_iload_n d_G_way_178 rfl ?_
    exact a_iret d_G_way_179 rfl v
  · have v := vf (Int.not_le.mp c); clear vt vf
    refine a_iconst d_G_way_107 ⟨by decide, by decide⟩ ?_
    refine a_istore (L' := [some (vr 20), some (vi x1), some (vi x2), some (vi x3), some (vi x4), some (vi (0 : Int))]) d_G_way_108 (Nat.le_of_ble_eq_true rfl) rfl rfl ?_
    exact v
theorem g_G_way_110 {l : Launch} {D : DD} {d kc ks : Nat} {h : Hp} {Φ : Option AV → Hp → Prop} {x1 : Int} {x2 : Int} {x3 : Int} {x4 : Int} {x5 : Int} (hM : GS h) (v : (x5 ≥ xI h 20 3 → ((¬ x5 = xI h 20 3 → (Ev l D Y_G_way (d + 1) kc ks 101 [some (vr 20), some (vi x1), some (vi x2), some (vi x5), some (vi (wr (x4 + (1 : Int)))), none] [] h Φ)) ∧ (x5 = xI h 20 3 → (Φ (some (vi (-1 : Int))) h)))) ∧ (x5 < xI h 20 3 → (0 ≤ x5 ∧ x5 < 48 ∧ (0 ≤ x3 ∧ x3 < 48 ∧ ((¬ xI h 79 (x5).toNat = wr ((xI h 79 (x3).toNat) - (1 : Int)) → (Ev l D Y_G_way (d + 1) kc ks 110 [some (vr 20), some (vi x1), some (vi x2), some (vi x3), some (vi x4), some (vi (wr (x5 + (1 : Int))))] [] h Φ)) ∧ (xI h 79 (x5).toNat = wr ((xI h 79 (x3).toNat) - (1 : Int)) → (0 ≤ x3 ∧ x3 < 48 ∧ (Ev l D Y_G_calls d 0 0 0 [some (vr 20), some (vr (xR h 22 (x3).toNat)), some (vi x5), none, none] [] h (ki (fun r1 h1 => GS h1 ∧ ((¬ r1 = 0 → ((¬ x5 = xI h1 20 3 → (Ev l D Y_G_way (d + 1) kc ks 101 [some (vr 20), some (vi x1), some (vi x2), some (vi x5), some (vi (wr (x4 + (1 : Int)))), none] [] h1 Φ)) ∧ (x5 = xI h1 20 3 → (Φ (some (vi (-1 : Int))) h1)))) ∧ (r1 = 0 → (Ev l D Y_G_way (d + 1) kc ks 110 [some (vr 20), some (vi x1), some (vi x2), some (vi x3), some (vi x4), some (vi (wr (x5 + (1 : Int))))] [] h1 Φ))))))))))))) : Ev l D Y_G_way (d + 1) kc ks 110 [some (vr 20), some (vi x1), some (vi x2), some (vi x3), some (vi x4), some (vi x5)] [] h Φ := by
  refine a_iload d_G_way_110 rfl ?_
  refine a_aload_n d_G_way_112 rfl ?_
  refine a_getI fl_G_133 d_G_way_113 (beq_iff_eq.mpr (KNG_20 hM)) ?_
  obtain ⟨vt, vf⟩ := v
  refine a_icmp_ge (tgt := 158) d_G_way_116 (by decide) (fun c => ?_) (fun c => ?_)
  · have v := vt (c); clear vt vf
    refine a_iload d_G_way_158 rfl ?_
    refine a_aload_n d_G_way_160 rfl ?_
    refine a_getI fl_G_133 d_G_way_161 (beq_iff_eq.mpr (KNG_20 hM)) ?_
    obtain ⟨vt, vf⟩ := v
    refine a_icmp_ne (tgt := 169) d_G_way_164 (by decide) (fun c => ?_) (fun c => ?_)
    · have v := vt (c); clear vt vf
      refine a_iload d_G_way_169 rfl ?_
      refine a_istore_n (L' := [some (vr 20), some (vi x1), some (vi x2), some (vi x5), some (vi x4), some (vi x5)]) d_G_way_171 (Nat.le_of_ble_eq_true rfl) rfl rfl ?_
      refine a_iinc (L' := [some (vr 20), some (vi x1), some (vi x2), some (vi x5), some (vi (wr (x4 + (1 : Int)))), some (vi x5)]) d_G_way_172 rfl (Nat.le_of_ble_eq_true rfl) rfl rfl ?_
      refine a_goto (tgt := 101) d_G_way_175 (by decide) ?_
      exact Ev.weak v ⟨rfl, rfl, rfl, rfl, rfl, trivial⟩
    · have v := vf (Classical.not_not.mp c); clear vt vf
      refine a_iconst d_G_way_167 ⟨by decide, by decide⟩ ?_
      exact a_iret d_G_way_168 rfl v
  · have v := vf (Int.not_le.mp c); clear vt vf
    refine a_aload_n d_G_way_119 rfl ?_
    refine a_getAe fl_G_43 d_G_way_120 (beq_iff_eq.mpr (KNG_20 hM)) (KRG_20_14 hM) ?_
    refine a_iload d_G_way_123 rfl ?_
    obtain ⟨c2, c3, v⟩ := v
    refine a_iald d_G_way_125 (Or.inl (KNG_79 hM)) c2 (lt_len (NNG_79 hM) c3) ?_
    refine a_aload_n d_G_way_126 rfl ?_
    refine a_getAe fl_G_43 d_G_way_127 (beq_iff_eq.mpr (KNG_20 hM)) (KRG_20_14 hM) ?_
    refine a_iload_n d_G_way_130 rfl ?_
    obtain ⟨c5, c6, v⟩ := v
    refine a_iald d_G_way_131 (Or.inl (KNG_79 hM)) c5 (lt_len (NNG_79 hM) c6) ?_
    refine a_iconst d_G_way_132 ⟨by decide, by decide⟩ ?_
    refine a_isub d_G_way_133 ?_
    obtain ⟨vt, vf⟩ := v
    refine a_icmp_ne (tgt := 152) d_G_way_134 (by decide) (fun c => ?_) (fun c => ?_)
    · have v := vt (c); clear vt vf
      refine a_iinc (L' := [some (vr 20), some (vi x1), some (vi x2), some (vi x3), some (vi x4), some (vi (wr (x5 + (1 : Int))))]) d_G_way_152 rfl (Nat.le_of_ble_eq_true rfl) rfl rfl ?_
      refine a_goto (tgt := 110) d_G_way_155 (by decide) ?_
      exact v
    · have v := vf (Classical.not_not.mp c); clear vt vf
      refine a_aload_n d_G_way_137 rfl ?_
      refine a_aload_n d_G_way_138 rfl ?_
      refine a_getAe fl_G_17 d_G_way_139 (beq_iff_eq.mpr (KNG_20 hM)) (KRG_20_2 hM) ?_
      refine a_iload_n d_G_way_142 rfl ?_
      obtain ⟨c8, c9, v⟩ := v
      refine a_aald d_G_way_143 ⟨by rw [KNG_22 hM]; decide, by rw [KNG_22 hM]; decide⟩ c8 (lt_len (NNG_22 hM) c9) ?_
      refine a_iload d_G_way_144 rfl ?_
      refine b_callV (as := [vr (xR h 22 (x3).toNat), vi x5]) (b := 20) (st := []) (kd := 1) (kc1 := 0) (ks1 := 0) (kc2 := kc) (ks2 := ks) (d' := d) ml_G_278 rfl d_G_way_146 rfl rfl (Nat.le_of_ble_eq_true rfl) (by decide) rfl (Nat.le_refl _) (by omega) (by omega) (KNG_20 hM) ?_
      refine Ev.mono v ?_
      intro u h1 v
      obtain ⟨r1, rfl, v⟩ := ki_el v
      obtain ⟨hm1, v⟩ := v
      change Ev l D Y_G_way _ _ _ 149 [some (vr 20), some (vi x1), some (vi x2), some (vi x3), some (vi x4), some (vi x5)] [vi r1] _ _
      obtain ⟨vt, vf⟩ := v
      refine a_if_ne (tgt := 158) d_G_way_149 (by decide) (fun c => ?_) (fun c => ?_)
      · have v := vt (c); clear vt vf
        refine a_iload d_G_way_158 rfl ?_
        refine a_aload_n d_G_way_160 rfl ?_
        refine a_getI fl_G_133 d_G_way_161 (beq_iff_eq.mpr (KNG_20 hm1)) ?_
        obtain ⟨vt, vf⟩ := v
        refine a_icmp_ne (tgt := 169) d_G_way_164 (by decide) (fun c => ?_) (fun c => ?_)
        · have v := vt (c); clear vt vf
          refine a_iload d_G_way_169 rfl ?_
          refine a_istore_n (L' := [some (vr 20), some (vi x1), some (vi x2), some (vi x5), some (vi x4), some (vi x5)]) d_G_way_171 (Nat.le_of_ble_eq_true rfl) rfl rfl ?_
          refine a_iinc (L' := [some (vr 20), some (vi x1), some (vi x2), some (vi x5), some (vi (wr (x4 + (1 : Int)))), some (vi x5)]) d_G_way_172 rfl (Nat.le_of_ble_eq_true rfl) rfl rfl ?_
          refine a_goto (tgt := 101) d_G_way_175 (by decide) ?_
          exact Ev.weak v ⟨rfl, rfl, rfl, rfl, rfl, trivial⟩
        · have v := vf (Classical.not_not.mp c); clear vt vf
          refine a_iconst d_G_way_167 ⟨by decide, by decide⟩ ?_
          exact a_iret d_G_way_168 rfl v
      · have v := vf (Classical.not_not.mp c); clear vt vf
        refine a_iinc (L' := [some (vr 20), some (vi x1), some (vi x2), some (vi x3), some (vi x4), some (vi (wr (x5 + (1 : Int))))]) d_G_way_152 rfl (Nat.le_of_ble_eq_true rfl) rfl rfl ?_
        refine a_goto (tgt := 110) d_G_way_155 (by decide) ?_
        exact v
theorem d_G_run_0 : decode Y_G_run.2.1 0 = .ok (.iload_n 3, 1) := by decide +kernel
theorem d_G_run_1 : decode Y_G_run.2.1 1 = .ok (.iconst 0, 1) := by decide +kernel
theorem d_G_run_2 : decode Y_G_run.2.1 2 = .ok (.iconst 5, 1) := by decide +kernel
theorem d_G_run_3 : decode Y_G_run.2.1 3 = .ok (.invokestatic 165, 3) := by decide +kernel
theorem d_G_run_6 : decode Y_G_run.2.1 6 = .ok (.ifCond .ne 6, 3) := by decide +kernel
theorem d_G_run_9 : decode Y_G_run.2.1 9 = .ok (.bipush (-102), 2) := by decide +kernel
theorem d_G_run_11 : decode Y_G_run.2.1 11 = .ok (.ireturn, 1) := by decide +kernel
theorem d_G_run_12 : decode Y_G_run.2.1 12 = .ok (.aload_n 0, 1) := by decide +kernel
theorem d_G_run_13 : decode Y_G_run.2.1 13 = .ok (.invokevirtual 260, 3) := by decide +kernel
theorem d_G_run_16 : decode Y_G_run.2.1 16 = .ok (.aload_n 0, 1) := by decide +kernel
theorem d_G_run_17 : decode Y_G_run.2.1 17 = .ok (.getfield 39, 3) := by decide +kernel
theorem d_G_run_20 : decode Y_G_run.2.1 20 = .ok (.aload_n 0, 1) := by decide +kernel
theorem d_G_run_21 : decode Y_G_run.2.1 21 = .ok (.lload_n 1, 1) := by decide +kernel
theorem d_G_run_22 : decode Y_G_run.2.1 22 = .ok (.invokevirtual 297, 3) := by decide +kernel
theorem d_G_run_25 : decode Y_G_run.2.1 25 = .ok (.iconst 0, 1) := by decide +kernel
theorem d_G_run_26 : decode Y_G_run.2.1 26 = .ok (.istore 4, 2) := by decide +kernel
theorem d_G_run_28 : decode Y_G_run.2.1 28 = .ok (.iload_n 3, 1) := by decide +kernel
theorem d_G_run_29 : decode Y_G_run.2.1 29 = .ok (.tableswitch 169 0 4 #[35, 43, 98, 106, 161], 35) := by decide +kernel
theorem d_G_run_64 : decode Y_G_run.2.1 64 = .ok (.aload_n 0, 1) := by decide +kernel
theorem d_G_run_65 : decode Y_G_run.2.1 65 = .ok (.getfield 39, 3) := by decide +kernel
theorem d_G_run_68 : decode Y_G_run.2.1 68 = .ok (.getfield 301, 3) := by decide +kernel
theorem d_G_run_71 : decode Y_G_run.2.1 71 = .ok (.ireturn, 1) := by decide +kernel
theorem d_G_run_72 : decode Y_G_run.2.1 72 = .ok (.aload_n 0, 1) := by decide +kernel
theorem d_G_run_73 : decode Y_G_run.2.1 73 = .ok (.getfield 39, 3) := by decide +kernel
theorem d_G_run_76 : decode Y_G_run.2.1 76 = .ok (.getfield 304, 3) := by decide +kernel
theorem d_G_run_79 : decode Y_G_run.2.1 79 = .ok (.astore 5, 2) := by decide +kernel
theorem d_G_run_81 : decode Y_G_run.2.1 81 = .ok (.aload 5, 2) := by decide +kernel
theorem d_G_run_83 : decode Y_G_run.2.1 83 = .ok (.arraylength, 1) := by decide +kernel
theorem d_G_run_84 : decode Y_G_run.2.1 84 = .ok (.istore 6, 2) := by decide +kernel
theorem d_G_run_86 : decode Y_G_run.2.1 86 = .ok (.iconst 0, 1) := by decide +kernel
theorem d_G_run_87 : decode Y_G_run.2.1 87 = .ok (.istore 7, 2) := by decide +kernel
theorem d_G_run_89 : decode Y_G_run.2.1 89 = .ok (.iload 7, 2) := by decide +kernel
theorem d_G_run_91 : decode Y_G_run.2.1 91 = .ok (.iload 6, 2) := by decide +kernel
theorem d_G_run_93 : decode Y_G_run.2.1 93 = .ok (.if_icmp .ge 31, 3) := by decide +kernel
theorem d_G_run_96 : decode Y_G_run.2.1 96 = .ok (.aload 5, 2) := by decide +kernel
theorem d_G_run_98 : decode Y_G_run.2.1 98 = .ok (.iload 7, 2) := by decide +kernel
theorem d_G_run_100 : decode Y_G_run.2.1 100 = .ok (.baload, 1) := by decide +kernel
theorem d_G_run_101 : decode Y_G_run.2.1 101 = .ok (.istore 8, 2) := by decide +kernel
theorem d_G_run_103 : decode Y_G_run.2.1 103 = .ok (.iload 4, 2) := by decide +kernel
theorem d_G_run_105 : decode Y_G_run.2.1 105 = .ok (.iload 8, 2) := by decide +kernel
theorem d_G_run_107 : decode Y_G_run.2.1 107 = .ok (.ifCond .eq 7, 3) := by decide +kernel
theorem d_G_run_110 : decode Y_G_run.2.1 110 = .ok (.iconst 1, 1) := by decide +kernel
theorem d_G_run_111 : decode Y_G_run.2.1 111 = .ok (.goto 4, 3) := by decide +kernel
theorem d_G_run_114 : decode Y_G_run.2.1 114 = .ok (.iconst 0, 1) := by decide +kernel
theorem d_G_run_115 : decode Y_G_run.2.1 115 = .ok (.iadd, 1) := by decide +kernel
theorem d_G_run_116 : decode Y_G_run.2.1 116 = .ok (.istore 4, 2) := by decide +kernel
theorem d_G_run_118 : decode Y_G_run.2.1 118 = .ok (.iinc 7 1, 3) := by decide +kernel
theorem d_G_run_121 : decode Y_G_run.2.1 121 = .ok (.goto (-32), 3) := by decide +kernel
theorem d_G_run_124 : decode Y_G_run.2.1 124 = .ok (.iload 4, 2) := by decide +kernel
theorem d_G_run_126 : decode Y_G_run.2.1 126 = .ok (.ireturn, 1) := by decide +kernel
theorem d_G_run_127 : decode Y_G_run.2.1 127 = .ok (.aload_n 0, 1) := by decide +kernel
theorem d_G_run_128 : decode Y_G_run.2.1 128 = .ok (.getfield 39, 3) := by decide +kernel
theorem d_G_run_131 : decode Y_G_run.2.1 131 = .ok (.getfield 307, 3) := by decide +kernel
theorem d_G_run_134 : decode Y_G_run.2.1 134 = .ok (.ireturn, 1) := by decide +kernel
theorem d_G_run_135 : decode Y_G_run.2.1 135 = .ok (.aload_n 0, 1) := by decide +kernel
theorem d_G_run_136 : decode Y_G_run.2.1 136 = .ok (.getfield 39, 3) := by decide +kernel
theorem d_G_run_139 : decode Y_G_run.2.1 139 = .ok (.getfield 310, 3) := by decide +kernel
theorem d_G_run_142 : decode Y_G_run.2.1 142 = .ok (.astore 5, 2) := by decide +kernel
theorem d_G_run_144 : decode Y_G_run.2.1 144 = .ok (.aload 5, 2) := by decide +kernel
theorem d_G_run_146 : decode Y_G_run.2.1 146 = .ok (.arraylength, 1) := by decide +kernel
theorem d_G_run_147 : decode Y_G_run.2.1 147 = .ok (.istore 6, 2) := by decide +kernel
theorem d_G_run_149 : decode Y_G_run.2.1 149 = .ok (.iconst 0, 1) := by decide +kernel
theorem d_G_run_150 : decode Y_G_run.2.1 150 = .ok (.istore 7, 2) := by decide +kernel
theorem d_G_run_152 : decode Y_G_run.2.1 152 = .ok (.iload 7, 2) := by decide +kernel
theorem d_G_run_154 : decode Y_G_run.2.1 154 = .ok (.iload 6, 2) := by decide +kernel
theorem d_G_run_156 : decode Y_G_run.2.1 156 = .ok (.if_icmp .ge 31, 3) := by decide +kernel
theorem d_G_run_159 : decode Y_G_run.2.1 159 = .ok (.aload 5, 2) := by decide +kernel
theorem d_G_run_161 : decode Y_G_run.2.1 161 = .ok (.iload 7, 2) := by decide +kernel
theorem d_G_run_163 : decode Y_G_run.2.1 163 = .ok (.baload, 1) := by decide +kernel
theorem d_G_run_164 : decode Y_G_run.2.1 164 = .ok (.istore 8, 2) := by decide +kernel
theorem d_G_run_166 : decode Y_G_run.2.1 166 = .ok (.iload 4, 2) := by decide +kernel
theorem d_G_run_168 : decode Y_G_run.2.1 168 = .ok (.iload 8, 2) := by decide +kernel
theorem d_G_run_170 : decode Y_G_run.2.1 170 = .ok (.ifCond .eq 7, 3) := by decide +kernel
theorem d_G_run_173 : decode Y_G_run.2.1 173 = .ok (.iconst 1, 1) := by decide +kernel
theorem d_G_run_174 : decode Y_G_run.2.1 174 = .ok (.goto 4, 3) := by decide +kernel
theorem d_G_run_177 : decode Y_G_run.2.1 177 = .ok (.iconst 0, 1) := by decide +kernel
theorem d_G_run_178 : decode Y_G_run.2.1 178 = .ok (.iadd, 1) := by decide +kernel
theorem d_G_run_179 : decode Y_G_run.2.1 179 = .ok (.istore 4, 2) := by decide +kernel
theorem d_G_run_181 : decode Y_G_run.2.1 181 = .ok (.iinc 7 1, 3) := by decide +kernel
theorem d_G_run_184 : decode Y_G_run.2.1 184 = .ok (.goto (-32), 3) := by decide +kernel
theorem d_G_run_187 : decode Y_G_run.2.1 187 = .ok (.iload 4, 2) := by decide +kernel
theorem d_G_run_189 : decode Y_G_run.2.1 189 = .ok (.ireturn, 1) := by decide +kernel
theorem d_G_run_190 : decode Y_G_run.2.1 190 = .ok (.aload_n 0, 1) := by decide +kernel
theorem d_G_run_191 : decode Y_G_run.2.1 191 = .ok (.getfield 39, 3) := by decide +kernel
theorem d_G_run_194 : decode Y_G_run.2.1 194 = .ok (.getfield 311, 3) := by decide +kernel
theorem d_G_run_197 : decode Y_G_run.2.1 197 = .ok (.ireturn, 1) := by decide +kernel
theorem d_G_run_198 : decode Y_G_run.2.1 198 = .ok (.aload_n 0, 1) := by decide +kernel
theorem d_G_run_199 : decode Y_G_run.2.1 199 = .ok (.getfield 39, 3) := by decide +kernel
theorem d_G_run_202 : decode Y_G_run.2.1 202 = .ok (.getfield 314, 3) := by decide +kernel
theorem d_G_run_205 : decode Y_G_run.2.1 205 = .ok (.ireturn, 1) := by decide +kernel
theorem g_G_run_0 {l : Launch} {D : DD} {d kc ks : Nat} {h : Hp} {Φ : Option AV → Hp → Prop} {x1 : Int64} {x3 : Int} (hM : GS h) (v : Ev l D Y_G_within d 0 0 0 [some (vi x3), some (vi (0 : Int)), some (vi (5 : Int))] [] h (ki (fun r1 h1 => GS h1 ∧ ((¬ r1 = 0 → (Ev l D Y_G_draw d 0 0 0 [some (vr 20), none, none, none, none] [] h1 (kv (fun h2 => GS h2 ∧ (Ev l D Y_Run_play d 0 0 0 [some (vr 80), some (vr 20), some (vl x1), none, none] [] h2 (kv (fun h3 => GS h3 ∧ ((x3 = (0 : Int) → (Φ (some (vi (xI h3 80 9))) h3)) ∧ (x3 = (1 : Int) → (Ev l D Y_G_run (d + 1) kc ks 89 [some (vr 20), some (vl x1), none, some (vi x3), some (vi (0 : Int)), some (vr 85), some (vi (xN h3 85 : Int)), some (vi (0 : Int)), none] [] h3 Φ)) ∧ (x3 = (2 : Int) → (Φ (some (vi (xI h3 80 3))) h3)) ∧ (x3 = (3 : Int) → (Ev l D Y_G_run (d + 1) kc ks 152 [some (vr 20), some (vl x1), none, some (vi x3), some (vi (0 : Int)), some (vr 82), some (vi (xN h3 82 : Int)), some (vi (0 : Int)), none] [] h3 Φ)) ∧ (x3 = (4 : Int) → (Φ (some (vi (xI h3 80 10))) h3)) ∧ (x3 < (0 : Int) ∨ (4 : Int) < x3 → (Φ (some (vi (xI h3 80 11))) h3)))))))))) ∧ (r1 = 0 → (Φ (some (vi (-102 : Int))) h1)))))) : Ev l D Y_G_run (d + 1) kc ks 0 [some (vr 20), some (vl x1), none, some (vi x3), none, none, none, none, none] [] h Φ := by
  refine a_iload_n d_G_run_0 rfl ?_
  refine a_iconst d_G_run_1 ⟨by decide, by decide⟩ ?_
  refine a_iconst d_G_run_2 ⟨by decide, by decide⟩ ?_
  refine b_callS (as := [vi x3, vi (0 : Int), vi (5 : Int)]) (st := []) (kc1 := 0) (ks1 := 0) (kc2 := kc) (ks2 := ks) (d' := d) ml_G_165 rfl d_G_run_3 rfl rfl (Nat.le_of_ble_eq_true rfl) rfl (Nat.le_refl _) (by omega) (by omega) ?_
  refine Ev.mono v ?_
  intro u h1 v
  obtain ⟨r1, rfl, v⟩ := ki_el v
  obtain ⟨hm1, v⟩ := v
  change Ev l D Y_G_run _ _ _ 6 [some (vr 20), some (vl x1), none, some (vi x3), none, none, none, none, none] [vi r1] _ _
  obtain ⟨vt, vf⟩ := v
  refine a_if_ne (tgt := 12) d_G_run_6 (by decide) (fun c => ?_) (fun c => ?_)
  · have v := vt (c); clear vt vf
    refine a_aload_n d_G_run_12 rfl ?_
    refine b_callV (as := []) (b := 20) (st := []) (kd := 1) (kc1 := 0) (ks1 := 0) (kc2 := kc) (ks2 := ks) (d' := d) ml_G_260 rfl d_G_run_13 rfl rfl (Nat.le_of_ble_eq_true rfl) (by decide) rfl (Nat.le_refl _) (by omega) (by omega) (KNG_20 hm1) ?_
    refine Ev.mono v ?_
    intro u h2 v
    obtain ⟨rfl, v⟩ := kv_el v
    obtain ⟨hm2, v⟩ := v
    change Ev l D Y_G_run _ _ _ 16 [some (vr 20), some (vl x1), none, some (vi x3), none, none, none, none, none] [] _ _
    refine a_aload_n d_G_run_16 rfl ?_
    refine a_getRe fl_G_39 d_G_run_17 (beq_iff_eq.mpr (KNG_20 hm2)) (KRG_20_13 hm2) ?_
    refine a_aload_n d_G_run_20 rfl ?_
    refine a_lload_n d_G_run_21 rfl ?_
    refine b_callV (as := [vr 20, vl x1]) (b := 80) (st := []) (kd := 2) (kc1 := 0) (ks1 := 0) (kc2 := kc) (ks2 := ks) (d' := d) ml_G_297 rfl d_G_run_22 rfl rfl (Nat.le_of_ble_eq_true rfl) (by decide) rfl (Nat.le_refl _) (by omega) (by omega) (KNG_80 hm2) ?_
    refine Ev.mono v ?_
    intro u h3 v
    obtain ⟨rfl, v⟩ := kv_el v
    obtain ⟨hm3, v⟩ := v
    change Ev l D Y_G_run _ _ _ 25 [some (vr 20), some (vl x1), none, some (vi x3), none, none, none, none, none] [] _ _
    refine a_iconst d_G_run_25 ⟨by decide, by decide⟩ ?_
    refine a_istore (L' := [some (vr 20), some (vl x1), none, some (vi x3), some (vi (0 : Int)), none, none, none, none]) d_G_run_26 (Nat.le_of_ble_eq_true rfl) rfl rfl ?_
    refine a_iload_n d_G_run_28 rfl ?_
    obtain ⟨v0, v1, v2, v3, v4, vd⟩ := v
    refine a_tab (tgt := 198) [64, 72, 127, 135, 190] d_G_run_29 (by decide) (by decide) (by decide) (fun c => ?_) (fun i t hi c => ?_)
    · have v := vd c; clear vd v0 v1 v2 v3 v4
      refine a_aload_n d_G_run_198 rfl ?_
      refine a_getRe fl_G_39 d_G_run_199 (beq_iff_eq.mpr (KNG_20 hm3)) (KRG_20_13 hm3) ?_
      refine a_getIN fl_G_314 d_G_run_202 (beq_iff_eq.mpr (KNG_80 hm3)) ?_
      exact a_iret d_G_run_205 rfl v
    · match i, hi, c with
      | 0, hi, c =>
        obtain rfl : 64 = t := Option.some.inj hi
        have v := v0 (by omega); clear vd v0 v1 v2 v3 v4
        refine a_aload_n d_G_run_64 rfl ?_
        refine a_getRe fl_G_39 d_G_run_65 (beq_iff_eq.mpr (KNG_20 hm3)) (KRG_20_13 hm3) ?_
        refine a_getIN fl_G_301 d_G_run_68 (beq_iff_eq.mpr (KNG_80 hm3)) ?_
        exact a_iret d_G_run_71 rfl v
      | 1, hi, c =>
        obtain rfl : 72 = t := Option.some.inj hi
        have v := v1 (by omega); clear vd v0 v1 v2 v3 v4
        refine a_aload_n d_G_run_72 rfl ?_
        refine a_getRe fl_G_39 d_G_run_73 (beq_iff_eq.mpr (KNG_20 hm3)) (KRG_20_13 hm3) ?_
        refine a_getAeN fl_G_304 d_G_run_76 (beq_iff_eq.mpr (KNG_80 hm3)) (KRG_80_7 hm3) ?_
        refine a_astore (L' := [some (vr 20), some (vl x1), none, some (vi x3), some (vi (0 : Int)), some (vr 85), none, none, none]) d_G_run_79 (Nat.le_of_ble_eq_true rfl) rfl rfl ?_
        refine a_aload d_G_run_81 rfl ?_
        refine a_alen d_G_run_83 ⟨by rw [KNG_85 hm3]; decide, by rw [KNG_85 hm3]; decide⟩ ?_
        refine a_istore (L' := [some (vr 20), some (vl x1), none, some (vi x3), some (vi (0 : Int)), some (vr 85), some (vi (xN h3 85 : Int)), none, none]) d_G_run_84 (Nat.le_of_ble_eq_true rfl) rfl rfl ?_
        refine a_iconst d_G_run_86 ⟨by decide, by decide⟩ ?_
        refine a_istore (L' := [some (vr 20), some (vl x1), none, some (vi x3), some (vi (0 : Int)), some (vr 85), some (vi (xN h3 85 : Int)), some (vi (0 : Int)), none]) d_G_run_87 (Nat.le_of_ble_eq_true rfl) rfl rfl ?_
        exact v
      | 2, hi, c =>
        obtain rfl : 127 = t := Option.some.inj hi
        have v := v2 (by omega); clear vd v0 v1 v2 v3 v4
        refine a_aload_n d_G_run_127 rfl ?_
        refine a_getRe fl_G_39 d_G_run_128 (beq_iff_eq.mpr (KNG_20 hm3)) (KRG_20_13 hm3) ?_
        refine a_getIN fl_G_307 d_G_run_131 (beq_iff_eq.mpr (KNG_80 hm3)) ?_
        exact a_iret d_G_run_134 rfl v
      | 3, hi, c =>
        obtain rfl : 135 = t := Option.some.inj hi
        have v := v3 (by omega); clear vd v0 v1 v2 v3 v4
        refine a_aload_n d_G_run_135 rfl ?_
        refine a_getRe fl_G_39 d_G_run_136 (beq_iff_eq.mpr (KNG_20 hm3)) (KRG_20_13 hm3) ?_
        refine a_getAeN fl_G_310 d_G_run_139 (beq_iff_eq.mpr (KNG_80 hm3)) (KRG_80_4 hm3) ?_
        refine a_astore (L' := [some (vr 20), some (vl x1), none, some (vi x3), some (vi (0 : Int)), some (vr 82), none, none, none]) d_G_run_142 (Nat.le_of_ble_eq_true rfl) rfl rfl ?_
        refine a_aload d_G_run_144 rfl ?_
        refine a_alen d_G_run_146 ⟨by rw [KNG_82 hm3]; decide, by rw [KNG_82 hm3]; decide⟩ ?_
        refine a_istore (L' := [some (vr 20), some (vl x1), none, some (vi x3), some (vi (0 : Int)), some (vr 82), some (vi (xN h3 82 : Int)), none, none]) d_G_run_147 (Nat.le_of_ble_eq_true rfl) rfl rfl ?_
        refine a_iconst d_G_run_149 ⟨by decide, by decide⟩ ?_
        refine a_istore (L' := [some (vr 20), some (vl x1), none, some (vi x3), some (vi (0 : Int)), some (vr 82), some (vi (xN h3 82 : Int)), some (vi (0 : Int)), none]) d_G_run_150 (Nat.le_of_ble_eq_true rfl) rfl rfl ?_
        exact v
      | 4, hi, c =>
        obtain rfl : 190 = t := Option.some.inj hi
        have v := v4 (by omega); clear vd v0 v1 v2 v3 v4
        refine a_aload_n d_G_run_190 rfl ?_
        refine a_getRe fl_G_39 d_G_run_191 (beq_iff_eq.mpr (KNG_20 hm3)) (KRG_20_13 hm3) ?_
        refine a_getIN fl_G_311 d_G_run_194 (beq_iff_eq.mpr (KNG_80 hm3)) ?_
        exact a_iret d_G_run_197 rfl v
      | i + 5, hi, c => exact absurd hi (by simp)
  · have v := vf (Classical.not_not.mp c); clear vt vf
    refine a_bipush d_G_run_9 ⟨by decide, by decide⟩ (by decide) ?_
    exact a_iret d_G_run_11 rfl v
theorem g_G_run_89 {l : Launch} {D : DD} {d kc ks : Nat} {h : Hp} {Φ : Option AV → Hp → Prop} {x1 : Int64} {x3 : Int} {x4 : Int} {x5 : Nat} {x6 : Int} {x7 : Int} (hM : GS h) (v : (x7 ≥ x6 → (Φ (some (vi x4)) h)) ∧ (x7 < x6 → (xK h x5 = 21 ∧ 0 ≤ x7 ∧ x7 < xN h x5 ∧ ((xI h x5 (x7).toNat = 0 → (Ev l D Y_G_run (d + 1) kc ks 89 [some (vr 20), some (vl x1), none, some (vi x3), some (vi (wr (x4 + (0 : Int)))), some (vr x5), some (vi x6), some (vi (wr (x7 + (1 : Int)))), none] [] h Φ)) ∧ (¬ xI h x5 (x7).toNat = 0 → (Ev l D Y_G_run (d + 1) kc ks 89 [some (vr 20), some (vl x1), none, some (vi x3), some (vi (wr (x4 + (1 : Int)))), some (vr x5), some (vi x6), some (vi (wr (x7 + (1 : Int)))), none] [] h Φ)))))) : Ev l D Y_G_run (d + 1) kc ks 89 [some (vr 20), some (vl x1), none, some (vi x3), some (vi x4), some (vr x5), some (vi x6), some (vi x7), none] [] h Φ := by
  refine a_iload d_G_run_89 rfl ?_
  refine a_iload d_G_run_91 rfl ?_
  obtain ⟨vt, vf⟩ := v
  refine a_icmp_ge (tgt := 124) d_G_run_93 (by decide) (fun c => ?_) (fun c => ?_)
  · have v := vt (c); clear vt vf
    refine a_iload d_G_run_124 rfl ?_
    exact a_iret d_G_run_126 rfl v
  · have v := vf (Int.not_le.mp c); clear vt vf
    refine a_aload d_G_run_96 rfl ?_
    refine a_iload d_G_run_98 rfl ?_
    obtain ⟨c1, c2, c3, v⟩ := v
    refine a_zald d_G_run_100 c1 c2 c3 ?_
    refine a_istore (L' := [some (vr 20), some (vl x1), none, some (vi x3), some (vi x4), some (vr x5), some (vi x6), some (vi x7), some (vi (xI h x5 (x7).toNat))]) d_G_run_101 (Nat.le_of_ble_eq_true rfl) rfl rfl ?_
    refine a_iload d_G_run_103 rfl ?_
    refine a_iload d_G_run_105 rfl ?_
    obtain ⟨vt, vf⟩ := v
    refine a_if_eq (tgt := 114) d_G_run_107 (by decide) (fun c => ?_) (fun c => ?_)
    · have v := vt (c); clear vt vf
      refine a_iconst d_G_run_114 ⟨by decide, by decide⟩ ?_
      refine a_iadd d_G_run_115 ?_
      refine a_istore (L' := [some (vr 20), some (vl x1), none, some (vi x3), some (vi (wr (x4 + (0 : Int)))), some (vr x5), some (vi x6), some (vi x7), some (vi (xI h x5 (x7).toNat))]) d_G_run_116 (Nat.le_of_ble_eq_true rfl) rfl rfl ?_
      refine a_iinc (L' := [some (vr 20), some (vl x1), none, some (vi x3), some (vi (wr (x4 + (0 : Int)))), some (vr x5), some (vi x6), some (vi (wr (x7 + (1 : Int)))), some (vi (xI h x5 (x7).toNat))]) d_G_run_118 rfl (Nat.le_of_ble_eq_true rfl) rfl rfl ?_
      refine a_goto (tgt := 89) d_G_run_121 (by decide) ?_
      exact Ev.weak v ⟨rfl, rfl, rfl, rfl, rfl, rfl, rfl, trivial⟩
    · have v := vf (c); clear vt vf
      refine a_iconst d_G_run_110 ⟨by decide, by decide⟩ ?_
      refine a_goto (tgt := 115) d_G_run_111 (by decide) ?_
      refine a_iadd d_G_run_115 ?_
      refine a_istore (L' := [some (vr 20), some (vl x1), none, some (vi x3), some (vi (wr (x4 + (1 : Int)))), some (vr x5), some (vi x6), some (vi x7), some (vi (xI h x5 (x7).toNat))]) d_G_run_116 (Nat.le_of_ble_eq_true rfl) rfl rfl ?_
      refine a_iinc (L' := [some (vr 20), some (vl x1), none, some (vi x3), some (vi (wr (x4 + (1 : Int)))), some (vr x5), some (vi x6), some (vi (wr (x7 + (1 : Int)))), some (vi (xI h x5 (x7).toNat))]) d_G_run_118 rfl (Nat.le_of_ble_eq_true rfl) rfl rfl ?_
      refine a_goto (tgt := 89) d_G_run_121 (by decide) ?_
      exact Ev.weak v ⟨rfl, rfl, rfl, rfl, rfl, rfl, rfl, trivial⟩
theorem g_G_run_152 {l : Launch} {D : DD} {d kc ks : Nat} {h : Hp} {Φ : Option AV → Hp → Prop} {x1 : Int64} {x3 : Int} {x4 : Int} {x5 : Nat} {x6 : Int} {x7 : Int} (hM : GS h) (v : (x7 ≥ x6 → (Φ (some (vi x4)) h)) ∧ (x7 < x6 → (xK h x5 = 21 ∧ 0 ≤ x7 ∧ x7 < xN h x5 ∧ ((xI h x5 (x7).toNat = 0 → (Ev l D Y_G_run (d + 1) kc ks 152 [some (vr 20), some (vl x1), none, some (vi x3), some (vi (wr (x4 + (0 : Int)))), some (vr x5), some (vi x6), some (vi (wr (x7 + (1 : Int)))), none] [] h Φ)) ∧ (¬ xI h x5 (x7).toNat = 0 → (Ev l D Y_G_run (d + 1) kc ks 152 [some (vr 20), some (vl x1), none, some (vi x3), some (vi (wr (x4 + (1 : Int)))), some (vr x5), some (vi x6), some (vi (wr (x7 + (1 : Int)))), none] [] h Φ)))))) : Ev l D Y_G_run (d + 1) kc ks 152 [some (vr 20), some (vl x1), none, some (vi x3), some (vi x4), some (vr x5), some (vi x6), some (vi x7), none] [] h Φ := by
  refine a_iload d_G_run_152 rfl ?_
  refine a_iload d_G_run_154 rfl ?_
  obtain ⟨vt, vf⟩ := v
  refine a_icmp_ge (tgt := 187) d_G_run_156 (by decide) (fun c => ?_) (fun c => ?_)
  · have v := vt (c); clear vt vf
    refine a_iload d_G_run_187 rfl ?_
    exact a_iret d_G_run_189 rfl v
  · have v := vf (Int.not_le.mp c); clear vt vf
    refine a_aload d_G_run_159 rfl ?_
    refine a_iload d_G_run_161 rfl ?_
    obtain ⟨c1, c2, c3, v⟩ := v
    refine a_zald d_G_run_163 c1 c2 c3 ?_
    refine a_istore (L' := [some (vr 20), some (vl x1), none, some (vi x3), some (vi x4), some (vr x5), some (vi x6), some (vi x7), some (vi (xI h x5 (x7).toNat))]) d_G_run_164 (Nat.le_of_ble_eq_true rfl) rfl rfl ?_
    refine a_iload d_G_run_166 rfl ?_
    refine a_iload d_G_run_168 rfl ?_
    obtain ⟨vt, vf⟩ := v
    refine a_if_eq (tgt := 177) d_G_run_170 (by decide) (fun c => ?_) (fun c => ?_)
    · have v := vt (c); clear vt vf
      refine a_iconst d_G_run_177 ⟨by decide, by decide⟩ ?_
      refine a_iadd d_G_run_178 ?_
      refine a_istore (L' := [some (vr 20), some (vl x1), none, some (vi x3), some (vi (wr (x4 + (0 : Int)))), some (vr x5), some (vi x6), some (vi x7), some (vi (xI h x5 (x7).toNat))]) d_G_run_179 (Nat.le_of_ble_eq_true rfl) rfl rfl ?_
      refine a_iinc (L' := [some (vr 20), some (vl x1), none, some (vi x3), some (vi (wr (x4 + (0 : Int)))), some (vr x5), some (vi x6), some (vi (wr (x7 + (1 : Int)))), some (vi (xI h x5 (x7).toNat))]) d_G_run_181 rfl (Nat.le_of_ble_eq_true rfl) rfl rfl ?_
      refine a_goto (tgt := 152) d_G_run_184 (by decide) ?_
      exact Ev.weak v ⟨rfl, rfl, rfl, rfl, rfl, rfl, rfl, trivial⟩
    · have v := vf (c); clear vt vf
      refine a_iconst d_G_run_173 ⟨by decide, by decide⟩ ?_
      refine a_goto (tgt := 178) d_G_run_174 (by decide) ?_
      refine a_iadd d_G_run_178 ?_
      refine a_istore (L' := [some (vr 20), some (vl x1), none, some (vi x3), some (vi (wr (x4 + (1 : Int)))), some (vr x5), some (vi x6), some (vi x7), some (vi (xI h x5 (x7).toNat))]) d_G_run_179 (Nat.le_of_ble_eq_true rfl) rfl rfl ?_
      refine a_iinc (L' := [some (vr 20), some (vl x1), none, some (vi x3), some (vi (wr (x4 + (1 : Int)))), some (vr x5), some (vi x6), some (vi (wr (x7 + (1 : Int)))), some (vi (xI h x5 (x7).toNat))]) d_G_run_181 rfl (Nat.le_of_ble_eq_true rfl) rfl rfl ?_
      refine a_goto (tgt := 152) d_G_run_184 (by decide) ?_
      exact Ev.weak v ⟨rfl, rfl, rfl, rfl, rfl, rfl, rfl, trivial⟩
theorem d_G_holds_0 : decode Y_G_holds.2.1 0 = .ok (.aload_n 0, 1) := by decide +kernel
theorem d_G_holds_1 : decode Y_G_holds.2.1 1 = .ok (.invokevirtual 260, 3) := by decide +kernel
theorem d_G_holds_4 : decode Y_G_holds.2.1 4 = .ok (.aload_n 0, 1) := by decide +kernel
theorem d_G_holds_5 : decode Y_G_holds.2.1 5 = .ok (.getfield 39, 3) := by decide +kernel
theorem d_G_holds_8 : decode Y_G_holds.2.1 8 = .ok (.aload_n 0, 1) := by decide +kernel
theorem d_G_holds_9 : decode Y_G_holds.2.1 9 = .ok (.lload_n 1, 1) := by decide +kernel
theorem d_G_holds_10 : decode Y_G_holds.2.1 10 = .ok (.invokevirtual 297, 3) := by decide +kernel
theorem d_G_holds_13 : decode Y_G_holds.2.1 13 = .ok (.aload_n 0, 1) := by decide +kernel
theorem d_G_holds_14 : decode Y_G_holds.2.1 14 = .ok (.getfield 39, 3) := by decide +kernel
theorem d_G_holds_17 : decode Y_G_holds.2.1 17 = .ok (.getfield 317, 3) := by decide +kernel
theorem d_G_holds_20 : decode Y_G_holds.2.1 20 = .ok (.ireturn, 1) := by decide +kernel
theorem g_G_holds_0 {l : Launch} {D : DD} {d kc ks : Nat} {h : Hp} {Φ : Option AV → Hp → Prop} {x1 : Int64} (hM : GS h) (v : Ev l D Y_G_draw d 0 0 0 [some (vr 20), none, none, none, none] [] h (kv (fun h1 => GS h1 ∧ (Ev l D Y_Run_play d 0 0 0 [some (vr 80), some (vr 20), some (vl x1), none, none] [] h1 (kv (fun h2 => GS h2 ∧ ((xI h2 80 12 = 0 ∨ xI h2 80 12 = 1) ∧ Φ (some (vi (xI h2 80 12))) h2))))))) : Ev l D Y_G_holds (d + 1) kc ks 0 [some (vr 20), some (vl x1), none] [] h Φ := by
  refine a_aload_n d_G_holds_0 rfl ?_
  refine b_callV (as := []) (b := 20) (st := []) (kd := 1) (kc1 := 0) (ks1 := 0) (kc2 := kc) (ks2 := ks) (d' := d) ml_G_260 rfl d_G_holds_1 rfl rfl (Nat.le_of_ble_eq_true rfl) (by decide) rfl (Nat.le_refl _) (by omega) (by omega) (KNG_20 hM) ?_
  refine Ev.mono v ?_
  intro u h1 v
  obtain ⟨rfl, v⟩ := kv_el v
  obtain ⟨hm1, v⟩ := v
  change Ev l D Y_G_holds _ _ _ 4 [some (vr 20), some (vl x1), none] [] _ _
  refine a_aload_n d_G_holds_4 rfl ?_
  refine a_getRe fl_G_39 d_G_holds_5 (beq_iff_eq.mpr (KNG_20 hm1)) (KRG_20_13 hm1) ?_
  refine a_aload_n d_G_holds_8 rfl ?_
  refine a_lload_n d_G_holds_9 rfl ?_
  refine b_callV (as := [vr 20, vl x1]) (b := 80) (st := []) (kd := 2) (kc1 := 0) (ks1 := 0) (kc2 := kc) (ks2 := ks) (d' := d) ml_G_297 rfl d_G_holds_10 rfl rfl (Nat.le_of_ble_eq_true rfl) (by decide) rfl (Nat.le_refl _) (by omega) (by omega) (KNG_80 hm1) ?_
  refine Ev.mono v ?_
  intro u h2 v
  obtain ⟨rfl, v⟩ := kv_el v
  obtain ⟨hm2, v⟩ := v
  change Ev l D Y_G_holds _ _ _ 13 [some (vr 20), some (vl x1), none] [] _ _
  refine a_aload_n d_G_holds_13 rfl ?_
  refine a_getRe fl_G_39 d_G_holds_14 (beq_iff_eq.mpr (KNG_20 hm2)) (KRG_20_13 hm2) ?_
  refine a_getZN fl_G_317 d_G_holds_17 (beq_iff_eq.mpr (KNG_80 hm2)) ?_
  exact a_zret d_G_holds_20 rfl v.1 v.2
