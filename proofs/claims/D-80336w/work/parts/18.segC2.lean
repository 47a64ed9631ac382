theorem d_G_within_0 : decode Y_G_within.2.1 0 = .ok (.iload_n 0, 1) := by decide +kernel
theorem d_G_within_1 : decode Y_G_within.2.1 1 = .ok (.iload_n 1, 1) := by decide +kernel
theorem d_G_within_2 : decode Y_G_within.2.1 2 = .ok (.if_icmp .lt 12, 3) := by decide +kernel
theorem d_G_within_5 : decode Y_G_within.2.1 5 = .ok (.iload_n 0, 1) := by decide +kernel
theorem d_G_within_6 : decode Y_G_within.2.1 6 = .ok (.iload_n 2, 1) := by decide +kernel
theorem d_G_within_7 : decode Y_G_within.2.1 7 = .ok (.if_icmp .gt 7, 3) := by decide +kernel
theorem d_G_within_10 : decode Y_G_within.2.1 10 = .ok (.iconst 1, 1) := by decide +kernel
theorem d_G_within_11 : decode Y_G_within.2.1 11 = .ok (.goto 4, 3) := by decide +kernel
theorem d_G_within_14 : decode Y_G_within.2.1 14 = .ok (.iconst 0, 1) := by decide +kernel
theorem d_G_within_15 : decode Y_G_within.2.1 15 = .ok (.ireturn, 1) := by decide +kernel
theorem g_G_within_0 {l : Launch} {D : DD} {d kc ks : Nat} {h : Hp} {Φ : Option AV → Hp → Prop} {x0 : Int} {x1 : Int} {x2 : Int} (hM : GS h) (v : (x0 < x1 → (Φ (some (vi (0 : Int))) h)) ∧ (x0 ≥ x1 → ((x0 > x2 → (Φ (some (vi (0 : Int))) h)) ∧ (x0 ≤ x2 → (Φ (some (vi (1 : Int))) h))))) : Ev l D Y_G_within d kc ks 0 [some (vi x0), some (vi x1), some (vi x2)] [] h Φ := by
  refine a_iload_n d_G_within_0 rfl ?_
  refine a_iload_n d_G_within_1 rfl ?_
  obtain ⟨vt, vf⟩ := v
  refine a_icmp_lt (tgt := 14) d_G_within_2 (by decide) (fun c => ?_) (fun c => ?_)
  · have v := vt (c); clear vt vf
    refine a_iconst d_G_within_14 ⟨by decide, by decide⟩ ?_
    exact a_zret d_G_within_15 rfl (Or.inl rfl) v
  · have v := vf (Int.not_lt.mp c); clear vt vf
    refine a_iload_n d_G_within_5 rfl ?_
    refine a_iload_n d_G_within_6 rfl ?_
    obtain ⟨vt, vf⟩ := v
    refine a_icmp_gt (tgt := 14) d_G_within_7 (by decide) (fun c => ?_) (fun c => ?_)
    · have v := vt (c); clear vt vf
      refine a_iconst d_G_within_14 ⟨by decide, by decide⟩ ?_
      exact a_zret d_G_within_15 rfl (Or.inl rfl) v
    · have v := vf (Int.not_lt.mp c); clear vt vf
      refine a_iconst d_G_within_10 ⟨by decide, by decide⟩ ?_
      refine a_goto (tgt := 15) d_G_within_11 (by decide) ?_
      exact a_zret d_G_within_15 rfl (Or.inr rfl) v
theorem d_G_leave_0 : decode Y_G_leave.2.1 0 = .ok (.aload_n 0, 1) := by decide +kernel
theorem d_G_leave_1 : decode Y_G_leave.2.1 1 = .ok (.iconst 0, 1) := by decide +kernel
theorem d_G_leave_2 : decode Y_G_leave.2.1 2 = .ok (.putfield 47, 3) := by decide +kernel
theorem d_G_leave_5 : decode Y_G_leave.2.1 5 = .ok (.aload_n 0, 1) := by decide +kernel
theorem d_G_leave_6 : decode Y_G_leave.2.1 6 = .ok (.aconst_null, 1) := by decide +kernel
theorem d_G_leave_7 : decode Y_G_leave.2.1 7 = .ok (.putfield 51, 3) := by decide +kernel
theorem d_G_leave_10 : decode Y_G_leave.2.1 10 = .ok (.aconst_null, 1) := by decide +kernel
theorem d_G_leave_11 : decode Y_G_leave.2.1 11 = .ok (.astore_n 3, 1) := by decide +kernel
theorem d_G_leave_12 : decode Y_G_leave.2.1 12 = .ok (.iconst 0, 1) := by decide +kernel
theorem d_G_leave_13 : decode Y_G_leave.2.1 13 = .ok (.istore 4, 2) := by decide +kernel
theorem d_G_leave_15 : decode Y_G_leave.2.1 15 = .ok (.iload 4, 2) := by decide +kernel
theorem d_G_leave_17 : decode Y_G_leave.2.1 17 = .ok (.aload_n 0, 1) := by decide +kernel
theorem d_G_leave_18 : decode Y_G_leave.2.1 18 = .ok (.getfield 55, 3) := by decide +kernel
theorem d_G_leave_21 : decode Y_G_leave.2.1 21 = .ok (.if_icmp .ge 117, 3) := by decide +kernel
theorem d_G_leave_24 : decode Y_G_leave.2.1 24 = .ok (.aload_n 0, 1) := by decide +kernel
theorem d_G_leave_25 : decode Y_G_leave.2.1 25 = .ok (.getfield 11, 3) := by decide +kernel
theorem d_G_leave_28 : decode Y_G_leave.2.1 28 = .ok (.iload 4, 2) := by decide +kernel
theorem d_G_leave_30 : decode Y_G_leave.2.1 30 = .ok (.aaload, 1) := by decide +kernel
theorem d_G_leave_31 : decode Y_G_leave.2.1 31 = .ok (.getfield 58, 3) := by decide +kernel
theorem d_G_leave_34 : decode Y_G_leave.2.1 34 = .ok (.iload_n 2, 1) := by decide +kernel
theorem d_G_leave_35 : decode Y_G_leave.2.1 35 = .ok (.aaload, 1) := by decide +kernel
theorem d_G_leave_36 : decode Y_G_leave.2.1 36 = .ok (.astore 5, 2) := by decide +kernel
theorem d_G_leave_38 : decode Y_G_leave.2.1 38 = .ok (.aload_n 0, 1) := by decide +kernel
theorem d_G_leave_39 : decode Y_G_leave.2.1 39 = .ok (.aload_n 1, 1) := by decide +kernel
theorem d_G_leave_40 : decode Y_G_leave.2.1 40 = .ok (.aload_n 0, 1) := by decide +kernel
theorem d_G_leave_41 : decode Y_G_leave.2.1 41 = .ok (.getfield 11, 3) := by decide +kernel
theorem d_G_leave_44 : decode Y_G_leave.2.1 44 = .ok (.iload 4, 2) := by decide +kernel
theorem d_G_leave_46 : decode Y_G_leave.2.1 46 = .ok (.aaload, 1) := by decide +kernel
theorem d_G_leave_47 : decode Y_G_leave.2.1 47 = .ok (.iload_n 2, 1) := by decide +kernel
theorem d_G_leave_48 : decode Y_G_leave.2.1 48 = .ok (.invokevirtual 61, 3) := by decide +kernel
theorem d_G_leave_51 : decode Y_G_leave.2.1 51 = .ok (.ifCond .eq 81, 3) := by decide +kernel
theorem d_G_leave_54 : decode Y_G_leave.2.1 54 = .ok (.aload_n 0, 1) := by decide +kernel
theorem d_G_leave_55 : decode Y_G_leave.2.1 55 = .ok (.aload_n 0, 1) := by decide +kernel
theorem d_G_leave_56 : decode Y_G_leave.2.1 56 = .ok (.getfield 51, 3) := by decide +kernel
theorem d_G_leave_59 : decode Y_G_leave.2.1 59 = .ok (.ifnull 18, 3) := by decide +kernel
theorem d_G_leave_62 : decode Y_G_leave.2.1 62 = .ok (.aload 5, 2) := by decide +kernel
theorem d_G_leave_64 : decode Y_G_leave.2.1 64 = .ok (.getfield 65, 3) := by decide +kernel
theorem d_G_leave_67 : decode Y_G_leave.2.1 67 = .ok (.aload_n 0, 1) := by decide +kernel
theorem d_G_leave_68 : decode Y_G_leave.2.1 68 = .ok (.getfield 51, 3) := by decide +kernel
theorem d_G_leave_71 : decode Y_G_leave.2.1 71 = .ok (.getfield 65, 3) := by decide +kernel
theorem d_G_leave_74 : decode Y_G_leave.2.1 74 = .ok (.if_icmp .ge 8, 3) := by decide +kernel
theorem d_G_leave_77 : decode Y_G_leave.2.1 77 = .ok (.aload 5, 2) := by decide +kernel
theorem d_G_leave_79 : decode Y_G_leave.2.1 79 = .ok (.goto 7, 3) := by decide +kernel
theorem d_G_leave_82 : decode Y_G_leave.2.1 82 = .ok (.aload_n 0, 1) := by decide +kernel
theorem d_G_leave_83 : decode Y_G_leave.2.1 83 = .ok (.getfield 51, 3) := by decide +kernel
theorem d_G_leave_86 : decode Y_G_leave.2.1 86 = .ok (.putfield 51, 3) := by decide +kernel
theorem d_G_leave_89 : decode Y_G_leave.2.1 89 = .ok (.aload_n 0, 1) := by decide +kernel
theorem d_G_leave_90 : decode Y_G_leave.2.1 90 = .ok (.dup, 1) := by decide +kernel
theorem d_G_leave_91 : decode Y_G_leave.2.1 91 = .ok (.getfield 47, 3) := by decide +kernel
theorem d_G_leave_94 : decode Y_G_leave.2.1 94 = .ok (.aload 5, 2) := by decide +kernel
theorem d_G_leave_96 : decode Y_G_leave.2.1 96 = .ok (.getfield 68, 3) := by decide +kernel
theorem d_G_leave_99 : decode Y_G_leave.2.1 99 = .ok (.getstatic 72, 3) := by decide +kernel
theorem d_G_leave_102 : decode Y_G_leave.2.1 102 = .ok (.if_acmp .ne 7, 3) := by decide +kernel
theorem d_G_leave_105 : decode Y_G_leave.2.1 105 = .ok (.iconst 1, 1) := by decide +kernel
theorem d_G_leave_106 : decode Y_G_leave.2.1 106 = .ok (.goto 4, 3) := by decide +kernel
theorem d_G_leave_109 : decode Y_G_leave.2.1 109 = .ok (.iconst 0, 1) := by decide +kernel
theorem d_G_leave_110 : decode Y_G_leave.2.1 110 = .ok (.iadd, 1) := by decide +kernel
theorem d_G_leave_111 : decode Y_G_leave.2.1 111 = .ok (.putfield 47, 3) := by decide +kernel
theorem d_G_leave_114 : decode Y_G_leave.2.1 114 = .ok (.aload 5, 2) := by decide +kernel
theorem d_G_leave_116 : decode Y_G_leave.2.1 116 = .ok (.getfield 68, 3) := by decide +kernel
theorem d_G_leave_119 : decode Y_G_leave.2.1 119 = .ok (.getstatic 72, 3) := by decide +kernel
theorem d_G_leave_122 : decode Y_G_leave.2.1 122 = .ok (.if_acmp .ne 8, 3) := by decide +kernel
theorem d_G_leave_125 : decode Y_G_leave.2.1 125 = .ok (.aload 5, 2) := by decide +kernel
theorem d_G_leave_127 : decode Y_G_leave.2.1 127 = .ok (.goto 4, 3) := by decide +kernel
theorem d_G_leave_130 : decode Y_G_leave.2.1 130 = .ok (.aload_n 3, 1) := by decide +kernel
theorem d_G_leave_131 : decode Y_G_leave.2.1 131 = .ok (.astore_n 3, 1) := by decide +kernel
theorem d_G_leave_132 : decode Y_G_leave.2.1 132 = .ok (.iinc 4 1, 3) := by decide +kernel
theorem d_G_leave_135 : decode Y_G_leave.2.1 135 = .ok (.goto (-120), 3) := by decide +kernel
theorem d_G_leave_138 : decode Y_G_leave.2.1 138 = .ok (.aload_n 0, 1) := by decide +kernel
theorem d_G_leave_139 : decode Y_G_leave.2.1 139 = .ok (.aload_n 0, 1) := by decide +kernel
theorem d_G_leave_140 : decode Y_G_leave.2.1 140 = .ok (.getfield 47, 3) := by decide +kernel
theorem d_G_leave_143 : decode Y_G_leave.2.1 143 = .ok (.iconst 1, 1) := by decide +kernel
theorem d_G_leave_144 : decode Y_G_leave.2.1 144 = .ok (.if_icmp .ne 7, 3) := by decide +kernel
theorem d_G_leave_147 : decode Y_G_leave.2.1 147 = .ok (.aload_n 3, 1) := by decide +kernel
theorem d_G_leave_148 : decode Y_G_leave.2.1 148 = .ok (.goto 7, 3) := by decide +kernel
theorem d_G_leave_151 : decode Y_G_leave.2.1 151 = .ok (.aload_n 0, 1) := by decide +kernel
theorem d_G_leave_152 : decode Y_G_leave.2.1 152 = .ok (.getfield 51, 3) := by decide +kernel
theorem d_G_leave_155 : decode Y_G_leave.2.1 155 = .ok (.putfield 51, 3) := by decide +kernel
theorem d_G_leave_158 : decode Y_G_leave.2.1 158 = .ok (.return_, 1) := by decide +kernel
theorem g_G_leave_0 {l : Launch} {D : DD} {d kc ks : Nat} {h : Hp} {Φ : Option AV → Hp → Prop} {x1 : Nat} {x2 : Int} (hM : GS h) (v : (∀ h1 : Hp, h1 = sI h 20 5 (0 : Int) → (∀ h2 : Hp, h2 = sR h1 20 6 0 → (GS h2 ∧ (Ev l D Y_G_leave (d + 1) kc ks 15 [some (vr 20), some (vr x1), some (vi x2), some (vr 0), some (vi (0 : Int)), none] [] h2 Φ))))) : Ev l D Y_G_leave (d + 1) kc ks 0 [some (vr 20), some (vr x1), some (vi x2), none, none, none] [] h Φ := by
  refine a_aload_n d_G_leave_0 rfl ?_
  refine a_iconst d_G_leave_1 ⟨by decide, by decide⟩ ?_
  have v := v _ rfl
  refine a_putI fl_G_47 d_G_leave_2 (beq_iff_eq.mpr (KNG_20 hM)) (by decide) ?_
  refine a_aload_n d_G_leave_5 rfl ?_
  refine a_null d_G_leave_6 ?_
  have v := v _ rfl
  refine a_putR fl_G_51 d_G_leave_7 (beq_iff_eq.mpr (KNG_20 hM)) (by decide) ?_
  obtain ⟨hm1, v⟩ := v
  refine a_null d_G_leave_10 ?_
  refine a_astore_n (L' := [some (vr 20), some (vr x1), some (vi x2), some (vr 0), none, none]) d_G_leave_11 (Nat.le_of_ble_eq_true rfl) rfl rfl ?_
  refine a_iconst d_G_leave_12 ⟨by decide, by decide⟩ ?_
  refine a_istore (L' := [some (vr 20), some (vr x1), some (vi x2), some (vr 0), some (vi (0 : Int)), none]) d_G_leave_13 (Nat.le_of_ble_eq_true rfl) rfl rfl ?_
  exact v
theorem g_G_leave_15 {l : Launch} {D : DD} {d kc ks : Nat} {h : Hp} {Φ : Option AV → Hp → Prop} {x1 : Nat} {x2 : Int} {x3 : Nat} {x4 : Int} (hM : GS h) (v : (x4 ≥ xI h 20 1 → ((¬ xI h 20 5 = (1 : Int) → (Ev l D Y_G_leave (d + 1) kc ks 155 [some (vr 20), some (vr x1), some (vi x2), some (vr x3), some (vi x4), none] [vr (xR h 20 6), vr 20] h Φ)) ∧ (xI h 20 5 = (1 : Int) → (Ev l D Y_G_leave (d + 1) kc ks 155 [some (vr 20), some (vr x1), some (vi x2), some (vr x3), some (vi x4), none] [vr x3, vr 20] h Φ)))) ∧ (x4 < xI h 20 1 → (0 ≤ x4 ∧ x4 < 16 ∧ (xK h (xR h 21 (x4).toNat) = 3 ∧ ((22 ≤ xK h (xR h (xR h 21 (x4).toNat) 6) ∧ xK h (xR h (xR h 21 (x4).toNat) 6) ≤ 27) ∧ 0 ≤ x2 ∧ x2 < xN h (xR h (xR h 21 (x4).toNat) 6) ∧ (0 ≤ x4 ∧ x4 < 16 ∧ (Ev l D Y_G_isLeft d 0 0 0 [some (vr 20), some (vr x1), some (vr (xR h 21 (x4).toNat)), some (vi x2), none, none] [] h (ki (fun r1 h1 => GS h1 ∧ ((r1 = 0 → (Ev l D Y_G_leave (d + 1) kc ks 132 [some (vr 20), some (vr x1), some (vi x2), some (vr x3), some (vi x4), some (vr (xR h (xR h (xR h 21 (x4).toNat) 6) (x2).toNat))] [] h1 Φ)) ∧ (¬ r1 = 0 → ((xR h1 20 6 = 0 → (Ev l D Y_G_leave (d + 1) kc ks 86 [some (vr 20), some (vr x1), some (vi x2), some (vr x3), some (vi x4), some (vr (xR h (xR h (xR h 21 (x4).toNat) 6) (x2).toNat))] [vr (xR h (xR h (xR h 21 (x4).toNat) 6) (x2).toNat), vr 20] h1 Φ)) ∧ (¬ xR h1 20 6 = 0 → (xK h1 (xR h (xR h (xR h 21 (x4).toNat) 6) (x2).toNat) = 4 ∧ (xK h1 (xR h1 20 6) = 4 ∧ ((xI h1 (xR h (xR h (xR h 21 (x4).toNat) 6) (x2).toNat) 0 ≥ xI h1 (xR h1 20 6) 0 → (Ev l D Y_G_leave (d + 1) kc ks 86 [some (vr 20), some (vr x1), some (vi x2), some (vr x3), some (vi x4), some (vr (xR h (xR h (xR h 21 (x4).toNat) 6) (x2).toNat))] [vr (xR h1 20 6), vr 20] h1 Φ)) ∧ (xI h1 (xR h (xR h (xR h 21 (x4).toNat) 6) (x2).toNat) 0 < xI h1 (xR h1 20 6) 0 → (Ev l D Y_G_leave (d + 1) kc ks 86 [some (vr 20), some (vr x1), some (vi x2), some (vr x3), some (vi x4), some (vr (xR h (xR h (xR h 21 (x4).toNat) 6) (x2).toNat))] [vr (xR h (xR h (xR h 21 (x4).toNat) 6) (x2).toNat), vr 20] h1 Φ)))))))))))))))))) : Ev l D Y_G_leave (d + 1) kc ks 15 [some (vr 20), some (vr x1), some (vi x2), some (vr x3), some (vi x4), none] [] h Φ := by
  refine a_iload d_G_leave_15 rfl ?_
  refine a_aload_n d_G_leave_17 rfl ?_
  refine a_getI fl_G_55 d_G_leave_18 (beq_iff_eq.mpr (KNG_20 hM)) ?_
  obtain ⟨vt, vf⟩ := v
  refine a_icmp_ge (tgt := 138) d_G_leave_21 (by decide) (fun c => ?_) (fun c => ?_)
  · have v := vt (c); clear vt vf
    refine a_aload_n d_G_leave_138 rfl ?_
    refine a_aload_n d_G_leave_139 rfl ?_
    refine a_getI fl_G_47 d_G_leave_140 (beq_iff_eq.mpr (KNG_20 hM)) ?_
    refine a_iconst d_G_leave_143 ⟨by decide, by decide⟩ ?_
    obtain ⟨vt, vf⟩ := v
    refine a_icmp_ne (tgt := 151) d_G_leave_144 (by decide) (fun c => ?_) (fun c => ?_)
    · have v := vt (c); clear vt vf
      refine a_aload_n d_G_leave_151 rfl ?_
      refine a_getR fl_G_51 d_G_leave_152 (beq_iff_eq.mpr (KNG_20 hM)) ?_
      exact v
    · have v := vf (Classical.not_not.mp c); clear vt vf
      refine a_aload_n d_G_leave_147 rfl ?_
      refine a_goto (tgt := 155) d_G_leave_148 (by decide) ?_
      exact v
  · have v := vf (Int.not_le.mp c); clear vt vf
    refine a_aload_n d_G_leave_24 rfl ?_
    refine a_getAe fl_G_11 d_G_leave_25 (beq_iff_eq.mpr (KNG_20 hM)) (KRG_20_0 hM) ?_
    refine a_iload d_G_leave_28 rfl ?_
    obtain ⟨c2, c3, v⟩ := v
    refine a_aald d_G_leave_30 ⟨by rw [KNG_21 hM]; decide, by rw [KNG_21 hM]; decide⟩ c2 (lt_len (NNG_21 hM) c3) ?_
    obtain ⟨c4, v⟩ := v
    refine a_getAN fl_G_58 d_G_leave_31 (beq_iff_eq.mpr c4) ?_
    refine a_iload_n d_G_leave_34 rfl ?_
    obtain ⟨c5, c6, c7, v⟩ := v
    refine a_aald d_G_leave_35 c5 c6 c7 ?_
    refine a_astore (L' := [some (vr 20), some (vr x1), some (vi x2), some (vr x3), some (vi x4), some (vr (xR h (xR h (xR h 21 (x4).toNat) 6) (x2).toNat))]) d_G_leave_36 (Nat.le_of_ble_eq_true rfl) rfl rfl ?_
    refine a_aload_n d_G_leave_38 rfl ?_
    refine a_aload_n d_G_leave_39 rfl ?_
    refine a_aload_n d_G_leave_40 rfl ?_
    refine a_getAe fl_G_11 d_G_leave_41 (beq_iff_eq.mpr (KNG_20 hM)) (KRG_20_0 hM) ?_
    refine a_iload d_G_leave_44 rfl ?_
    obtain ⟨c9, c10, v⟩ := v
    refine a_aald d_G_leave_46 ⟨by rw [KNG_21 hM]; decide, by rw [KNG_21 hM]; decide⟩ c9 (lt_len (NNG_21 hM) c10) ?_
    refine a_iload_n d_G_leave_47 rfl ?_
    refine b_callV (as := [vr x1, vr (xR h 21 (x4).toNat), vi x2]) (b := 20) (st := []) (kd := 1) (kc1 := 0) (ks1 := 0) (kc2 := kc) (ks2 := ks) (d' := d) ml_G_61 rfl d_G_leave_48 rfl rfl (Nat.le_of_ble_eq_true rfl) (by decide) rfl (Nat.le_refl _) (by omega) (by omega) (KNG_20 hM) ?_
    refine Ev.mono v ?_
    intro u h1 v
    obtain ⟨r1, rfl, v⟩ := ki_el v
    obtain ⟨hm1, v⟩ := v
    change Ev l D Y_G_leave _ _ _ 51 [some (vr 20), some (vr x1), some (vi x2), some (vr x3), some (vi x4), some (vr (xR h (xR h (xR h 21 (x4).toNat) 6) (x2).toNat))] [vi r1] _ _
    obtain ⟨vt, vf⟩ := v
    refine a_if_eq (tgt := 132) d_G_leave_51 (by decide) (fun c => ?_) (fun c => ?_)
    · have v := vt (c); clear vt vf
      exact v
    · have v := vf (c); clear vt vf
      refine a_aload_n d_G_leave_54 rfl ?_
      refine a_aload_n d_G_leave_55 rfl ?_
      refine a_getR fl_G_51 d_G_leave_56 (beq_iff_eq.mpr (KNG_20 hm1)) ?_
      obtain ⟨vt, vf⟩ := v
      refine a_ifnull (tgt := 77) d_G_leave_59 (by decide) (fun c => ?_) (fun c => ?_)
      · have v := vt (c); clear vt vf
        refine a_aload d_G_leave_77 rfl ?_
        refine a_goto (tgt := 86) d_G_leave_79 (by decide) ?_
        exact v
      · have v := vf (c); clear vt vf
        refine a_aload d_G_leave_62 rfl ?_
        obtain ⟨c11, v⟩ := v
        refine a_getIN fl_G_65 d_G_leave_64 (beq_iff_eq.mpr c11) ?_
        refine a_aload_n d_G_leave_67 rfl ?_
        refine a_getR fl_G_51 d_G_leave_68 (beq_iff_eq.mpr (KNG_20 hm1)) ?_
        obtain ⟨c12, v⟩ := v
        refine a_getIN fl_G_65 d_G_leave_71 (beq_iff_eq.mpr c12) ?_
        obtain ⟨vt, vf⟩ := v
        refine a_icmp_ge (tgt := 82) d_G_leave_74 (by decide) (fun c => ?_) (fun c => ?_)
        · have v := vt (c); clear vt vf
          refine a_aload_n d_G_leave_82 rfl ?_
          refine a_getR fl_G_51 d_G_leave_83 (beq_iff_eq.mpr (KNG_20 hm1)) ?_
          exact v
        · have v := vf (Int.not_le.mp c); clear vt vf
          refine a_aload d_G_leave_77 rfl ?_
          refine a_goto (tgt := 86) d_G_leave_79 (by decide) ?_
          exact v
theorem g_G_leave_155 {l : Launch} {D : DD} {d kc ks : Nat} {h : Hp} {Φ : Option AV → Hp → Prop} {x1 : Nat} {x2 : Int} {x3 : Nat} {x4 : Int} {y0 : Nat} (hM : GS h) (v : (∀ h1 : Hp, h1 = sR h 20 6 y0 → (GS h1 ∧ (Φ none h1)))) : Ev l D Y_G_leave (d + 1) kc ks 155 [some (vr 20), some (vr x1), some (vi x2), some (vr x3), some (vi x4), none] [vr y0, vr 20] h Φ := by
  have v := v _ rfl
  refine a_putR fl_G_51 d_G_leave_155 (beq_iff_eq.mpr (KNG_20 hM)) (by decide) ?_
  obtain ⟨hm1, v⟩ := v
  exact a_vret d_G_leave_158 rfl v
theorem g_G_leave_132 {l : Launch} {D : DD} {d kc ks : Nat} {h : Hp} {Φ : Option AV → Hp → Prop} {x1 : Nat} {x2 : Int} {x3 : Nat} {x4 : Int} {x5 : Nat} (hM : GS h) (v : Ev l D Y_G_leave (d + 1) kc ks 15 [some (vr 20), some (vr x1), some (vi x2), some (vr x3), some (vi (wr (x4 + (1 : Int)))), none] [] h Φ) : Ev l D Y_G_leave (d + 1) kc ks 132 [some (vr 20), some (vr x1), some (vi x2), some (vr x3), some (vi x4), some (vr x5)] [] h Φ := by
  refine a_iinc (L' := [some (vr 20), some (vr x1), some (vi x2), some (vr x3), some (vi (wr (x4 + (1 : Int)))), some (vr x5)]) d_G_leave_132 rfl (Nat.le_of_ble_eq_true rfl) rfl rfl ?_
  refine a_goto (tgt := 15) d_G_leave_135 (by decide) ?_
  exact Ev.weak v ⟨rfl, rfl, rfl, rfl, rfl, trivial⟩
theorem g_G_leave_86 {l : Launch} {D : DD} {d kc ks : Nat} {h : Hp} {Φ : Option AV → Hp → Prop} {x1 : Nat} {x2 : Int} {x3 : Nat} {x4 : Int} {x5 : Nat} {y0 : Nat} (hM : GS h) (v : (∀ h1 : Hp, h1 = sR h 20 6 y0 → (GS h1 ∧ (xK h1 x5 = 4 ∧ ((¬ xR h1 x5 3 = 4 → (Ev l D Y_G_leave (d + 1) kc ks 110 [some (vr 20), some (vr x1), some (vi x2), some (vr x3), some (vi x4), some (vr x5)] [vi (0 : Int), vi (xI h1 20 5), vr 20] h1 Φ)) ∧ (xR h1 x5 3 = 4 → (Ev l D Y_G_leave (d + 1) kc ks 110 [some (vr 20), some (vr x1), some (vi x2), some (vr x3), some (vi x4), some (vr x5)] [vi (1 : Int), vi (xI h1 20 5), vr 20] h1 Φ))))))) : Ev l D Y_G_leave (d + 1) kc ks 86 [some (vr 20), some (vr x1), some (vi x2), some (vr x3), some (vi x4), some (vr x5)] [vr y0, vr 20] h Φ := by
  have v := v _ rfl
  refine a_putR fl_G_51 d_G_leave_86 (beq_iff_eq.mpr (KNG_20 hM)) (by decide) ?_
  obtain ⟨hm1, v⟩ := v
  refine a_aload_n d_G_leave_89 rfl ?_
  refine a_dup d_G_leave_90 rfl ?_
  refine a_getI fl_G_47 d_G_leave_91 (beq_iff_eq.mpr (KNG_20 hm1)) ?_
  refine a_aload d_G_leave_94 rfl ?_
  obtain ⟨c3, v⟩ := v
  refine a_getRN fl_G_68 d_G_leave_96 (beq_iff_eq.mpr c3) ?_
  refine a_gets (k := 4) d_G_leave_99 (by decide +kernel) sl_G_72 ?_
  obtain ⟨vt, vf⟩ := v
  refine a_acmp_ne (tgt := 109) d_G_leave_102 (by decide) (fun c => ?_) (fun c => ?_)
  · have v := vt (c); clear vt vf
    refine a_iconst d_G_leave_109 ⟨by decide, by decide⟩ ?_
    exact v
  · have v := vf (c); clear vt vf
    refine a_iconst d_G_leave_105 ⟨by decide, by decide⟩ ?_
    refine a_goto (tgt := 110) d_G_leave_106 (by decide) ?_
    exact v
theorem g_G_leave_110 {l : Launch} {D : DD} {d kc ks : Nat} {h : Hp} {Φ : Option AV → Hp → Prop} {x1 : Nat} {x2 : Int} {x3 : Nat} {x4 : Int} {x5 : Nat} {y0 : Int} {y1 : Int} (hM : GS h) (v : (∀ h1 : Hp, h1 = sI h 20 5 (wr (y1 + y0)) → (xK h1 x5 = 4 ∧ ((¬ xR h1 x5 3 = 4 → (Ev l D Y_G_leave (d + 1) kc ks 132 [some (vr 20), some (vr x1), some (vi x2), some (vr x3), some (vi x4), some (vr x5)] [] h1 Φ)) ∧ (xR h1 x5 3 = 4 → (Ev l D Y_G_leave (d + 1) kc ks 132 [some (vr 20), some (vr x1), some (vi x2), some (vr x5), some (vi x4), some (vr x5)] [] h1 Φ)))))) : Ev l D Y_G_leave (d + 1) kc ks 110 [some (vr 20), some (vr x1), some (vi x2), some (vr x3), some (vi x4), some (vr x5)] [vi y0, vi y1, vr 20] h Φ := by
  refine a_iadd d_G_leave_110 ?_
  have v := v _ rfl
  refine a_putI fl_G_47 d_G_leave_111 (beq_iff_eq.mpr (KNG_20 hM)) (by decide) ?_
  refine a_aload d_G_leave_114 rfl ?_
  obtain ⟨c3, v⟩ := v
  refine a_getRN fl_G_68 d_G_leave_116 (beq_iff_eq.mpr c3) ?_
  refine a_gets (k := 4) d_G_leave_119 (by decide +kernel) sl_G_72 ?_
  obtain ⟨vt, vf⟩ := v
  refine a_acmp_ne (tgt := 130) d_G_leave_122 (by decide) (fun c => ?_) (fun c => ?_)
  · have v := vt (c); clear vt vf
    refine a_aload_n d_G_leave_130 rfl ?_
    refine a_astore_n (L' := [some (vr 20), some (vr x1), some (vi x2), some (vr x3), some (vi x4), some (vr x5)]) d_G_leave_131 (Nat.le_of_ble_eq_true rfl) rfl rfl ?_
    exact v
  · have v := vf (c); clear vt vf
    refine a_aload d_G_leave_125 rfl ?_
    refine a_goto (tgt := 131) d_G_leave_127 (by decide) ?_
    refine a_astore_n (L' := [some (vr 20), some (vr x1), some (vi x2), some (vr x5), some (vi x4), some (vr x5)]) d_G_leave_131 (Nat.le_of_ble_eq_true rfl) rfl rfl ?_
    exact v
theorem d_G_isMeant_0 : decode Y_G_isMeant.2.1 0 = .ok (.aload_n 1, 1) := by decide +kernel
theorem d_G_isMeant_1 : decode Y_G_isMeant.2.1 1 = .ok (.aload_n 0, 1) := by decide +kernel
theorem d_G_isMeant_2 : decode Y_G_isMeant.2.1 2 = .ok (.if_acmp .eq 46, 3) := by decide +kernel
theorem d_G_isMeant_5 : decode Y_G_isMeant.2.1 5 = .ok (.aload_n 1, 1) := by decide +kernel
theorem d_G_isMeant_6 : decode Y_G_isMeant.2.1 6 = .ok (.invokevirtual 77, 3) := by decide +kernel
theorem d_G_isMeant_9 : decode Y_G_isMeant.2.1 9 = .ok (.ifCond .ne 39, 3) := by decide +kernel
theorem d_G_isMeant_12 : decode Y_G_isMeant.2.1 12 = .ok (.aload_n 1, 1) := by decide +kernel
theorem d_G_isMeant_13 : decode Y_G_isMeant.2.1 13 = .ok (.getfield 58, 3) := by decide +kernel
theorem d_G_isMeant_16 : decode Y_G_isMeant.2.1 16 = .ok (.iload_n 2, 1) := by decide +kernel
theorem d_G_isMeant_17 : decode Y_G_isMeant.2.1 17 = .ok (.aaload, 1) := by decide +kernel
theorem d_G_isMeant_18 : decode Y_G_isMeant.2.1 18 = .ok (.ifnull 30, 3) := by decide +kernel
theorem d_G_isMeant_21 : decode Y_G_isMeant.2.1 21 = .ok (.aload_n 1, 1) := by decide +kernel
theorem d_G_isMeant_22 : decode Y_G_isMeant.2.1 22 = .ok (.getfield 58, 3) := by decide +kernel
theorem d_G_isMeant_25 : decode Y_G_isMeant.2.1 25 = .ok (.iload_n 2, 1) := by decide +kernel
theorem d_G_isMeant_26 : decode Y_G_isMeant.2.1 26 = .ok (.aaload, 1) := by decide +kernel
theorem d_G_isMeant_27 : decode Y_G_isMeant.2.1 27 = .ok (.getfield 68, 3) := by decide +kernel
theorem d_G_isMeant_30 : decode Y_G_isMeant.2.1 30 = .ok (.invokevirtual 81, 3) := by decide +kernel
theorem d_G_isMeant_33 : decode Y_G_isMeant.2.1 33 = .ok (.ifCond .eq 15, 3) := by decide +kernel
theorem d_G_isMeant_36 : decode Y_G_isMeant.2.1 36 = .ok (.aload_n 0, 1) := by decide +kernel
theorem d_G_isMeant_37 : decode Y_G_isMeant.2.1 37 = .ok (.aload_n 1, 1) := by decide +kernel
theorem d_G_isMeant_38 : decode Y_G_isMeant.2.1 38 = .ok (.invokevirtual 84, 3) := by decide +kernel
theorem d_G_isMeant_41 : decode Y_G_isMeant.2.1 41 = .ok (.ifCond .eq 7, 3) := by decide +kernel
theorem d_G_isMeant_44 : decode Y_G_isMeant.2.1 44 = .ok (.iconst 1, 1) := by decide +kernel
theorem d_G_isMeant_45 : decode Y_G_isMeant.2.1 45 = .ok (.goto 4, 3) := by decide +kernel
theorem d_G_isMeant_48 : decode Y_G_isMeant.2.1 48 = .ok (.iconst 0, 1) := by decide +kernel
theorem d_G_isMeant_49 : decode Y_G_isMeant.2.1 49 = .ok (.ireturn, 1) := by decide +kernel
theorem g_G_isMeant_0 {l : Launch} {D : DD} {d kc ks : Nat} {h : Hp} {Φ : Option AV → Hp → Prop} {x0 : Nat} {x1 : Nat} {x2 : Int} (hM : GS h) (v : (x1 = x0 → (Φ (some (vi (0 : Int))) h)) ∧ (¬ x1 = x0 → (xK h x1 = 3 ∧ Ev l D Y_Type_isClass d 0 0 0 [some (vr x1)] [] h (ki (fun r1 h1 => GS h1 ∧ ((¬ r1 = 0 → (Φ (some (vi (0 : Int))) h1)) ∧ (r1 = 0 → (xK h1 x1 = 3 ∧ ((22 ≤ xK h1 (xR h1 x1 6) ∧ xK h1 (xR h1 x1 6) ≤ 27) ∧ 0 ≤ x2 ∧ x2 < xN h1 (xR h1 x1 6) ∧ ((xR h1 (xR h1 x1 6) (x2).toNat = 0 → (Φ (some (vi (0 : Int))) h1)) ∧ (¬ xR h1 (xR h1 x1 6) (x2).toNat = 0 → (xK h1 x1 = 3 ∧ ((22 ≤ xK h1 (xR h1 x1 6) ∧ xK h1 (xR h1 x1 6) ≤ 27) ∧ 0 ≤ x2 ∧ x2 < xN h1 (xR h1 x1 6) ∧ (xK h1 (xR h1 (xR h1 x1 6) (x2).toNat) = 4 ∧ (xK h1 (xR h1 (xR h1 (xR h1 x1 6) (x2).toNat) 3) = 31 ∧ Ev l D Y_Sort_isOpen d 0 0 0 [some (vr (xR h1 (xR h1 (xR h1 x1 6) (x2).toNat) 3))] [] h1 (ki (fun r2 h2 => GS h2 ∧ ((r2 = 0 → (Φ (some (vi (0 : Int))) h2)) ∧ (¬ r2 = 0 → (xK h2 x0 = 3 ∧ Ev l D Y_Type_isUnder d 0 0 0 [some (vr x0), some (vr x1)] [] h2 (ki (fun r3 h3 => GS h3 ∧ ((r3 = 0 → (Φ (some (vi (0 : Int))) h3)) ∧ (¬ r3 = 0 → (Φ (some (vi (1 : Int))) h3))))))))))))))))))))))))) : Ev l D Y_G_isMeant (d + 1) kc ks 0 [some (vr x0), some (vr x1), some (vi x2)] [] h Φ := by
  refine a_aload_n d_G_isMeant_0 rfl ?_
  refine a_aload_n d_G_isMeant_1 rfl ?_
  obtain ⟨vt, vf⟩ := v
  refine a_acmp_eq (tgt := 48) d_G_isMeant_2 (by decide) (fun c => ?_) (fun c => ?_)
  · have v := vt (c); clear vt vf
    refine a_iconst d_G_isMeant_48 ⟨by decide, by decide⟩ ?_
    exact a_zret d_G_isMeant_49 rfl (Or.inl rfl) v
  · have v := vf (c); clear vt vf
    refine a_aload_n d_G_isMeant_5 rfl ?_
    obtain ⟨c12, v⟩ := v
    refine b_callV (as := []) (b := x1) (st := []) (kd := 3) (kc1 := 0) (ks1 := 0) (kc2 := kc) (ks2 := ks) (d' := d) ml_G_77 rfl d_G_isMeant_6 rfl rfl (Nat.le_of_ble_eq_true rfl) (by decide) rfl (Nat.le_refl _) (by omega) (by omega) c12 ?_
    refine Ev.mono v ?_
    intro u h1 v
    obtain ⟨r1, rfl, v⟩ := ki_el v
    obtain ⟨hm1, v⟩ := v
    change Ev l D Y_G_isMeant _ _ _ 9 [some (vr x0), some (vr x1), some (vi x2)] [vi r1] _ _
    obtain ⟨vt, vf⟩ := v
    refine a_if_ne (tgt := 48) d_G_isMeant_9 (by decide) (fun c => ?_) (fun c => ?_)
    · have v := vt (c); clear vt vf
      refine a_iconst d_G_isMeant_48 ⟨by decide, by decide⟩ ?_
      exact a_zret d_G_isMeant_49 rfl (Or.inl rfl) v
    · have v := vf (Classical.not_not.mp c); clear vt vf
      refine a_aload_n d_G_isMeant_12 rfl ?_
      obtain ⟨c1, v⟩ := v
      refine a_getAN fl_G_58 d_G_isMeant_13 (beq_iff_eq.mpr c1) ?_
      refine a_iload_n d_G_isMeant_16 rfl ?_
      obtain ⟨c2, c3, c4, v⟩ := v
      refine a_aald d_G_isMeant_17 c2 c3 c4 ?_
      obtain ⟨vt, vf⟩ := v
      refine a_ifnull (tgt := 48) d_G_isMeant_18 (by decide) (fun c => ?_) (fun c => ?_)
      · have v := vt (c); clear vt vf
        refine a_iconst d_G_isMeant_48 ⟨by decide, by decide⟩ ?_
        exact a_zret d_G_isMeant_49 rfl (Or.inl rfl) v
      · have v := vf (c); clear vt vf
        refine a_aload_n d_G_isMeant_21 rfl ?_
        obtain ⟨c5, v⟩ := v
        refine a_getAN fl_G_58 d_G_isMeant_22 (beq_iff_eq.mpr c5) ?_
        refine a_iload_n d_G_isMeant_25 rfl ?_
        obtain ⟨c6, c7, c8, v⟩ := v
        refine a_aald d_G_isMeant_26 c6 c7 c8 ?_
        obtain ⟨c9, v⟩ := v
        refine a_getRN fl_G_68 d_G_isMeant_27 (beq_iff_eq.mpr c9) ?_
        obtain ⟨c11, v⟩ := v
        refine b_callV (as := []) (b := (xR h1 (xR h1 (xR h1 x1 6) (x2).toNat) 3)) (st := []) (kd := 31) (kc1 := 0) (ks1 := 0) (kc2 := kc) (ks2 := ks) (d' := d) ml_G_81 rfl d_G_isMeant_30 rfl rfl (Nat.le_of_ble_eq_true rfl) (by decide) rfl (Nat.le_refl _) (by omega) (by omega) c11 ?_
        refine Ev.mono v ?_
        intro u h2 v
        obtain ⟨r2, rfl, v⟩ := ki_el v
        obtain ⟨hm2, v⟩ := v
        change Ev l D Y_G_isMeant _ _ _ 33 [some (vr x0), some (vr x1), some (vi x2)] [vi r2] _ _
        obtain ⟨vt, vf⟩ := v
        refine a_if_eq (tgt := 48) d_G_isMeant_33 (by decide) (fun c => ?_) (fun c => ?_)
        · have v := vt (c); clear vt vf
          refine a_iconst d_G_isMeant_48 ⟨by decide, by decide⟩ ?_
          exact a_zret d_G_isMeant_49 rfl (Or.inl rfl) v
        · have v := vf (c); clear vt vf
          refine a_aload_n d_G_isMeant_36 rfl ?_
          refine a_aload_n d_G_isMeant_37 rfl ?_
          obtain ⟨c10, v⟩ := v
          refine b_callV (as := [vr x1]) (b := x0) (st := []) (kd := 3) (kc1 := 0) (ks1 := 0) (kc2 := kc) (ks2 := ks) (d' := d) ml_G_84 rfl d_G_isMeant_38 rfl rfl (Nat.le_of_ble_eq_true rfl) (by decide) rfl (Nat.le_refl _) (by omega) (by omega) c10 ?_
          refine Ev.mono v ?_
          intro u h3 v
          obtain ⟨r3, rfl, v⟩ := ki_el v
          obtain ⟨hm3, v⟩ := v
          change Ev l D Y_G_isMeant _ _ _ 41 [some (vr x0), some (vr x1), some (vi x2)] [vi r3] _ _
          obtain ⟨vt, vf⟩ := v
          refine a_if_eq (tgt := 48) d_G_isMeant_41 (by decide) (fun c => ?_) (fun c => ?_)
          · have v := vt (c); clear vt vf
            refine a_iconst d_G_isMeant_48 ⟨by decide, by decide⟩ ?_
            exact a_zret d_G_isMeant_49 rfl (Or.inl rfl) v
          · have v := vf (c); clear vt vf
            refine a_iconst d_G_isMeant_44 ⟨by decide, by decide⟩ ?_
            refine a_goto (tgt := 49) d_G_isMeant_45 (by decide) ?_
            exact a_zret d_G_isMeant_49 rfl (Or.inr rfl) v
theorem d_G_isLeft_0 : decode Y_G_isLeft.2.1 0 = .ok (.aload_n 1, 1) := by decide +kernel
theorem d_G_isLeft_1 : decode Y_G_isLeft.2.1 1 = .ok (.aload_n 2, 1) := by decide +kernel
theorem d_G_isLeft_2 : decode Y_G_isLeft.2.1 2 = .ok (.iload_n 3, 1) := by decide +kernel
theorem d_G_isLeft_3 : decode Y_G_isLeft.2.1 3 = .ok (.invokestatic 88, 3) := by decide +kernel
theorem d_G_isLeft_6 : decode Y_G_isLeft.2.1 6 = .ok (.istore 4, 2) := by decide +kernel
theorem d_G_isLeft_8 : decode Y_G_isLeft.2.1 8 = .ok (.iconst 0, 1) := by decide +kernel
theorem d_G_isLeft_9 : decode Y_G_isLeft.2.1 9 = .ok (.istore 5, 2) := by decide +kernel
theorem d_G_isLeft_11 : decode Y_G_isLeft.2.1 11 = .ok (.iload 5, 2) := by decide +kernel
theorem d_G_isLeft_13 : decode Y_G_isLeft.2.1 13 = .ok (.aload_n 0, 1) := by decide +kernel
theorem d_G_isLeft_14 : decode Y_G_isLeft.2.1 14 = .ok (.getfield 55, 3) := by decide +kernel
theorem d_G_isLeft_17 : decode Y_G_isLeft.2.1 17 = .ok (.if_icmp .ge 61, 3) := by decide +kernel
theorem d_G_isLeft_20 : decode Y_G_isLeft.2.1 20 = .ok (.iload 4, 2) := by decide +kernel
theorem d_G_isLeft_22 : decode Y_G_isLeft.2.1 22 = .ok (.ifCond .eq 56, 3) := by decide +kernel
theorem d_G_isLeft_25 : decode Y_G_isLeft.2.1 25 = .ok (.aload_n 0, 1) := by decide +kernel
theorem d_G_isLeft_26 : decode Y_G_isLeft.2.1 26 = .ok (.getfield 11, 3) := by decide +kernel
theorem d_G_isLeft_29 : decode Y_G_isLeft.2.1 29 = .ok (.iload 5, 2) := by decide +kernel
theorem d_G_isLeft_31 : decode Y_G_isLeft.2.1 31 = .ok (.aaload, 1) := by decide +kernel
theorem d_G_isLeft_32 : decode Y_G_isLeft.2.1 32 = .ok (.aload_n 2, 1) := by decide +kernel
theorem d_G_isLeft_33 : decode Y_G_isLeft.2.1 33 = .ok (.if_acmp .eq 32, 3) := by decide +kernel
theorem d_G_isLeft_36 : decode Y_G_isLeft.2.1 36 = .ok (.aload_n 0, 1) := by decide +kernel
theorem d_G_isLeft_37 : decode Y_G_isLeft.2.1 37 = .ok (.getfield 11, 3) := by decide +kernel
theorem d_G_isLeft_40 : decode Y_G_isLeft.2.1 40 = .ok (.iload 5, 2) := by decide +kernel
theorem d_G_isLeft_42 : decode Y_G_isLeft.2.1 42 = .ok (.aaload, 1) := by decide +kernel
theorem d_G_isLeft_43 : decode Y_G_isLeft.2.1 43 = .ok (.aload_n 2, 1) := by decide +kernel
theorem d_G_isLeft_44 : decode Y_G_isLeft.2.1 44 = .ok (.invokevirtual 84, 3) := by decide +kernel
theorem d_G_isLeft_47 : decode Y_G_isLeft.2.1 47 = .ok (.ifCond .eq 18, 3) := by decide +kernel
theorem d_G_isLeft_50 : decode Y_G_isLeft.2.1 50 = .ok (.aload_n 1, 1) := by decide +kernel
theorem d_G_isLeft_51 : decode Y_G_isLeft.2.1 51 = .ok (.aload_n 0, 1) := by decide +kernel
theorem d_G_isLeft_52 : decode Y_G_isLeft.2.1 52 = .ok (.getfield 11, 3) := by decide +kernel
theorem d_G_isLeft_55 : decode Y_G_isLeft.2.1 55 = .ok (.iload 5, 2) := by decide +kernel
theorem d_G_isLeft_57 : decode Y_G_isLeft.2.1 57 = .ok (.aaload, 1) := by decide +kernel
theorem d_G_isLeft_58 : decode Y_G_isLeft.2.1 58 = .ok (.iload_n 3, 1) := by decide +kernel
theorem d_G_isLeft_59 : decode Y_G_isLeft.2.1 59 = .ok (.invokestatic 88, 3) := by decide +kernel
theorem d_G_isLeft_62 : decode Y_G_isLeft.2.1 62 = .ok (.ifCond .ne 7, 3) := by decide +kernel
theorem d_G_isLeft_65 : decode Y_G_isLeft.2.1 65 = .ok (.iconst 1, 1) := by decide +kernel
theorem d_G_isLeft_66 : decode Y_G_isLeft.2.1 66 = .ok (.goto 4, 3) := by decide +kernel
theorem d_G_isLeft_69 : decode Y_G_isLeft.2.1 69 = .ok (.iconst 0, 1) := by decide +kernel
theorem d_G_isLeft_70 : decode Y_G_isLeft.2.1 70 = .ok (.istore 4, 2) := by decide +kernel
theorem d_G_isLeft_72 : decode Y_G_isLeft.2.1 72 = .ok (.iinc 5 1, 3) := by decide +kernel
theorem d_G_isLeft_75 : decode Y_G_isLeft.2.1 75 = .ok (.goto (-64), 3) := by decide +kernel
theorem d_G_isLeft_78 : decode Y_G_isLeft.2.1 78 = .ok (.iload 4, 2) := by decide +kernel
theorem d_G_isLeft_80 : decode Y_G_isLeft.2.1 80 = .ok (.ireturn, 1) := by decide +kernel
theorem g_G_isLeft_0 {l : Launch} {D : DD} {d kc ks : Nat} {h : Hp} {Φ : Option AV → Hp → Prop} {x1 : Nat} {x2 : Nat} {x3 : Int} (hM : GS h) (v : Ev l D Y_G_isMeant d 0 0 0 [some (vr x1), some (vr x2), some (vi x3)] [] h (ki (fun r1 h1 => GS h1 ∧ (Ev l D Y_G_isLeft (d + 1) kc ks 11 [some (vr 20), some (vr x1), some (vr x2), some (vi x3), some (vi r1), some (vi (0 : Int))] [] h1 Φ)))) : Ev l D Y_G_isLeft (d + 1) kc ks 0 [some (vr 20), some (vr x1), some (vr x2), some (vi x3), none, none] [] h Φ := by
  refine a_aload_n d_G_isLeft_0 rfl ?_
  refine a_aload_n d_G_isLeft_1 rfl ?_
  refine a_iload_n d_G_isLeft_2 rfl ?_
  refine b_callS (as := [vr x1, vr x2, vi x3]) (st := []) (kc1 := 0) (ks1 := 0) (kc2 := kc) (ks2 := ks) (d' := d) ml_G_88 rfl d_G_isLeft_3 rfl rfl (Nat.le_of_ble_eq_true rfl) rfl (Nat.le_refl _) (by omega) (by omega) ?_
  refine Ev.mono v ?_
  intro u h1 v
  obtain ⟨r1, rfl, v⟩ := ki_el v
  obtain ⟨hm1, v⟩ := v
  change Ev l D Y_G_isLeft _ _ _ 6 [some (vr 20), some (vr x1), some (vr x2), some (vi x3), none, none] [vi r1] _ _
  refine a_istore (L' := [some (vr 20), some (vr x1), some (vr x2), some (vi x3), some (vi r1), none]) d_G_isLeft_6 (Nat.le_of_ble_eq_true rfl) rfl rfl ?_
  refine a_iconst d_G_isLeft_8 ⟨by decide, by decide⟩ ?_
  refine a_istore (L' := [some (vr 20), some (vr x1), some (vr x2), some (vi x3), some (vi r1), some (vi (0 : Int))]) d_G_isLeft_9 (Nat.le_of_ble_eq_true rfl) rfl rfl ?_
  exact v
theorem g_G_isLeft_11 {l : Launch} {D : DD} {d kc ks : Nat} {h : Hp} {Φ : Option AV → Hp → Prop} {x1 : Nat} {x2 : Nat} {x3 : Int} {x4 : Int} {x5 : Int} (hM : GS h) (v : (x5 ≥ xI h 20 1 → ((x4 = 0 ∨ x4 = 1) ∧ Φ (some (vi x4)) h)) ∧ (x5 < xI h 20 1 → ((x4 = 0 → ((x4 = 0 ∨ x4 = 1) ∧ Φ (some (vi x4)) h)) ∧ (¬ x4 = 0 → (0 ≤ x5 ∧ x5 < 16 ∧ ((xR h 21 (x5).toNat = x2 → (Ev l D Y_G_isLeft (d + 1) kc ks 70 [some (vr 20), some (vr x1), some (vr x2), some (vi x3), some (vi x4), some (vi x5)] [vi (1 : Int)] h Φ)) ∧ (¬ xR h 21 (x5).toNat = x2 → (0 ≤ x5 ∧ x5 < 16 ∧ (xK h (xR h 21 (x5).toNat) = 3 ∧ Ev l D Y_Type_isUnder d 0 0 0 [some (vr (xR h 21 (x5).toNat)), some (vr x2)] [] h (ki (fun r1 h1 => GS h1 ∧ ((r1 = 0 → (Ev l D Y_G_isLeft (d + 1) kc ks 70 [some (vr 20), some (vr x1), some (vr x2), some (vi x3), some (vi x4), some (vi x5)] [vi (1 : Int)] h1 Φ)) ∧ (¬ r1 = 0 → (0 ≤ x5 ∧ x5 < 16 ∧ (Ev l D Y_G_isMeant d 0 0 0 [some (vr x1), some (vr (xR h1 21 (x5).toNat)), some (vi x3)] [] h1 (ki (fun r2 h2 => GS h2 ∧ ((¬ r2 = 0 → (Ev l D Y_G_isLeft (d + 1) kc ks 70 [some (vr 20), some (vr x1), some (vr x2), some (vi x3), some (vi x4), some (vi x5)] [vi (0 : Int)] h2 Φ)) ∧ (r2 = 0 → (Ev l D Y_G_isLeft (d + 1) kc ks 70 [some (vr 20), some (vr x1), some (vr x2), some (vi x3), some (vi x4), some (vi x5)] [vi (1 : Int)] h2 Φ)))))))))))))))))))) : Ev l D Y_G_isLeft (d + 1) kc ks 11 [some (vr 20), some (vr x1), some (vr x2), some (vi x3), some (vi x4), some (vi x5)] [] h Φ := by
  refine a_iload d_G_isLeft_11 rfl ?_
  refine a_aload_n d_G_isLeft_13 rfl ?_
  refine a_getI fl_G_55 d_G_isLeft_14 (beq_iff_eq.mpr (KNG_20 hM)) ?_
  obtain ⟨vt, vf⟩ := v
  refine a_icmp_ge (tgt := 78) d_G_isLeft_17 (by decide) (fun c => ?_) (fun c => ?_)
  · have v := vt (c); clear vt vf
    refine a_iload d_G_isLeft_78 rfl ?_
    exact a_zret d_G_isLeft_80 rfl v.1 v.2
  · have v := vf (Int.not_le.mp c); clear vt vf
    refine a_iload d_G_isLeft_20 rfl ?_
    obtain ⟨vt, vf⟩ := v
    refine a_if_eq (tgt := 78) d_G_isLeft_22 (by decide) (fun c => ?_) (fun c => ?_)
    · have v := vt (c); clear vt vf
      refine a_iload d_G_isLeft_78 rfl ?_
      exact a_zret d_G_isLeft_80 rfl v.1 v.2
    · have v := vf (c); clear vt vf
      refine a_aload_n d_G_isLeft_25 rfl ?_
      refine a_getAe fl_G_11 d_G_isLeft_26 (beq_iff_eq.mpr (KNG_20 hM)) (KRG_20_0 hM) ?_
      refine a_iload d_G_isLeft_29 rfl ?_
      obtain ⟨c2, c3, v⟩ := v
      refine a_aald d_G_isLeft_31 ⟨by rw [KNG_21 hM]; decide, by rw [KNG_21 hM]; decide⟩ c2 (lt_len (NNG_21 hM) c3) ?_
      refine a_aload_n d_G_isLeft_32 rfl ?_
      obtain ⟨vt, vf⟩ := v
      refine a_acmp_eq (tgt := 65) d_G_isLeft_33 (by decide) (fun c => ?_) (fun c => ?_)
      · have v := vt (c); clear vt vf
        refine a_iconst d_G_isLeft_65 ⟨by decide, by decide⟩ ?_
        refine a_goto (tgt := 70) d_G_isLeft_66 (by decide) ?_
        exact v
      · have v := vf (c); clear vt vf
        refine a_aload_n d_G_isLeft_36 rfl ?_
        refine a_getAe fl_G_11 d_G_isLeft_37 (beq_iff_eq.mpr (KNG_20 hM)) (KRG_20_0 hM) ?_
        refine a_iload d_G_isLeft_40 rfl ?_
        obtain ⟨c5, c6, v⟩ := v
        refine a_aald d_G_isLeft_42 ⟨by rw [KNG_21 hM]; decide, by rw [KNG_21 hM]; decide⟩ c5 (lt_len (NNG_21 hM) c6) ?_
        refine a_aload_n d_G_isLeft_43 rfl ?_
        obtain ⟨c10, v⟩ := v
        refine b_callV (as := [vr x2]) (b := (xR h 21 (x5).toNat)) (st := []) (kd := 3) (kc1 := 0) (ks1 := 0) (kc2 := kc) (ks2 := ks) (d' := d) ml_G_84 rfl d_G_isLeft_44 rfl rfl (Nat.le_of_ble_eq_true rfl) (by decide) rfl (Nat.le_refl _) (by omega) (by omega) c10 ?_
        refine Ev.mono v ?_
        intro u h1 v
        obtain ⟨r1, rfl, v⟩ := ki_el v
        obtain ⟨hm1, v⟩ := v
        change Ev l D Y_G_isLeft _ _ _ 47 [some (vr 20), some (vr x1), some (vr x2), some (vi x3), some (vi x4), some (vi x5)] [vi r1] _ _
        obtain ⟨vt, vf⟩ := v
        refine a_if_eq (tgt := 65) d_G_isLeft_47 (by decide) (fun c => ?_) (fun c => ?_)
        · have v := vt (c); clear vt vf
          refine a_iconst d_G_isLeft_65 ⟨by decide, by decide⟩ ?_
          refine a_goto (tgt := 70) d_G_isLeft_66 (by decide) ?_
          exact v
        · have v := vf (c); clear vt vf
          refine a_aload_n d_G_isLeft_50 rfl ?_
          refine a_aload_n d_G_isLeft_51 rfl ?_
          refine a_getAe fl_G_11 d_G_isLeft_52 (beq_iff_eq.mpr (KNG_20 hm1)) (KRG_20_0 hm1) ?_
          refine a_iload d_G_isLeft_55 rfl ?_
          obtain ⟨c8, c9, v⟩ := v
          refine a_aald d_G_isLeft_57 ⟨by rw [KNG_21 hm1]; decide, by rw [KNG_21 hm1]; decide⟩ c8 (lt_len (NNG_21 hm1) c9) ?_
          refine a_iload_n d_G_isLeft_58 rfl ?_
          refine b_callS (as := [vr x1, vr (xR h1 21 (x5).toNat), vi x3]) (st := []) (kc1 := 0) (ks1 := 0) (kc2 := kc) (ks2 := ks) (d' := d) ml_G_88 rfl d_G_isLeft_59 rfl rfl (Nat.le_of_ble_eq_true rfl) rfl (Nat.le_refl _) (by omega) (by omega) ?_
          refine Ev.mono v ?_
          intro u h2 v
          obtain ⟨r2, rfl, v⟩ := ki_el v
          obtain ⟨hm2, v⟩ := v
          change Ev l D Y_G_isLeft _ _ _ 62 [some (vr 20), some (vr x1), some (vr x2), some (vi x3), some (vi x4), some (vi x5)] [vi r2] _ _
          obtain ⟨vt, vf⟩ := v
          refine a_if_ne (tgt := 69) d_G_isLeft_62 (by decide) (fun c => ?_) (fun c => ?_)
          · have v := vt (c); clear vt vf
            refine a_iconst d_G_isLeft_69 ⟨by decide, by decide⟩ ?_
            exact v
          · have v := vf (Classical.not_not.mp c); clear vt vf
            refine a_iconst d_G_isLeft_65 ⟨by decide, by decide⟩ ?_
            refine a_goto (tgt := 70) d_G_isLeft_66 (by decide) ?_
            exact v
theorem g_G_isLeft_70 {l : Launch} {D : DD} {d kc ks : Nat} {h : Hp} {Φ : Option AV → Hp → Prop} {x1 : Nat} {x2 : Nat} {x3 : Int} {x4 : Int} {x5 : Int} {y0 : Int} (hM : GS h) (v : Ev l D Y_G_isLeft (d + 1) kc ks 11 [some (vr 20), some (vr x1), some (vr x2), some (vi x3), some (vi y0), some (vi (wr (x5 + (1 : Int))))] [] h Φ) : Ev l D Y_G_isLeft (d + 1) kc ks 70 [some (vr 20), some (vr x1), some (vr x2), some (vi x3), some (vi x4), some (vi x5)] [vi y0] h Φ := by
  refine a_istore (L' := [some (vr 20), some (vr x1), some (vr x2), some (vi x3), some (vi y0), some (vi x5)]) d_G_isLeft_70 (Nat.le_of_ble_eq_true rfl) rfl rfl ?_
  refine a_iinc (L' := [some (vr 20), some (vr x1), some (vr x2), some (vi x3), some (vi y0), some (vi (wr (x5 + (1 : Int))))]) d_G_isLeft_72 rfl (Nat.le_of_ble_eq_true rfl) rfl rfl ?_
  refine a_goto (tgt := 11) d_G_isLeft_75 (by decide) ?_
  exact v
theorem d_G_find_0 : decode Y_G_find.2.1 0 = .ok (.aload_n 1, 1) := by decide +kernel
theorem d_G_find_1 : decode Y_G_find.2.1 1 = .ok (.astore_n 3, 1) := by decide +kernel
theorem d_G_find_2 : decode Y_G_find.2.1 2 = .ok (.aload_n 3, 1) := by decide +kernel
theorem d_G_find_3 : decode Y_G_find.2.1 3 = .ok (.ifnull 27, 3) := by decide +kernel
theorem d_G_find_6 : decode Y_G_find.2.1 6 = .ok (.aload_n 3, 1) := by decide +kernel
theorem d_G_find_7 : decode Y_G_find.2.1 7 = .ok (.getfield 58, 3) := by decide +kernel
theorem d_G_find_10 : decode Y_G_find.2.1 10 = .ok (.iload_n 2, 1) := by decide +kernel
theorem d_G_find_11 : decode Y_G_find.2.1 11 = .ok (.aaload, 1) := by decide +kernel
theorem d_G_find_12 : decode Y_G_find.2.1 12 = .ok (.ifnull 10, 3) := by decide +kernel
theorem d_G_find_15 : decode Y_G_find.2.1 15 = .ok (.aload_n 3, 1) := by decide +kernel
theorem d_G_find_16 : decode Y_G_find.2.1 16 = .ok (.getfield 58, 3) := by decide +kernel
theorem d_G_find_19 : decode Y_G_find.2.1 19 = .ok (.iload_n 2, 1) := by decide +kernel
theorem d_G_find_20 : decode Y_G_find.2.1 20 = .ok (.aaload, 1) := by decide +kernel
theorem d_G_find_21 : decode Y_G_find.2.1 21 = .ok (.areturn, 1) := by decide +kernel
theorem d_G_find_22 : decode Y_G_find.2.1 22 = .ok (.aload_n 3, 1) := by decide +kernel
theorem d_G_find_23 : decode Y_G_find.2.1 23 = .ok (.getfield 91, 3) := by decide +kernel
theorem d_G_find_26 : decode Y_G_find.2.1 26 = .ok (.astore_n 3, 1) := by decide +kernel
theorem d_G_find_27 : decode Y_G_find.2.1 27 = .ok (.goto (-25), 3) := by decide +kernel
theorem d_G_find_30 : decode Y_G_find.2.1 30 = .ok (.aload_n 0, 1) := by decide +kernel
theorem d_G_find_31 : decode Y_G_find.2.1 31 = .ok (.aload_n 1, 1) := by decide +kernel
theorem d_G_find_32 : decode Y_G_find.2.1 32 = .ok (.iload_n 2, 1) := by decide +kernel
theorem d_G_find_33 : decode Y_G_find.2.1 33 = .ok (.invokevirtual 95, 3) := by decide +kernel
theorem d_G_find_36 : decode Y_G_find.2.1 36 = .ok (.aload_n 0, 1) := by decide +kernel
theorem d_G_find_37 : decode Y_G_find.2.1 37 = .ok (.getfield 51, 3) := by decide +kernel
theorem d_G_find_40 : decode Y_G_find.2.1 40 = .ok (.areturn, 1) := by decide +kernel
theorem g_G_find_0 {l : Launch} {D : DD} {d kc ks : Nat} {h : Hp} {Φ : Option AV → Hp → Prop} {x1 : Nat} {x2 : Int} (hM : GS h) (v : Ev l D Y_G_find (d + 1) kc ks 2 [some (vr 20), some (vr x1), some (vi x2), some (vr x1)] [] h Φ) : Ev l D Y_G_find (d + 1) kc ks 0 [some (vr 20), some (vr x1), some (vi x2), none] [] h Φ := by
  refine a_aload_n d_G_find_0 rfl ?_
  refine a_astore_n (L' := [some (vr 20), some (vr x1), some (vi x2), some (vr x1)]) d_G_find_1 (Nat.le_of_ble_eq_true rfl) rfl rfl ?_
  exact v
theorem g_G_find_2 {l : Launch} {D : DD} {d kc ks : Nat} {h : Hp} {Φ : Option AV → Hp → Prop} {x1 : Nat} {x2 : Int} {x3 : Nat} (hM : GS h) (v : (x3 = 0 → (Ev l D Y_G_leave d 0 0 0 [some (vr 20), some (vr x1), some (vi x2), none, none, none] [] h (kv (fun h1 => GS h1 ∧ (Φ (some (vr (xR h1 20 6))) h1))))) ∧ (¬ x3 = 0 → (xK h x3 = 3 ∧ ((22 ≤ xK h (xR h x3 6) ∧ xK h (xR h x3 6) ≤ 27) ∧ 0 ≤ x2 ∧ x2 < xN h (xR h x3 6) ∧ ((xR h (xR h x3 6) (x2).toNat = 0 → (xK h x3 = 3 ∧ (Ev l D Y_G_find (d + 1) kc ks 2 [some (vr 20), some (vr x1), some (vi x2), some (vr (xR h x3 2))] [] h Φ))) ∧ (¬ xR h (xR h x3 6) (x2).toNat = 0 → (xK h x3 = 3 ∧ ((22 ≤ xK h (xR h x3 6) ∧ xK h (xR h x3 6) ≤ 27) ∧ 0 ≤ x2 ∧ x2 < xN h (xR h x3 6) ∧ (Φ (some (vr (xR h (xR h x3 6) (x2).toNat))) h))))))))) : Ev l D Y_G_find (d + 1) kc ks 2 [some (vr 20), some (vr x1), some (vi x2), some (vr x3)] [] h Φ := by
  refine a_aload_n d_G_find_2 rfl ?_
  obtain ⟨vt, vf⟩ := v
  refine a_ifnull (tgt := 30) d_G_find_3 (by decide) (fun c => ?_) (fun c => ?_)
  · have v := vt (c); clear vt vf
    refine a_aload_n d_G_find_30 rfl ?_
    refine a_aload_n d_G_find_31 rfl ?_
    refine a_iload_n d_G_find_32 rfl ?_
    refine b_callV (as := [vr x1, vi x2]) (b := 20) (st := []) (kd := 1) (kc1 := 0) (ks1 := 0) (kc2 := kc) (ks2 := ks) (d' := d) ml_G_95 rfl d_G_find_33 rfl rfl (Nat.le_of_ble_eq_true rfl) (by decide) rfl (Nat.le_refl _) (by omega) (by omega) (KNG_20 hM) ?_
    refine Ev.mono v ?_
    intro u h1 v
    obtain ⟨rfl, v⟩ := kv_el v
    obtain ⟨hm1, v⟩ := v
    change Ev l D Y_G_find _ _ _ 36 [some (vr 20), some (vr x1), some (vi x2), some (vr x3)] [] _ _
    refine a_aload_n d_G_find_36 rfl ?_
    refine a_getR fl_G_51 d_G_find_37 (beq_iff_eq.mpr (KNG_20 hm1)) ?_
    exact a_aret d_G_find_40 rfl (Or.inl ⟨_, rfl⟩) v
  · have v := vf (c); clear vt vf
    refine a_aload_n d_G_find_6 rfl ?_
    obtain ⟨c2, v⟩ := v
    refine a_getAN fl_G_58 d_G_find_7 (beq_iff_eq.mpr c2) ?_
    refine a_iload_n d_G_find_10 rfl ?_
    obtain ⟨c3, c4, c5, v⟩ := v
    refine a_aald d_G_find_11 c3 c4 c5 ?_
    obtain ⟨vt, vf⟩ := v
    refine a_ifnull (tgt := 22) d_G_find_12 (by decide) (fun c => ?_) (fun c => ?_)
    · have v := vt (c); clear vt vf
      refine a_aload_n d_G_find_22 rfl ?_
      obtain ⟨c6, v⟩ := v
      refine a_getRN fl_G_91 d_G_find_23 (beq_iff_eq.mpr c6) ?_
      refine a_astore_n (L' := [some (vr 20), some (vr x1), some (vi x2), some (vr (xR h x3 2))]) d_G_find_26 (Nat.le_of_ble_eq_true rfl) rfl rfl ?_
      refine a_goto (tgt := 2) d_G_find_27 (by decide) ?_
      exact v
    · have v := vf (c); clear vt vf
      refine a_aload_n d_G_find_15 rfl ?_
      obtain ⟨c7, v⟩ := v
      refine a_getAN fl_G_58 d_G_find_16 (beq_iff_eq.mpr c7) ?_
      refine a_iload_n d_G_find_19 rfl ?_
      obtain ⟨c8, c9, c10, v⟩ := v
      refine a_aald d_G_find_20 c8 c9 c10 ?_
      exact a_aret d_G_find_21 rfl (Or.inl ⟨_, rfl⟩) v
theorem d_G_choose_0 : decode Y_G_choose.2.1 0 = .ok (.aload_n 2, 1) := by decide +kernel
theorem d_G_choose_1 : decode Y_G_choose.2.1 1 = .ok (.ifnonnull 6, 3) := by decide +kernel
theorem d_G_choose_4 : decode Y_G_choose.2.1 4 = .ok (.bipush (-2), 2) := by decide +kernel
theorem d_G_choose_6 : decode Y_G_choose.2.1 6 = .ok (.ireturn, 1) := by decide +kernel
theorem d_G_choose_7 : decode Y_G_choose.2.1 7 = .ok (.aload_n 2, 1) := by decide +kernel
theorem d_G_choose_8 : decode Y_G_choose.2.1 8 = .ok (.getfield 68, 3) := by decide +kernel
theorem d_G_choose_11 : decode Y_G_choose.2.1 11 = .ok (.getstatic 99, 3) := by decide +kernel
theorem d_G_choose_14 : decode Y_G_choose.2.1 14 = .ok (.if_acmp .ne 6, 3) := by decide +kernel
theorem d_G_choose_17 : decode Y_G_choose.2.1 17 = .ok (.bipush (-3), 2) := by decide +kernel
theorem d_G_choose_19 : decode Y_G_choose.2.1 19 = .ok (.ireturn, 1) := by decide +kernel
theorem d_G_choose_20 : decode Y_G_choose.2.1 20 = .ok (.aload_n 2, 1) := by decide +kernel
theorem d_G_choose_21 : decode Y_G_choose.2.1 21 = .ok (.getfield 68, 3) := by decide +kernel
theorem d_G_choose_24 : decode Y_G_choose.2.1 24 = .ok (.getstatic 102, 3) := by decide +kernel
theorem d_G_choose_27 : decode Y_G_choose.2.1 27 = .ok (.if_acmp .ne 8, 3) := by decide +kernel
theorem d_G_choose_30 : decode Y_G_choose.2.1 30 = .ok (.aload_n 2, 1) := by decide +kernel
theorem d_G_choose_31 : decode Y_G_choose.2.1 31 = .ok (.getfield 65, 3) := by decide +kernel
theorem d_G_choose_34 : decode Y_G_choose.2.1 34 = .ok (.ireturn, 1) := by decide +kernel
theorem d_G_choose_35 : decode Y_G_choose.2.1 35 = .ok (.aload_n 1, 1) := by decide +kernel
theorem d_G_choose_36 : decode Y_G_choose.2.1 36 = .ok (.astore_n 3, 1) := by decide +kernel
theorem d_G_choose_37 : decode Y_G_choose.2.1 37 = .ok (.aload_n 3, 1) := by decide +kernel
theorem d_G_choose_38 : decode Y_G_choose.2.1 38 = .ok (.ifnull 60, 3) := by decide +kernel
theorem d_G_choose_41 : decode Y_G_choose.2.1 41 = .ok (.aload_n 3, 1) := by decide +kernel
theorem d_G_choose_42 : decode Y_G_choose.2.1 42 = .ok (.getfield 58, 3) := by decide +kernel
theorem d_G_choose_45 : decode Y_G_choose.2.1 45 = .ok (.aload_n 2, 1) := by decide +kernel
theorem d_G_choose_46 : decode Y_G_choose.2.1 46 = .ok (.getfield 105, 3) := by decide +kernel
theorem d_G_choose_49 : decode Y_G_choose.2.1 49 = .ok (.aaload, 1) := by decide +kernel
theorem d_G_choose_50 : decode Y_G_choose.2.1 50 = .ok (.astore 4, 2) := by decide +kernel
theorem d_G_choose_52 : decode Y_G_choose.2.1 52 = .ok (.aload 4, 2) := by decide +kernel
theorem d_G_choose_54 : decode Y_G_choose.2.1 54 = .ok (.ifnull 36, 3) := by decide +kernel
theorem d_G_choose_57 : decode Y_G_choose.2.1 57 = .ok (.aload 4, 2) := by decide +kernel
theorem d_G_choose_59 : decode Y_G_choose.2.1 59 = .ok (.getfield 68, 3) := by decide +kernel
theorem d_G_choose_62 : decode Y_G_choose.2.1 62 = .ok (.invokevirtual 81, 3) := by decide +kernel
theorem d_G_choose_65 : decode Y_G_choose.2.1 65 = .ok (.ifCond .eq 25, 3) := by decide +kernel
theorem d_G_choose_68 : decode Y_G_choose.2.1 68 = .ok (.aload 4, 2) := by decide +kernel
theorem d_G_choose_70 : decode Y_G_choose.2.1 70 = .ok (.getfield 68, 3) := by decide +kernel
theorem d_G_choose_73 : decode Y_G_choose.2.1 73 = .ok (.getstatic 72, 3) := by decide +kernel
theorem d_G_choose_76 : decode Y_G_choose.2.1 76 = .ok (.if_acmp .ne 11, 3) := by decide +kernel
theorem d_G_choose_79 : decode Y_G_choose.2.1 79 = .ok (.aload 4, 2) := by decide +kernel
theorem d_G_choose_81 : decode Y_G_choose.2.1 81 = .ok (.getfield 65, 3) := by decide +kernel
theorem d_G_choose_84 : decode Y_G_choose.2.1 84 = .ok (.goto 5, 3) := by decide +kernel
theorem d_G_choose_87 : decode Y_G_choose.2.1 87 = .ok (.bipush (-4), 2) := by decide +kernel
theorem d_G_choose_89 : decode Y_G_choose.2.1 89 = .ok (.ireturn, 1) := by decide +kernel
theorem d_G_choose_90 : decode Y_G_choose.2.1 90 = .ok (.aload_n 3, 1) := by decide +kernel
theorem d_G_choose_91 : decode Y_G_choose.2.1 91 = .ok (.getfield 91, 3) := by decide +kernel
theorem d_G_choose_94 : decode Y_G_choose.2.1 94 = .ok (.astore_n 3, 1) := by decide +kernel
theorem d_G_choose_95 : decode Y_G_choose.2.1 95 = .ok (.goto (-58), 3) := by decide +kernel
theorem d_G_choose_98 : decode Y_G_choose.2.1 98 = .ok (.aload_n 0, 1) := by decide +kernel
theorem d_G_choose_99 : decode Y_G_choose.2.1 99 = .ok (.aload_n 1, 1) := by decide +kernel
theorem d_G_choose_100 : decode Y_G_choose.2.1 100 = .ok (.aload_n 2, 1) := by decide +kernel
theorem d_G_choose_101 : decode Y_G_choose.2.1 101 = .ok (.getfield 105, 3) := by decide +kernel
theorem d_G_choose_104 : decode Y_G_choose.2.1 104 = .ok (.invokevirtual 95, 3) := by decide +kernel
theorem d_G_choose_107 : decode Y_G_choose.2.1 107 = .ok (.aload_n 0, 1) := by decide +kernel
theorem d_G_choose_108 : decode Y_G_choose.2.1 108 = .ok (.getfield 47, 3) := by decide +kernel
theorem d_G_choose_111 : decode Y_G_choose.2.1 111 = .ok (.ifCond .ne 8, 3) := by decide +kernel
theorem d_G_choose_114 : decode Y_G_choose.2.1 114 = .ok (.bipush (-4), 2) := by decide +kernel
theorem d_G_choose_116 : decode Y_G_choose.2.1 116 = .ok (.goto 23, 3) := by decide +kernel
theorem d_G_choose_119 : decode Y_G_choose.2.1 119 = .ok (.aload_n 0, 1) := by decide +kernel
theorem d_G_choose_120 : decode Y_G_choose.2.1 120 = .ok (.getfield 47, 3) := by decide +kernel
theorem d_G_choose_123 : decode Y_G_choose.2.1 123 = .ok (.iconst 1, 1) := by decide +kernel
theorem d_G_choose_124 : decode Y_G_choose.2.1 124 = .ok (.if_icmp .le 8, 3) := by decide +kernel
theorem d_G_choose_127 : decode Y_G_choose.2.1 127 = .ok (.bipush (-5), 2) := by decide +kernel
theorem d_G_choose_129 : decode Y_G_choose.2.1 129 = .ok (.goto 10, 3) := by decide +kernel
theorem d_G_choose_132 : decode Y_G_choose.2.1 132 = .ok (.aload_n 0, 1) := by decide +kernel
theorem d_G_choose_133 : decode Y_G_choose.2.1 133 = .ok (.getfield 51, 3) := by decide +kernel
theorem d_G_choose_136 : decode Y_G_choose.2.1 136 = .ok (.getfield 65, 3) := by decide +kernel
theorem d_G_choose_139 : decode Y_G_choose.2.1 139 = .ok (.ireturn, 1) := by decide +kernel
theorem g_G_choose_0 {l : Launch} {D : DD} {d kc ks : Nat} {h : Hp} {Φ : Option AV → Hp → Prop} {x1 : Nat} {x2 : Nat} (hM : GS h) (v : (¬ x2 = 0 → (xK h x2 = 4 ∧ ((¬ xR h x2 3 = 6 → (xK h x2 = 4 ∧ ((¬ xR h x2 3 = 7 → (Ev l D Y_G_choose (d + 1) kc ks 37 [some (vr 20), some (vr x1), some (vr x2), some (vr x1), none] [] h Φ)) ∧ (xR h x2 3 = 7 → (xK h x2 = 4 ∧ (Φ (some (vi (xI h x2 0))) h)))))) ∧ (xR h x2 3 = 6 → (Φ (some (vi (-3 : Int))) h))))) ∧ (x2 = 0 → (Φ (some (vi (-2 : Int))) h))) : Ev l D Y_G_choose (d + 1) kc ks 0 [some (vr 20), some (vr x1), some (vr x2), none, none] [] h Φ := by
  refine a_aload_n d_G_choose_0 rfl ?_
  obtain ⟨vt, vf⟩ := v
  refine a_ifnonnull (tgt := 7) d_G_choose_1 (by decide) (fun c => ?_) (fun c => ?_)
  · have v := vt (c); clear vt vf
    refine a_aload_n d_G_choose_7 rfl ?_
    obtain ⟨c1, v⟩ := v
    refine a_getRN fl_G_68 d_G_choose_8 (beq_iff_eq.mpr c1) ?_
    refine a_gets (k := 6) d_G_choose_11 (by decide +kernel) sl_G_99 ?_
    obtain ⟨vt, vf⟩ := v
    refine a_acmp_ne (tgt := 20) d_G_choose_14 (by decide) (fun c => ?_) (fun c => ?_)
    · have v := vt (c); clear vt vf
      refine a_aload_n d_G_choose_20 rfl ?_
      obtain ⟨c2, v⟩ := v
      refine a_getRN fl_G_68 d_G_choose_21 (beq_iff_eq.mpr c2) ?_
      refine a_gets (k := 7) d_G_choose_24 (by decide +kernel) sl_G_102 ?_
      obtain ⟨vt, vf⟩ := v
      refine a_acmp_ne (tgt := 35) d_G_choose_27 (by decide) (fun c => ?_) (fun c => ?_)
      · have v := vt (c); clear vt vf
        refine a_aload_n d_G_choose_35 rfl ?_
        refine a_astore_n (L' := [some (vr 20), some (vr x1), some (vr x2), some (vr x1), none]) d_G_choose_36 (Nat.le_of_ble_eq_true rfl) rfl rfl ?_
        exact v
      · have v := vf (c); clear vt vf
        refine a_aload_n d_G_choose_30 rfl ?_
        obtain ⟨c3, v⟩ := v
        refine a_getIN fl_G_65 d_G_choose_31 (beq_iff_eq.mpr c3) ?_
        exact a_iret d_G_choose_34 rfl v
    · have v := vf (c); clear vt vf
      refine a_bipush d_G_choose_17 ⟨by decide, by decide⟩ (by decide) ?_
      exact a_iret d_G_choose_19 rfl v
  · have v := vf (c); clear vt vf
    refine a_bipush d_G_choose_4 ⟨by decide, by decide⟩ (by decide) ?_
    exact a_iret d_G_choose_6 rfl v
theorem g_G_choose_37 {l : Launch} {D : DD} {d kc ks : Nat} {h : Hp} {Φ : Option AV → Hp → Prop} {x1 : Nat} {x2 : Nat} {x3 : Nat} (hM : GS h) (v : (x3 = 0 → (xK h x2 = 4 ∧ (Ev l D Y_G_leave d 0 0 0 [some (vr 20), some (vr x1), some (vi (xI h x2 2)), none, none, none] [] h (kv (fun h1 => GS h1 ∧ ((¬ xI h1 20 5 = 0 → ((xI h1 20 5 ≤ (1 : Int) → (xK h1 (xR h1 20 6) = 4 ∧ (Φ (some (vi (xI h1 (xR h1 20 6) 0))) h1))) ∧ (xI h1 20 5 > (1 : Int) → (Φ (some (vi (-5 : Int))) h1)))) ∧ (xI h1 20 5 = 0 → (Φ (some (vi (-4 : Int))) h1)))))))) ∧ (¬ x3 = 0 → (xK h x3 = 3 ∧ (xK h x2 = 4 ∧ ((22 ≤ xK h (xR h x3 6) ∧ xK h (xR h x3 6) ≤ 27) ∧ 0 ≤ xI h x2 2 ∧ xI h x2 2 < xN h (xR h x3 6) ∧ ((xR h (xR h x3 6) (xI h x2 2).toNat = 0 → (xK h x3 = 3 ∧ (Ev l D Y_G_choose (d + 1) kc ks 37 [some (vr 20), some (vr x1), some (vr x2), some (vr (xR h x3 2)), none] [] h Φ))) ∧ (¬ xR h (xR h x3 6) (xI h x2 2).toNat = 0 → (xK h (xR h (xR h x3 6) (xI h x2 2).toNat) = 4 ∧ (xK h (xR h (xR h (xR h x3 6) (xI h x2 2).toNat) 3) = 31 ∧ Ev l D Y_Sort_isOpen d 0 0 0 [some (vr (xR h (xR h (xR h x3 6) (xI h x2 2).toNat) 3))] [] h (ki (fun r1 h2 => GS h2 ∧ ((r1 = 0 → (xK h2 x3 = 3 ∧ (Ev l D Y_G_choose (d + 1) kc ks 37 [some (vr 20), some (vr x1), some (vr x2), some (vr (xR h2 x3 2)), none] [] h2 Φ))) ∧ (¬ r1 = 0 → (xK h2 (xR h (xR h x3 6) (xI h x2 2).toNat) = 4 ∧ ((¬ xR h2 (xR h (xR h x3 6) (xI h x2 2).toNat) 3 = 4 → (Φ (some (vi (-4 : Int))) h2)) ∧ (xR h2 (xR h (xR h x3 6) (xI h x2 2).toNat) 3 = 4 → (xK h2 (xR h (xR h x3 6) (xI h x2 2).toNat) = 4 ∧ (Φ (some (vi (xI h2 (xR h (xR h x3 6) (xI h x2 2).toNat) 0))) h2)))))))))))))))))) : Ev l D Y_G_choose (d + 1) kc ks 37 [some (vr 20), some (vr x1), some (vr x2), some (vr x3), none] [] h Φ := by
  refine a_aload_n d_G_choose_37 rfl ?_
  obtain ⟨vt, vf⟩ := v
  refine a_ifnull (tgt := 98) d_G_choose_38 (by decide) (fun c => ?_) (fun c => ?_)
  · have v := vt (c); clear vt vf
    refine a_aload_n d_G_choose_98 rfl ?_
    refine a_aload_n d_G_choose_99 rfl ?_
    refine a_aload_n d_G_choose_100 rfl ?_
    obtain ⟨c1, v⟩ := v
    refine a_getIN fl_G_105 d_G_choose_101 (beq_iff_eq.mpr c1) ?_
    refine b_callV (as := [vr x1, vi (xI h x2 2)]) (b := 20) (st := []) (kd := 1) (kc1 := 0) (ks1 := 0) (kc2 := kc) (ks2 := ks) (d' := d) ml_G_95 rfl d_G_choose_104 rfl rfl (Nat.le_of_ble_eq_true rfl) (by decide) rfl (Nat.le_refl _) (by omega) (by omega) (KNG_20 hM) ?_
    refine Ev.mono v ?_
    intro u h1 v
    obtain ⟨rfl, v⟩ := kv_el v
    obtain ⟨hm1, v⟩ := v
    change Ev l D Y_G_choose _ _ _ 107 [some (vr 20), some (vr x1), some (vr x2), some (vr x3), none] [] _ _
    refine a_aload_n d_G_choose_107 rfl ?_
    refine a_getI fl_G_47 d_G_choose_108 (beq_iff_eq.mpr (KNG_20 hm1)) ?_
    obtain ⟨vt, vf⟩ := v
    refine a_if_ne (tgt := 119) d_G_choose_111 (by decide) (fun c => ?_) (fun c => ?_)
    · have v := vt (c); clear vt vf
      refine a_aload_n d_G_choose_119 rfl ?_
      refine a_getI fl_G_47 d_G_choose_120 (beq_iff_eq.mpr (KNG_20 hm1)) ?_
      refine a_iconst d_G_choose_123 ⟨by decide, by decide⟩ ?_
      obtain ⟨vt, vf⟩ := v
      refine a_icmp_le (tgt := 132) d_G_choose_124 (by decide) (fun c => ?_) (fun c => ?_)
      · have v := vt (c); clear vt vf
        refine a_aload_n d_G_choose_132 rfl ?_
        refine a_getR fl_G_51 d_G_choose_133 (beq_iff_eq.mpr (KNG_20 hm1)) ?_
        obtain ⟨c2, v⟩ := v
        refine a_getIN fl_G_65 d_G_choose_136 (beq_iff_eq.mpr c2) ?_
        exact a_iret d_G_choose_139 rfl v
      · have v := vf (Int.not_le.mp c); clear vt vf
        refine a_bipush d_G_choose_127 ⟨by decide, by decide⟩ (by decide) ?_
        refine a_goto (tgt := 139) d_G_choose_129 (by decide) ?_
        exact a_iret d_G_choose_139 rfl v
    · have v := vf (Classical.not_not.mp c); clear vt vf
      refine a_bipush d_G_choose_114 ⟨by decide, by decide⟩ (by decide) ?_
      refine a_goto (tgt := 139) d_G_choose_116 (by decide) ?_
      exact a_iret d_G_choose_139 rfl v
  · have v := vf (c); clear vt vf
    refine a_aload_n d_G_choose_41 rfl ?_
    obtain ⟨c4, v⟩ := v
    refine a_getAN fl_G_58 d_G_choose_42 (beq_iff_eq.mpr c4) ?_
    refine a_aload_n d_G_choose_45 rfl ?_
    obtain ⟨c5, v⟩ := v
    refine a_getIN fl_G_105 d_G_choose_46 (beq_iff_eq.mpr c5) ?_
    obtain ⟨c6, c7, c8, v⟩ := v
    refine a_aald d_G_choose_49 c6 c7 c8 ?_
    refine a_astore (L' := [some (vr 20), some (vr x1), some (vr x2), some (vr x3), some (vr (xR h (xR h x3 6) (xI h x2 2).toNat))]) d_G_choose_50 (Nat.le_of_ble_eq_true rfl) rfl rfl ?_
    refine a_aload d_G_choose_52 rfl ?_
    obtain ⟨vt, vf⟩ := v
    refine a_ifnull (tgt := 90) d_G_choose_54 (by decide) (fun c => ?_) (fun c => ?_)
    · have v := vt (c); clear vt vf
      refine a_aload_n d_G_choose_90 rfl ?_
      obtain ⟨c9, v⟩ := v
      refine a_getRN fl_G_91 d_G_choose_91 (beq_iff_eq.mpr c9) ?_
      refine a_astore_n (L' := [some (vr 20), some (vr x1), some (vr x2), some (vr (xR h x3 2)), some (vr (xR h (xR h x3 6) (xI h x2 2).toNat))]) d_G_choose_94 (Nat.le_of_ble_eq_true rfl) rfl rfl ?_
      refine a_goto (tgt := 37) d_G_choose_95 (by decide) ?_
      exact Ev.weak v ⟨rfl, rfl, rfl, rfl, trivial⟩
    · have v := vf (c); clear vt vf
      refine a_aload d_G_choose_57 rfl ?_
      obtain ⟨c10, v⟩ := v
      refine a_getRN fl_G_68 d_G_choose_59 (beq_iff_eq.mpr c10) ?_
      obtain ⟨c14, v⟩ := v
      refine b_callV (as := []) (b := (xR h (xR h (xR h x3 6) (xI h x2 2).toNat) 3)) (st := []) (kd := 31) (kc1 := 0) (ks1 := 0) (kc2 := kc) (ks2 := ks) (d' := d) ml_G_81 rfl d_G_choose_62 rfl rfl (Nat.le_of_ble_eq_true rfl) (by decide) rfl (Nat.le_refl _) (by omega) (by omega) c14 ?_
      refine Ev.mono v ?_
      intro u h2 v
      obtain ⟨r1, rfl, v⟩ := ki_el v
      obtain ⟨hm2, v⟩ := v
      change Ev l D Y_G_choose _ _ _ 65 [some (vr 20), some (vr x1), some (vr x2), some (vr x3), some (vr (xR h (xR h x3 6) (xI h x2 2).toNat))] [vi r1] _ _
      obtain ⟨vt, vf⟩ := v
      refine a_if_eq (tgt := 90) d_G_choose_65 (by decide) (fun c => ?_) (fun c => ?_)
      · have v := vt (c); clear vt vf
        refine a_aload_n d_G_choose_90 rfl ?_
        obtain ⟨c11, v⟩ := v
        refine a_getRN fl_G_91 d_G_choose_91 (beq_iff_eq.mpr c11) ?_
        refine a_astore_n (L' := [some (vr 20), some (vr x1), some (vr x2), some (vr (xR h2 x3 2)), some (vr (xR h (xR h x3 6) (xI h x2 2).toNat))]) d_G_choose_94 (Nat.le_of_ble_eq_true rfl) rfl rfl ?_
        refine a_goto (tgt := 37) d_G_choose_95 (by decide) ?_
        exact Ev.weak v ⟨rfl, rfl, rfl, rfl, trivial⟩
      · have v := vf (c); clear vt vf
        refine a_aload d_G_choose_68 rfl ?_
        obtain ⟨c12, v⟩ := v
        refine a_getRN fl_G_68 d_G_choose_70 (beq_iff_eq.mpr c12) ?_
        refine a_gets (k := 4) d_G_choose_73 (by decide +kernel) sl_G_72 ?_
        obtain ⟨vt, vf⟩ := v
        refine a_acmp_ne (tgt := 87) d_G_choose_76 (by decide) (fun c => ?_) (fun c => ?_)
        · have v := vt (c); clear vt vf
          refine a_bipush d_G_choose_87 ⟨by decide, by decide⟩ (by decide) ?_
          exact a_iret d_G_choose_89 rfl v
        · have v := vf (c); clear vt vf
          refine a_aload d_G_choose_79 rfl ?_
          obtain ⟨c13, v⟩ := v
          refine a_getIN fl_G_65 d_G_choose_81 (beq_iff_eq.mpr c13) ?_
          refine a_goto (tgt := 89) d_G_choose_84 (by decide) ?_
          exact a_iret d_G_choose_89 rfl v
theorem d_G_begin_0 : decode Y_G_begin.2.1 0 = .ok (.iconst 0, 1) := by decide +kernel
theorem d_G_begin_1 : decode Y_G_begin.2.1 1 = .ok (.istore_n 3, 1) := by decide +kernel
theorem d_G_begin_2 : decode Y_G_begin.2.1 2 = .ok (.iload_n 3, 1) := by decide +kernel
theorem d_G_begin_3 : decode Y_G_begin.2.1 3 = .ok (.aload_n 0, 1) := by decide +kernel
theorem d_G_begin_4 : decode Y_G_begin.2.1 4 = .ok (.getfield 55, 3) := by decide +kernel
theorem d_G_begin_7 : decode Y_G_begin.2.1 7 = .ok (.if_icmp .ge 94, 3) := by decide +kernel
theorem d_G_begin_10 : decode Y_G_begin.2.1 10 = .ok (.aload_n 0, 1) := by decide +kernel
theorem d_G_begin_11 : decode Y_G_begin.2.1 11 = .ok (.getfield 11, 3) := by decide +kernel
theorem d_G_begin_14 : decode Y_G_begin.2.1 14 = .ok (.iload_n 3, 1) := by decide +kernel
theorem d_G_begin_15 : decode Y_G_begin.2.1 15 = .ok (.aaload, 1) := by decide +kernel
theorem d_G_begin_16 : decode Y_G_begin.2.1 16 = .ok (.astore 4, 2) := by decide +kernel
theorem d_G_begin_18 : decode Y_G_begin.2.1 18 = .ok (.aload 4, 2) := by decide +kernel
theorem d_G_begin_20 : decode Y_G_begin.2.1 20 = .ok (.aload_n 2, 1) := by decide +kernel
theorem d_G_begin_21 : decode Y_G_begin.2.1 21 = .ok (.if_acmp .eq 35, 3) := by decide +kernel
theorem d_G_begin_24 : decode Y_G_begin.2.1 24 = .ok (.aload_n 2, 1) := by decide +kernel
theorem d_G_begin_25 : decode Y_G_begin.2.1 25 = .ok (.invokevirtual 77, 3) := by decide +kernel
theorem d_G_begin_28 : decode Y_G_begin.2.1 28 = .ok (.ifCond .eq 67, 3) := by decide +kernel
theorem d_G_begin_31 : decode Y_G_begin.2.1 31 = .ok (.aload_n 2, 1) := by decide +kernel
theorem d_G_begin_32 : decode Y_G_begin.2.1 32 = .ok (.aload 4, 2) := by decide +kernel
theorem d_G_begin_34 : decode Y_G_begin.2.1 34 = .ok (.invokevirtual 84, 3) := by decide +kernel
theorem d_G_begin_37 : decode Y_G_begin.2.1 37 = .ok (.ifCond .eq 58, 3) := by decide +kernel
theorem d_G_begin_40 : decode Y_G_begin.2.1 40 = .ok (.aload 4, 2) := by decide +kernel
theorem d_G_begin_42 : decode Y_G_begin.2.1 42 = .ok (.invokevirtual 77, 3) := by decide +kernel
theorem d_G_begin_45 : decode Y_G_begin.2.1 45 = .ok (.ifCond .ne 11, 3) := by decide +kernel
theorem d_G_begin_48 : decode Y_G_begin.2.1 48 = .ok (.aload 4, 2) := by decide +kernel
theorem d_G_begin_50 : decode Y_G_begin.2.1 50 = .ok (.invokevirtual 108, 3) := by decide +kernel
theorem d_G_begin_53 : decode Y_G_begin.2.1 53 = .ok (.ifCond .eq 42, 3) := by decide +kernel
theorem d_G_begin_56 : decode Y_G_begin.2.1 56 = .ok (.aload_n 0, 1) := by decide +kernel
theorem d_G_begin_57 : decode Y_G_begin.2.1 57 = .ok (.getfield 25, 3) := by decide +kernel
theorem d_G_begin_60 : decode Y_G_begin.2.1 60 = .ok (.iload_n 3, 1) := by decide +kernel
theorem d_G_begin_61 : decode Y_G_begin.2.1 61 = .ok (.baload, 1) := by decide +kernel
theorem d_G_begin_62 : decode Y_G_begin.2.1 62 = .ok (.ifCond .ne 15, 3) := by decide +kernel
theorem d_G_begin_65 : decode Y_G_begin.2.1 65 = .ok (.aload_n 0, 1) := by decide +kernel
theorem d_G_begin_66 : decode Y_G_begin.2.1 66 = .ok (.getfield 25, 3) := by decide +kernel
theorem d_G_begin_69 : decode Y_G_begin.2.1 69 = .ok (.iload_n 3, 1) := by decide +kernel
theorem d_G_begin_70 : decode Y_G_begin.2.1 70 = .ok (.iconst 1, 1) := by decide +kernel
theorem d_G_begin_71 : decode Y_G_begin.2.1 71 = .ok (.bastore, 1) := by decide +kernel
theorem d_G_begin_72 : decode Y_G_begin.2.1 72 = .ok (.aload_n 0, 1) := by decide +kernel
theorem d_G_begin_73 : decode Y_G_begin.2.1 73 = .ok (.iconst 1, 1) := by decide +kernel
theorem d_G_begin_74 : decode Y_G_begin.2.1 74 = .ok (.putfield 111, 3) := by decide +kernel
theorem d_G_begin_77 : decode Y_G_begin.2.1 77 = .ok (.aload 4, 2) := by decide +kernel
theorem d_G_begin_79 : decode Y_G_begin.2.1 79 = .ok (.getfield 115, 3) := by decide +kernel
theorem d_G_begin_82 : decode Y_G_begin.2.1 82 = .ok (.ifnull 13, 3) := by decide +kernel
theorem d_G_begin_85 : decode Y_G_begin.2.1 85 = .ok (.aload_n 1, 1) := by decide +kernel
theorem d_G_begin_86 : decode Y_G_begin.2.1 86 = .ok (.aload_n 0, 1) := by decide +kernel
theorem d_G_begin_87 : decode Y_G_begin.2.1 87 = .ok (.aload 4, 2) := by decide +kernel
theorem d_G_begin_89 : decode Y_G_begin.2.1 89 = .ok (.getfield 115, 3) := by decide +kernel
theorem d_G_begin_92 : decode Y_G_begin.2.1 92 = .ok (.invokevirtual 118, 3) := by decide +kernel
theorem d_G_begin_95 : decode Y_G_begin.2.1 95 = .ok (.iinc 3 1, 3) := by decide +kernel
theorem d_G_begin_98 : decode Y_G_begin.2.1 98 = .ok (.goto (-96), 3) := by decide +kernel
theorem d_G_begin_101 : decode Y_G_begin.2.1 101 = .ok (.return_, 1) := by decide +kernel
theorem g_G_begin_0 {l : Launch} {D : DD} {d kc ks : Nat} {h : Hp} {Φ : Option AV → Hp → Prop} {x1 : Nat} {x2 : Nat} (hM : GS h) (v : Ev l D Y_G_begin (d + 1) kc ks 2 [some (vr 20), some (vr x1), some (vr x2), some (vi (0 : Int)), none] [] h Φ) : Ev l D Y_G_begin (d + 1) kc ks 0 [some (vr 20), some (vr x1), some (vr x2), none, none] [] h Φ := by
  refine a_iconst d_G_begin_0 ⟨by decide, by decide⟩ ?_
  refine a_istore_n (L' := [some (vr 20), some (vr x1), some (vr x2), some (vi (0 : Int)), none]) d_G_begin_1 (Nat.le_of_ble_eq_true rfl) rfl rfl ?_
  exact v
theorem g_G_begin_2 {l : Launch} {D : DD} {d kc ks : Nat} {h : Hp} {Φ : Option AV → Hp → Prop} {x1 : Nat} {x2 : Nat} {x3 : Int} (hM : GS h) (v : (x3 ≥ xI h 20 1 → (Φ none h)) ∧ (x3 < xI h 20 1 → (0 ≤ x3 ∧ x3 < 16 ∧ ((xR h 21 (x3).toNat = x2 → (Ev l D Y_G_begin (d + 1) kc ks 56 [some (vr 20), some (vr x1), some (vr x2), some (vi x3), some (vr (xR h 21 (x3).toNat))] [] h Φ)) ∧ (¬ xR h 21 (x3).toNat = x2 → (xK h x2 = 3 ∧ Ev l D Y_Type_isClass d 0 0 0 [some (vr x2)] [] h (ki (fun r1 h1 => GS h1 ∧ ((r1 = 0 → (Ev l D Y_G_begin (d + 1) kc ks 2 [some (vr 20), some (vr x1), some (vr x2), some (vi (wr (x3 + (1 : Int)))), none] [] h1 Φ)) ∧ (¬ r1 = 0 → (xK h1 x2 = 3 ∧ Ev l D Y_Type_isUnder d 0 0 0 [some (vr x2), some (vr (xR h 21 (x3).toNat))] [] h1 (ki (fun r2 h2 => GS h2 ∧ ((r2 = 0 → (Ev l D Y_G_begin (d + 1) kc ks 2 [some (vr 20), some (vr x1), some (vr x2), some (vi (wr (x3 + (1 : Int)))), none] [] h2 Φ)) ∧ (¬ r2 = 0 → (xK h2 (xR h 21 (x3).toNat) = 3 ∧ Ev l D Y_Type_isClass d 0 0 0 [some (vr (xR h 21 (x3).toNat))] [] h2 (ki (fun r3 h3 => GS h3 ∧ ((¬ r3 = 0 → (Ev l D Y_G_begin (d + 1) kc ks 56 [some (vr 20), some (vr x1), some (vr x2), some (vi x3), some (vr (xR h 21 (x3).toNat))] [] h3 Φ)) ∧ (r3 = 0 → (xK h3 (xR h 21 (x3).toNat) = 3 ∧ Ev l D Y_Type_hasPlain d 0 0 0 [some (vr (xR h 21 (x3).toNat)), none, none, none, none, none] [] h3 (ki (fun r4 h4 => GS h4 ∧ ((r4 = 0 → (Ev l D Y_G_begin (d + 1) kc ks 2 [some (vr 20), some (vr x1), some (vr x2), some (vi (wr (x3 + (1 : Int)))), none] [] h4 Φ)) ∧ (¬ r4 = 0 → (Ev l D Y_G_begin (d + 1) kc ks 56 [some (vr 20), some (vr x1), some (vr x2), some (vi x3), some (vr (xR h 21 (x3).toNat))] [] h4 Φ)))))))))))))))))))))))))) : Ev l D Y_G_begin (d + 1) kc ks 2 [some (vr 20), some (vr x1), some (vr x2), some (vi x3), none] [] h Φ := by
  refine a_iload_n d_G_begin_2 rfl ?_
  refine a_aload_n d_G_begin_3 rfl ?_
  refine a_getI fl_G_55 d_G_begin_4 (beq_iff_eq.mpr (KNG_20 hM)) ?_
  obtain ⟨vt, vf⟩ := v
  refine a_icmp_ge (tgt := 101) d_G_begin_7 (by decide) (fun c => ?_) (fun c => ?_)
  · have v := vt (c); clear vt vf
    exact a_vret d_G_begin_101 rfl v
  · have v := vf (Int.not_le.mp c); clear vt vf
    refine a_aload_n d_G_begin_10 rfl ?_
    refine a_getAe fl_G_11 d_G_begin_11 (beq_iff_eq.mpr (KNG_20 hM)) (KRG_20_0 hM) ?_
    refine a_iload_n d_G_begin_14 rfl ?_
    obtain ⟨c2, c3, v⟩ := v
    refine a_aald d_G_begin_15 ⟨by rw [KNG_21 hM]; decide, by rw [KNG_21 hM]; decide⟩ c2 (lt_len (NNG_21 hM) c3) ?_
    refine a_astore (L' := [some (vr 20), some (vr x1), some (vr x2), some (vi x3), some (vr (xR h 21 (x3).toNat))]) d_G_begin_16 (Nat.le_of_ble_eq_true rfl) rfl rfl ?_
    refine a_aload d_G_begin_18 rfl ?_
    refine a_aload_n d_G_begin_20 rfl ?_
    obtain ⟨vt, vf⟩ := v
    refine a_acmp_eq (tgt := 56) d_G_begin_21 (by decide) (fun c => ?_) (fun c => ?_)
    · have v := vt (c); clear vt vf
      exact v
    · have v := vf (c); clear vt vf
      refine a_aload_n d_G_begin_24 rfl ?_
      obtain ⟨c7, v⟩ := v
      refine b_callV (as := []) (b := x2) (st := []) (kd := 3) (kc1 := 0) (ks1 := 0) (kc2 := kc) (ks2 := ks) (d' := d) ml_G_77 rfl d_G_begin_25 rfl rfl (Nat.le_of_ble_eq_true rfl) (by decide) rfl (Nat.le_refl _) (by omega) (by omega) c7 ?_
      refine Ev.mono v ?_
      intro u h1 v
      obtain ⟨r1, rfl, v⟩ := ki_el v
      obtain ⟨hm1, v⟩ := v
      change Ev l D Y_G_begin _ _ _ 28 [some (vr 20), some (vr x1), some (vr x2), some (vi x3), some (vr (xR h 21 (x3).toNat))] [vi r1] _ _
      obtain ⟨vt, vf⟩ := v
      refine a_if_eq (tgt := 95) d_G_begin_28 (by decide) (fun c => ?_) (fun c => ?_)
      · have v := vt (c); clear vt vf
        refine a_iinc (L' := [some (vr 20), some (vr x1), some (vr x2), some (vi (wr (x3 + (1 : Int)))), some (vr (xR h 21 (x3).toNat))]) d_G_begin_95 rfl (Nat.le_of_ble_eq_true rfl) rfl rfl ?_
        refine a_goto (tgt := 2) d_G_begin_98 (by decide) ?_
        exact Ev.weak v ⟨rfl, rfl, rfl, rfl, trivial⟩
      · have v := vf (c); clear vt vf
        refine a_aload_n d_G_begin_31 rfl ?_
        refine a_aload d_G_begin_32 rfl ?_
        obtain ⟨c6, v⟩ := v
        refine b_callV (as := [vr (xR h 21 (x3).toNat)]) (b := x2) (st := []) (kd := 3) (kc1 := 0) (ks1 := 0) (kc2 := kc) (ks2 := ks) (d' := d) ml_G_84 rfl d_G_begin_34 rfl rfl (Nat.le_of_ble_eq_true rfl) (by decide) rfl (Nat.le_refl _) (by omega) (by omega) c6 ?_
        refine Ev.mono v ?_
        intro u h2 v
        obtain ⟨r2, rfl, v⟩ := ki_el v
        obtain ⟨hm2, v⟩ := v
        change Ev l D Y_G_begin _ _ _ 37 [some (vr 20), some (vr x1), some (vr x2), some (vi x3), some (vr (xR h 21 (x3).toNat))] [vi r2] _ _
        obtain ⟨vt, vf⟩ := v
        refine a_if_eq (tgt := 95) d_G_begin_37 (by decide) (fun c => ?_) (fun c => ?_)
        · have v := vt (c); clear vt vf
          refine a_iinc (L' := [some (vr 20), some (vr x1), some (vr x2), some (vi (wr (x3 + (1 : Int)))), some (vr (xR h 21 (x3).toNat))]) d_G_begin_95 rfl (Nat.le_of_ble_eq_true rfl) rfl rfl ?_
          refine a_goto (tgt := 2) d_G_begin_98 (by decide) ?_
          exact Ev.weak v ⟨rfl, rfl, rfl, rfl, trivial⟩
        · have v := vf (c); clear vt vf
          refine a_aload d_G_begin_40 rfl ?_
          obtain ⟨c5, v⟩ := v
          refine b_callV (as := []) (b := (xR h 21 (x3).toNat)) (st := []) (kd := 3) (kc1 := 0) (ks1 := 0) (kc2 := kc) (ks2 := ks) (d' := d) ml_G_77 rfl d_G_begin_42 rfl rfl (Nat.le_of_ble_eq_true rfl) (by decide) rfl (Nat.le_refl _) (by omega) (by omega) c5 ?_
          refine Ev.mono v ?_
          intro u h3 v
          obtain ⟨r3, rfl, v⟩ := ki_el v
          obtain ⟨hm3, v⟩ := v
          change Ev l D Y_G_begin _ _ _ 45 [some (vr 20), some (vr x1), some (vr x2), some (vi x3), some (vr (xR h 21 (x3).toNat))] [vi r3] _ _
          obtain ⟨vt, vf⟩ := v
          refine a_if_ne (tgt := 56) d_G_begin_45 (by decide) (fun c => ?_) (fun c => ?_)
          · have v := vt (c); clear vt vf
            exact v
          · have v := vf (Classical.not_not.mp c); clear vt vf
            refine a_aload d_G_begin_48 rfl ?_
            obtain ⟨c4, v⟩ := v
            refine b_callV (as := []) (b := (xR h 21 (x3).toNat)) (st := []) (kd := 3) (kc1 := 0) (ks1 := 0) (kc2 := kc) (ks2 := ks) (d' := d) ml_G_108 rfl d_G_begin_50 rfl rfl (Nat.le_of_ble_eq_true rfl) (by decide) rfl (Nat.le_refl _) (by omega) (by omega) c4 ?_
            refine Ev.mono v ?_
            intro u h4 v
            obtain ⟨r4, rfl, v⟩ := ki_el v
            obtain ⟨hm4, v⟩ := v
            change Ev l D Y_G_begin _ _ _ 53 [some (vr 20), some (vr x1), some (vr x2), some (vi x3), some (vr (xR h 21 (x3).toNat))] [vi r4] _ _
            obtain ⟨vt, vf⟩ := v
            refine a_if_eq (tgt := 95) d_G_begin_53 (by decide) (fun c => ?_) (fun c => ?_)
            · have v := vt (c); clear vt vf
              refine a_iinc (L' := [some (vr 20), some (vr x1), some (vr x2), some (vi (wr (x3 + (1 : Int)))), some (vr (xR h 21 (x3).toNat))]) d_G_begin_95 rfl (Nat.le_of_ble_eq_true rfl) rfl rfl ?_
              refine a_goto (tgt := 2) d_G_begin_98 (by decide) ?_
              exact Ev.weak v ⟨rfl, rfl, rfl, rfl, trivial⟩
            · have v := vf (c); clear vt vf
              exact v
theorem g_G_begin_56 {l : Launch} {D : DD} {d kc ks : Nat} {h : Hp} {Φ : Option AV → Hp → Prop} {x1 : Nat} {x2 : Nat} {x3 : Int} {x4 : Nat} (hM : GS h) (v : 0 ≤ x3 ∧ x3 < 16 ∧ ((¬ xI h 24 (x3).toNat = 0 → (Ev l D Y_G_begin (d + 1) kc ks 77 [some (vr 20), some (vr x1), some (vr x2), some (vi x3), some (vr x4)] [] h Φ)) ∧ (xI h 24 (x3).toNat = 0 → (0 ≤ x3 ∧ x3 < 16 ∧ (∀ h1 : Hp, h1 = sI h 24 (x3).toNat (1 : Int) → (∀ h2 : Hp, h2 = sI h1 20 8 (1 : Int) → (Ev l D Y_G_begin (d + 1) kc ks 77 [some (vr 20), some (vr x1), some (vr x2), some (vi x3), some (vr x4)] [] h2 Φ))))))) : Ev l D Y_G_begin (d + 1) kc ks 56 [some (vr 20), some (vr x1), some (vr x2), some (vi x3), some (vr x4)] [] h Φ := by
  refine a_aload_n d_G_begin_56 rfl ?_
  refine a_getAe fl_G_25 d_G_begin_57 (beq_iff_eq.mpr (KNG_20 hM)) (KRG_20_10 hM) ?_
  refine a_iload_n d_G_begin_60 rfl ?_
  obtain ⟨c2, c3, v⟩ := v
  refine a_zald d_G_begin_61 (KNG_24 hM) c2 (lt_len (NNG_24 hM) c3) ?_
  obtain ⟨vt, vf⟩ := v
  refine a_if_ne (tgt := 77) d_G_begin_62 (by decide) (fun c => ?_) (fun c => ?_)
  · have v := vt (c); clear vt vf
    exact v
  · have v := vf (Classical.not_not.mp c); clear vt vf
    refine a_aload_n d_G_begin_65 rfl ?_
    refine a_getAe fl_G_25 d_G_begin_66 (beq_iff_eq.mpr (KNG_20 hM)) (KRG_20_10 hM) ?_
    refine a_iload_n d_G_begin_69 rfl ?_
    refine a_iconst d_G_begin_70 ⟨by decide, by decide⟩ ?_
    obtain ⟨c6, c7, v⟩ := v
    have v := v _ rfl
    refine a_zast d_G_begin_71 (KNG_24 hM) (by decide) c6 (lt_len (NNG_24 hM) c7) (Or.inr rfl) ?_
    refine a_aload_n d_G_begin_72 rfl ?_
    refine a_iconst d_G_begin_73 ⟨by decide, by decide⟩ ?_
    have v := v _ rfl
    refine a_putZ fl_G_111 d_G_begin_74 (beq_iff_eq.mpr (KNG_20 hM)) (by decide) (Or.inr rfl) ?_
    exact v
theorem g_G_begin_77 {l : Launch} {D : DD} {d kc ks : Nat} {h : Hp} {Φ : Option AV → Hp → Prop} {x1 : Nat} {x2 : Nat} {x3 : Int} {x4 : Nat} (hM : GS h) (v : xK h x4 = 3 ∧ ((xR h x4 7 = 0 → (Ev l D Y_G_begin (d + 1) kc ks 2 [some (vr 20), some (vr x1), some (vr x2), some (vi (wr (x3 + (1 : Int)))), none] [] h Φ)) ∧ (¬ xR h x4 7 = 0 → (xK h x4 = 3 ∧ (opk (xK h x1) = true ∧ Ev l D (mt_Op_call_Y (xK h x1)) d 0 0 0 (enL (mt_Op_call_Y (xK h x1)).2.2.1 [vr x1, vr 20, vr (xR h x4 7)]) [] h (kv (fun h1 => GS h1 ∧ (Ev l D Y_G_begin (d + 1) kc ks 2 [some (vr 20), some (vr x1), some (vr x2), some (vi (wr (x3 + (1 : Int)))), none] [] h1 Φ)))))))) : Ev l D Y_G_begin (d + 1) kc ks 77 [some (vr 20), some (vr x1), some (vr x2), some (vi x3), some (vr x4)] [] h Φ := by
  refine a_aload d_G_begin_77 rfl ?_
  obtain ⟨c1, v⟩ := v
  refine a_getRN fl_G_115 d_G_begin_79 (beq_iff_eq.mpr c1) ?_
  obtain ⟨vt, vf⟩ := v
  refine a_ifnull (tgt := 95) d_G_begin_82 (by decide) (fun c => ?_) (fun c => ?_)
  · have v := vt (c); clear vt vf
    refine a_iinc (L' := [some (vr 20), some (vr x1), some (vr x2), some (vi (wr (x3 + (1 : Int)))), some (vr x4)]) d_G_begin_95 rfl (Nat.le_of_ble_eq_true rfl) rfl rfl ?_
    refine a_goto (tgt := 2) d_G_begin_98 (by decide) ?_
    exact Ev.weak v ⟨rfl, rfl, rfl, rfl, trivial⟩
  · have v := vf (c); clear vt vf
    refine a_aload_n d_G_begin_85 rfl ?_
    refine a_aload_n d_G_begin_86 rfl ?_
    refine a_aload d_G_begin_87 rfl ?_
    obtain ⟨c2, v⟩ := v
    refine a_getRN fl_G_115 d_G_begin_89 (beq_iff_eq.mpr c2) ?_
    obtain ⟨c3, v⟩ := v
    refine b_callU (as := [vr 20, vr (xR h x4 7)]) (b := x1) (st := []) (kc1 := 0) (ks1 := 0) (kc2 := kc) (ks2 := ks) (d' := d) ml_G_118 mt_Op_call rfl d_G_begin_92 rfl rfl (fun kd hq => by rcases opk_cases hq with rfl | rfl | rfl | rfl | rfl | rfl | rfl <;> exact Nat.le_of_ble_eq_true rfl) (Nat.le_refl _) (by omega) (by omega) c3 ?_
    refine Ev.mono v ?_
    intro u h1 v
    obtain ⟨rfl, v⟩ := kv_el v
    obtain ⟨hm1, v⟩ := v
    change Ev l D Y_G_begin _ _ _ 95 [some (vr 20), some (vr x1), some (vr x2), some (vi x3), some (vr x4)] [] _ _
    refine a_iinc (L' := [some (vr 20), some (vr x1), some (vr x2), some (vi (wr (x3 + (1 : Int)))), some (vr x4)]) d_G_begin_95 rfl (Nat.le_of_ble_eq_true rfl) rfl rfl ?_
    refine a_goto (tgt := 2) d_G_begin_98 (by decide) ?_
    exact Ev.weak v ⟨rfl, rfl, rfl, rfl, trivial⟩
theorem d_G_change_0 : decode Y_G_change.2.1 0 = .ok (.aload_n 0, 1) := by decide +kernel
theorem d_G_change_1 : decode Y_G_change.2.1 1 = .ok (.iconst 0, 1) := by decide +kernel
theorem d_G_change_2 : decode Y_G_change.2.1 2 = .ok (.putfield 124, 3) := by decide +kernel
theorem d_G_change_5 : decode Y_G_change.2.1 5 = .ok (.return_, 1) := by decide +kernel
theorem g_G_change_0 {l : Launch} {D : DD} {d kc ks : Nat} {h : Hp} {Φ : Option AV → Hp → Prop} (hM : GS h) (v : (∀ h1 : Hp, h1 = sI h 20 7 (0 : Int) → (Φ none h1))) : Ev l D Y_G_change d kc ks 0 [some (vr 20)] [] h Φ := by
  refine a_aload_n d_G_change_0 rfl ?_
  refine a_iconst d_G_change_1 ⟨by decide, by decide⟩ ?_
  have v := v _ rfl
  refine a_putZ fl_G_124 d_G_change_2 (beq_iff_eq.mpr (KNG_20 hM)) (by decide) (Or.inl rfl) ?_
  exact a_vret d_G_change_5 rfl v
theorem d_G_isType_0 : decode Y_G_isType.2.1 0 = .ok (.iload_n 1, 1) := by decide +kernel
theorem d_G_isType_1 : decode Y_G_isType.2.1 1 = .ok (.iconst 0, 1) := by decide +kernel
theorem d_G_isType_2 : decode Y_G_isType.2.1 2 = .ok (.aload_n 0, 1) := by decide +kernel
theorem d_G_isType_3 : decode Y_G_isType.2.1 3 = .ok (.getfield 55, 3) := by decide +kernel
theorem d_G_isType_6 : decode Y_G_isType.2.1 6 = .ok (.iconst 1, 1) := by decide +kernel
theorem d_G_isType_7 : decode Y_G_isType.2.1 7 = .ok (.isub, 1) := by decide +kernel
theorem d_G_isType_8 : decode Y_G_isType.2.1 8 = .ok (.invokestatic 165, 3) := by decide +kernel
theorem d_G_isType_11 : decode Y_G_isType.2.1 11 = .ok (.ireturn, 1) := by decide +kernel
theorem g_G_isType_0 {l : Launch} {D : DD} {d kc ks : Nat} {h : Hp} {Φ : Option AV → Hp → Prop} {x1 : Int} (hM : GS h) (v : Ev l D Y_G_within d 0 0 0 [some (vi x1), some (vi (0 : Int)), some (vi (wr ((xI h 20 1) - (1 : Int))))] [] h (ki (fun r1 h1 => GS h1 ∧ ((r1 = 0 ∨ r1 = 1) ∧ Φ (some (vi r1)) h1)))) : Ev l D Y_G_isType (d + 1) kc ks 0 [some (vr 20), some (vi x1)] [] h Φ := by
  refine a_iload_n d_G_isType_0 rfl ?_
  refine a_iconst d_G_isType_1 ⟨by decide, by decide⟩ ?_
  refine a_aload_n d_G_isType_2 rfl ?_
  refine a_getI fl_G_55 d_G_isType_3 (beq_iff_eq.mpr (KNG_20 hM)) ?_
  refine a_iconst d_G_isType_6 ⟨by decide, by decide⟩ ?_
  refine a_isub d_G_isType_7 ?_
  refine b_callS (as := [vi x1, vi (0 : Int), vi (wr ((xI h 20 1) - (1 : Int)))]) (st := []) (kc1 := 0) (ks1 := 0) (kc2 := kc) (ks2 := ks) (d' := d) ml_G_165 rfl d_G_isType_8 rfl rfl (Nat.le_of_ble_eq_true rfl) rfl (Nat.le_refl _) (by omega) (by omega) ?_
  refine Ev.mono v ?_
  intro u h1 v
  obtain ⟨r1, rfl, v⟩ := ki_el v
  obtain ⟨hm1, v⟩ := v
  change Ev l D Y_G_isType _ _ _ 11 [some (vr 20), some (vi x1)] [vi r1] _ _
  exact a_zret d_G_isType_11 rfl v.1 v.2
theorem d_G_isMember_0 : decode Y_G_isMember.2.1 0 = .ok (.iload_n 1, 1) := by decide +kernel
theorem d_G_isMember_1 : decode Y_G_isMember.2.1 1 = .ok (.iconst 0, 1) := by decide +kernel
theorem d_G_isMember_2 : decode Y_G_isMember.2.1 2 = .ok (.aload_n 0, 1) := by decide +kernel
theorem d_G_isMember_3 : decode Y_G_isMember.2.1 3 = .ok (.getfield 133, 3) := by decide +kernel
theorem d_G_isMember_6 : decode Y_G_isMember.2.1 6 = .ok (.iconst 1, 1) := by decide +kernel
theorem d_G_isMember_7 : decode Y_G_isMember.2.1 7 = .ok (.isub, 1) := by decide +kernel
theorem d_G_isMember_8 : decode Y_G_isMember.2.1 8 = .ok (.invokestatic 165, 3) := by decide +kernel
theorem d_G_isMember_11 : decode Y_G_isMember.2.1 11 = .ok (.ireturn, 1) := by decide +kernel
theorem g_G_isMember_0 {l : Launch} {D : DD} {d kc ks : Nat} {h : Hp} {Φ : Option AV → Hp → Prop} {x1 : Int} (hM : GS h) (v : Ev l D Y_G_within d 0 0 0 [some (vi x1), some (vi (0 : Int)), some (vi (wr ((xI h 20 3) - (1 : Int))))] [] h (ki (fun r1 h1 => GS h1 ∧ ((r1 = 0 ∨ r1 = 1) ∧ Φ (some (vi r1)) h1)))) : Ev l D Y_G_isMember (d + 1) kc ks 0 [some (vr 20), some (vi x1)] [] h Φ := by
  refine a_iload_n d_G_isMember_0 rfl ?_
  refine a_iconst d_G_isMember_1 ⟨by decide, by decide⟩ ?_
  refine a_aload_n d_G_isMember_2 rfl ?_
  refine a_getI fl_G_133 d_G_isMember_3 (beq_iff_eq.mpr (KNG_20 hM)) ?_
  refine a_iconst d_G_isMember_6 ⟨by decide, by decide⟩ ?_
  refine a_isub d_G_isMember_7 ?_
  refine b_callS (as := [vi x1, vi (0 : Int), vi (wr ((xI h 20 3) - (1 : Int)))]) (st := []) (kc1 := 0) (ks1 := 0) (kc2 := kc) (ks2 := ks) (d' := d) ml_G_165 rfl d_G_isMember_8 rfl rfl (Nat.le_of_ble_eq_true rfl) rfl (Nat.le_refl _) (by omega) (by omega) ?_
  refine Ev.mono v ?_
  intro u h1 v
  obtain ⟨r1, rfl, v⟩ := ki_el v
  obtain ⟨hm1, v⟩ := v
  change Ev l D Y_G_isMember _ _ _ 11 [some (vr 20), some (vi x1)] [vi r1] _ _
  exact a_zret d_G_isMember_11 rfl v.1 v.2
theorem d_G_type_0 : decode Y_G_type.2.1 0 = .ok (.iload_n 2, 1) := by decide +kernel
theorem d_G_type_1 : decode Y_G_type.2.1 1 = .ok (.iconst (-1), 1) := by decide +kernel
theorem d_G_type_2 : decode Y_G_type.2.1 2 = .ok (.if_icmp .eq 14, 3) := by decide +kernel
theorem d_G_type_5 : decode Y_G_type.2.1 5 = .ok (.aload_n 0, 1) := by decide +kernel
theorem d_G_type_6 : decode Y_G_type.2.1 6 = .ok (.iload_n 2, 1) := by decide +kernel
theorem d_G_type_7 : decode Y_G_type.2.1 7 = .ok (.invokevirtual 169, 3) := by decide +kernel
theorem d_G_type_10 : decode Y_G_type.2.1 10 = .ok (.ifCond .ne 6, 3) := by decide +kernel
theorem d_G_type_13 : decode Y_G_type.2.1 13 = .ok (.bipush (-101), 2) := by decide +kernel
theorem d_G_type_15 : decode Y_G_type.2.1 15 = .ok (.ireturn, 1) := by decide +kernel
theorem d_G_type_16 : decode Y_G_type.2.1 16 = .ok (.iload_n 1, 1) := by decide +kernel
theorem d_G_type_17 : decode Y_G_type.2.1 17 = .ok (.iconst 0, 1) := by decide +kernel
theorem d_G_type_18 : decode Y_G_type.2.1 18 = .ok (.iconst 2, 1) := by decide +kernel
theorem d_G_type_19 : decode Y_G_type.2.1 19 = .ok (.invokestatic 165, 3) := by decide +kernel
theorem d_G_type_22 : decode Y_G_type.2.1 22 = .ok (.ifCond .eq 25, 3) := by decide +kernel
theorem d_G_type_25 : decode Y_G_type.2.1 25 = .ok (.iload_n 2, 1) := by decide +kernel
theorem d_G_type_26 : decode Y_G_type.2.1 26 = .ok (.iconst (-1), 1) := by decide +kernel
theorem d_G_type_27 : decode Y_G_type.2.1 27 = .ok (.if_icmp .eq 23, 3) := by decide +kernel
theorem d_G_type_30 : decode Y_G_type.2.1 30 = .ok (.iload_n 1, 1) := by decide +kernel
theorem d_G_type_31 : decode Y_G_type.2.1 31 = .ok (.iconst 2, 1) := by decide +kernel
theorem d_G_type_32 : decode Y_G_type.2.1 32 = .ok (.if_icmp .eq 15, 3) := by decide +kernel
theorem d_G_type_35 : decode Y_G_type.2.1 35 = .ok (.aload_n 0, 1) := by decide +kernel
theorem d_G_type_36 : decode Y_G_type.2.1 36 = .ok (.getfield 11, 3) := by decide +kernel
theorem d_G_type_39 : decode Y_G_type.2.1 39 = .ok (.iload_n 2, 1) := by decide +kernel
theorem d_G_type_40 : decode Y_G_type.2.1 40 = .ok (.aaload, 1) := by decide +kernel
theorem d_G_type_41 : decode Y_G_type.2.1 41 = .ok (.invokevirtual 77, 3) := by decide +kernel
theorem d_G_type_44 : decode Y_G_type.2.1 44 = .ok (.ifCond .ne 6, 3) := by decide +kernel
theorem d_G_type_47 : decode Y_G_type.2.1 47 = .ok (.bipush (-102), 2) := by decide +kernel
theorem d_G_type_49 : decode Y_G_type.2.1 49 = .ok (.ireturn, 1) := by decide +kernel
theorem d_G_type_50 : decode Y_G_type.2.1 50 = .ok (.aload_n 0, 1) := by decide +kernel
theorem d_G_type_51 : decode Y_G_type.2.1 51 = .ok (.getfield 55, 3) := by decide +kernel
theorem d_G_type_54 : decode Y_G_type.2.1 54 = .ok (.bipush 16, 2) := by decide +kernel
theorem d_G_type_56 : decode Y_G_type.2.1 56 = .ok (.if_icmp .ne 6, 3) := by decide +kernel
theorem d_G_type_59 : decode Y_G_type.2.1 59 = .ok (.bipush (-104), 2) := by decide +kernel
theorem d_G_type_61 : decode Y_G_type.2.1 61 = .ok (.ireturn, 1) := by decide +kernel
theorem d_G_type_62 : decode Y_G_type.2.1 62 = .ok (.aload_n 0, 1) := by decide +kernel
theorem d_G_type_63 : decode Y_G_type.2.1 63 = .ok (.getfield 11, 3) := by decide +kernel
theorem d_G_type_66 : decode Y_G_type.2.1 66 = .ok (.aload_n 0, 1) := by decide +kernel
theorem d_G_type_67 : decode Y_G_type.2.1 67 = .ok (.getfield 55, 3) := by decide +kernel
theorem d_G_type_70 : decode Y_G_type.2.1 70 = .ok (.new 9, 3) := by decide +kernel
theorem d_G_type_73 : decode Y_G_type.2.1 73 = .ok (.dup, 1) := by decide +kernel
theorem d_G_type_74 : decode Y_G_type.2.1 74 = .ok (.aload_n 0, 1) := by decide +kernel
theorem d_G_type_75 : decode Y_G_type.2.1 75 = .ok (.getfield 55, 3) := by decide +kernel
theorem d_G_type_78 : decode Y_G_type.2.1 78 = .ok (.invokestatic 173, 3) := by decide +kernel
theorem d_G_type_81 : decode Y_G_type.2.1 81 = .ok (.iload_n 1, 1) := by decide +kernel
theorem d_G_type_82 : decode Y_G_type.2.1 82 = .ok (.aaload, 1) := by decide +kernel
theorem d_G_type_83 : decode Y_G_type.2.1 83 = .ok (.iload_n 2, 1) := by decide +kernel
theorem d_G_type_84 : decode Y_G_type.2.1 84 = .ok (.iconst (-1), 1) := by decide +kernel
theorem d_G_type_85 : decode Y_G_type.2.1 85 = .ok (.if_icmp .ne 7, 3) := by decide +kernel
theorem d_G_type_88 : decode Y_G_type.2.1 88 = .ok (.aconst_null, 1) := by decide +kernel
theorem d_G_type_89 : decode Y_G_type.2.1 89 = .ok (.goto 9, 3) := by decide +kernel
theorem d_G_type_92 : decode Y_G_type.2.1 92 = .ok (.aload_n 0, 1) := by decide +kernel
theorem d_G_type_93 : decode Y_G_type.2.1 93 = .ok (.getfield 11, 3) := by decide +kernel
theorem d_G_type_96 : decode Y_G_type.2.1 96 = .ok (.iload_n 2, 1) := by decide +kernel
theorem d_G_type_97 : decode Y_G_type.2.1 97 = .ok (.aaload, 1) := by decide +kernel
theorem d_G_type_98 : decode Y_G_type.2.1 98 = .ok (.invokespecial 179, 3) := by decide +kernel
theorem d_G_type_101 : decode Y_G_type.2.1 101 = .ok (.aastore, 1) := by decide +kernel
theorem d_G_type_102 : decode Y_G_type.2.1 102 = .ok (.aload_n 0, 1) := by decide +kernel
theorem d_G_type_103 : decode Y_G_type.2.1 103 = .ok (.invokevirtual 182, 3) := by decide +kernel
theorem d_G_type_106 : decode Y_G_type.2.1 106 = .ok (.aload_n 0, 1) := by decide +kernel
theorem d_G_type_107 : decode Y_G_type.2.1 107 = .ok (.dup, 1) := by decide +kernel
theorem d_G_type_108 : decode Y_G_type.2.1 108 = .ok (.getfield 55, 3) := by decide +kernel
theorem d_G_type_111 : decode Y_G_type.2.1 111 = .ok (.dup_x1, 1) := by decide +kernel
theorem d_G_type_112 : decode Y_G_type.2.1 112 = .ok (.iconst 1, 1) := by decide +kernel
theorem d_G_type_113 : decode Y_G_type.2.1 113 = .ok (.iadd, 1) := by decide +kernel
theorem d_G_type_114 : decode Y_G_type.2.1 114 = .ok (.putfield 55, 3) := by decide +kernel
theorem d_G_type_117 : decode Y_G_type.2.1 117 = .ok (.ireturn, 1) := by decide +kernel
theorem g_G_type_0 {l : Launch} {D : DD} {d kc ks : Nat} {h : Hp} {Φ : Option AV → Hp → Prop} {x1 : Int} {x2 : Int} (hM : GS h) (v : (x2 = (-1 : Int) → (Ev l D Y_G_within d 0 0 0 [some (vi x1), some (vi (0 : Int)), some (vi (2 : Int))] [] h (ki (fun r1 h1 => GS h1 ∧ ((r1 = 0 → (Φ (some (vi (-102 : Int))) h1)) ∧ (¬ r1 = 0 → ((x2 = (-1 : Int) → (Ev l D Y_G_type (d + 1) (kc + 5) (ks + 40) 50 [some (vr 20), some (vi x1), some (vi x2)] [] h1 Φ)) ∧ (¬ x2 = (-1 : Int) → ((x1 = (2 : Int) → (Φ (some (vi (-102 : Int))) h1)) ∧ (¬ x1 = (2 : Int) → (0 ≤ x2 ∧ x2 < 16 ∧ (xK h1 (xR h1 21 (x2).toNat) = 3 ∧ Ev l D Y_Type_isClass d 0 0 0 [some (vr (xR h1 21 (x2).toNat))] [] h1 (ki (fun r2 h2 => GS h2 ∧ ((¬ r2 = 0 → (Ev l D Y_G_type (d + 1) (kc + 5) (ks + 40) 50 [some (vr 20), some (vi x1), some (vi x2)] [] h2 Φ)) ∧ (r2 = 0 → (Φ (some (vi (-102 : Int))) h2))))))))))))))))) ∧ (¬ x2 = (-1 : Int) → (Ev l D Y_G_isType d 0 0 0 [some (vr 20), some (vi x2)] [] h (ki (fun r3 h3 => GS h3 ∧ ((¬ r3 = 0 → (Ev l D Y_G_within d 0 0 0 [some (vi x1), some (vi (0 : Int)), some (vi (2 : Int))] [] h3 (ki (fun r4 h4 => GS h4 ∧ ((r4 = 0 → (Φ (some (vi (-102 : Int))) h4)) ∧ (¬ r4 = 0 → ((x2 = (-1 : Int) → (Ev l D Y_G_type (d + 1) (kc + 5) (ks + 40) 50 [some (vr 20), some (vi x1), some (vi x2)] [] h4 Φ)) ∧ (¬ x2 = (-1 : Int) → ((x1 = (2 : Int) → (Φ (some (vi (-102 : Int))) h4)) ∧ (¬ x1 = (2 : Int) → (0 ≤ x2 ∧ x2 < 16 ∧ (xK h4 (xR h4 21 (x2).toNat) = 3 ∧ Ev l D Y_Type_isClass d 0 0 0 [some (vr (xR h4 21 (x2).toNat))] [] h4 (ki (fun r5 h5 => GS h5 ∧ ((¬ r5 = 0 → (Ev l D Y_G_type (d + 1) (kc + 5) (ks + 40) 50 [some (vr 20), some (vi x1), some (vi x2)] [] h5 Φ)) ∧ (r5 = 0 → (Φ (some (vi (-102 : Int))) h5))))))))))))))))) ∧ (r3 = 0 → (Φ (some (vi (-101 : Int))) h3)))))))) : Ev l D Y_G_type (d + 1) (kc + 5) (ks + 40) 0 [some (vr 20), some (vi x1), some (vi x2)] [] h Φ := by
  refine a_iload_n d_G_type_0 rfl ?_
  refine a_iconst d_G_type_1 ⟨by decide, by decide⟩ ?_
  obtain ⟨vt, vf⟩ := v
  refine a_icmp_eq (tgt := 16) d_G_type_2 (by decide) (fun c => ?_) (fun c => ?_)
  · have v := vt (c); clear vt vf
    refine a_iload_n d_G_type_16 rfl ?_
    refine a_iconst d_G_type_17 ⟨by decide, by decide⟩ ?_
    refine a_iconst d_G_type_18 ⟨by decide, by decide⟩ ?_
    refine b_callS (as := [vi x1, vi (0 : Int), vi (2 : Int)]) (st := []) (kc1 := 0) (ks1 := 0) (kc2 := kc + 5) (ks2 := ks + 40) (d' := d) ml_G_165 rfl d_G_type_19 rfl rfl (Nat.le_of_ble_eq_true rfl) rfl (Nat.le_refl _) (by omega) (by omega) ?_
    refine Ev.mono v ?_
    intro u h1 v
    obtain ⟨r1, rfl, v⟩ := ki_el v
    obtain ⟨hm1, v⟩ := v
    change Ev l D Y_G_type _ _ _ 22 [some (vr 20), some (vi x1), some (vi x2)] [vi r1] _ _
    obtain ⟨vt, vf⟩ := v
    refine a_if_eq (tgt := 47) d_G_type_22 (by decide) (fun c => ?_) (fun c => ?_)
    · have v := vt (c); clear vt vf
      refine a_bipush d_G_type_47 ⟨by decide, by decide⟩ (by decide) ?_
      exact a_iret d_G_type_49 rfl v
    · have v := vf (c); clear vt vf
      refine a_iload_n d_G_type_25 rfl ?_
      refine a_iconst d_G_type_26 ⟨by decide, by decide⟩ ?_
      obtain ⟨vt, vf⟩ := v
      refine a_icmp_eq (tgt := 50) d_G_type_27 (by decide) (fun c => ?_) (fun c => ?_)
      · have v := vt (c); clear vt vf
        exact v
      · have v := vf (c); clear vt vf
        refine a_iload_n d_G_type_30 rfl ?_
        refine a_iconst d_G_type_31 ⟨by decide, by decide⟩ ?_
        obtain ⟨vt, vf⟩ := v
        refine a_icmp_eq (tgt := 47) d_G_type_32 (by decide) (fun c => ?_) (fun c => ?_)
        · have v := vt (c); clear vt vf
          refine a_bipush d_G_type_47 ⟨by decide, by decide⟩ (by decide) ?_
          exact a_iret d_G_type_49 rfl v
        · have v := vf (c); clear vt vf
          refine a_aload_n d_G_type_35 rfl ?_
          refine a_getAe fl_G_11 d_G_type_36 (beq_iff_eq.mpr (KNG_20 hm1)) (KRG_20_0 hm1) ?_
          refine a_iload_n d_G_type_39 rfl ?_
          obtain ⟨c2, c3, v⟩ := v
          refine a_aald d_G_type_40 ⟨by rw [KNG_21 hm1]; decide, by rw [KNG_21 hm1]; decide⟩ c2 (lt_len (NNG_21 hm1) c3) ?_
          obtain ⟨c4, v⟩ := v
          refine b_callV (as := []) (b := (xR h1 21 (x2).toNat)) (st := []) (kd := 3) (kc1 := 0) (ks1 := 0) (kc2 := kc + 5) (ks2 := ks + 40) (d' := d) ml_G_77 rfl d_G_type_41 rfl rfl (Nat.le_of_ble_eq_true rfl) (by decide) rfl (Nat.le_refl _) (by omega) (by omega) c4 ?_
          refine Ev.mono v ?_
          intro u h2 v
          obtain ⟨r2, rfl, v⟩ := ki_el v
          obtain ⟨hm2, v⟩ := v
          change Ev l D Y_G_type _ _ _ 44 [some (vr 20), some (vi x1), some (vi x2)] [vi r2] _ _
          obtain ⟨vt, vf⟩ := v
          refine a_if_ne (tgt := 50) d_G_type_44 (by decide) (fun c => ?_) (fun c => ?_)
          · have v := vt (c); clear vt vf
            exact v
          · have v := vf (Classical.not_not.mp c); clear vt vf
            refine a_bipush d_G_type_47 ⟨by decide, by decide⟩ (by decide) ?_
            exact a_iret d_G_type_49 rfl v
  · have v := vf (c); clear vt vf
    refine a_aload_n d_G_type_5 rfl ?_
    refine a_iload_n d_G_type_6 rfl ?_
    refine b_callV (as := [vi x2]) (b := 20) (st := []) (kd := 1) (kc1 := 0) (ks1 := 0) (kc2 := kc + 5) (ks2 := ks + 40) (d' := d) ml_G_169 rfl d_G_type_7 rfl rfl (Nat.le_of_ble_eq_true rfl) (by decide) rfl (Nat.le_refl _) (by omega) (by omega) (KNG_20 hM) ?_
    refine Ev.mono v ?_
    intro u h3 v
    obtain ⟨r3, rfl, v⟩ := ki_el v
    obtain ⟨hm3, v⟩ := v
    change Ev l D Y_G_type _ _ _ 10 [some (vr 20), some (vi x1), some (vi x2)] [vi r3] _ _
    obtain ⟨vt, vf⟩ := v
    refine a_if_ne (tgt := 16) d_G_type_10 (by decide) (fun c => ?_) (fun c => ?_)
    · have v := vt (c); clear vt vf
      refine a_iload_n d_G_type_16 rfl ?_
      refine a_iconst d_G_type_17 ⟨by decide, by decide⟩ ?_
      refine a_iconst d_G_type_18 ⟨by decide, by decide⟩ ?_
      refine b_callS (as := [vi x1, vi (0 : Int), vi (2 : Int)]) (st := []) (kc1 := 0) (ks1 := 0) (kc2 := kc + 5) (ks2 := ks + 40) (d' := d) ml_G_165 rfl d_G_type_19 rfl rfl (Nat.le_of_ble_eq_true rfl) rfl (Nat.le_refl _) (by omega) (by omega) ?_
      refine Ev.mono v ?_
      intro u h4 v
      obtain ⟨r4, rfl, v⟩ := ki_el v
      obtain ⟨hm4, v⟩ := v
      change Ev l D Y_G_type _ _ _ 22 [some (vr 20), some (vi x1), some (vi x2)] [vi r4] _ _
      obtain ⟨vt, vf⟩ := v
      refine a_if_eq (tgt := 47) d_G_type_22 (by decide) (fun c => ?_) (fun c => ?_)
      · have v := vt (c); clear vt vf
        refine a_bipush d_G_type_47 ⟨by decide, by decide⟩ (by decide) ?_
        exact a_iret d_G_type_49 rfl v
      · have v := vf (c); clear vt vf
        refine a_iload_n d_G_type_25 rfl ?_
        refine a_iconst d_G_type_26 ⟨by decide, by decide⟩ ?_
        obtain ⟨vt, vf⟩ := v
        refine a_icmp_eq (tgt := 50) d_G_type_27 (by decide) (fun c => ?_) (fun c => ?_)
        · have v := vt (c); clear vt vf
          exact v
        · have v := vf (c); clear vt vf
          refine a_iload_n d_G_type_30 rfl ?_
          refine a_iconst d_G_type_31 ⟨by decide, by decide⟩ ?_
          obtain ⟨vt, vf⟩ := v
          refine a_icmp_eq (tgt := 47) d_G_type_32 (by decide) (fun c => ?_) (fun c => ?_)
          · have v := vt (c); clear vt vf
            refine a_bipush d_G_type_47 ⟨by decide, by decide⟩ (by decide) ?_
            exact a_iret d_G_type_49 rfl v
          · have v := vf (c); clear vt vf
            refine a_aload_n d_G_type_35 rfl ?_
            refine a_getAe fl_G_11 d_G_type_36 (beq_iff_eq.mpr (KNG_20 hm4)) (KRG_20_0 hm4) ?_
            refine a_iload_n d_G_type_39 rfl ?_
            obtain ⟨c6, c7, v⟩ := v
            refine a_aald d_G_type_40 ⟨by rw [KNG_21 hm4]; decide, by rw [KNG_21 hm4]; decide⟩ c6 (lt_len (NNG_21 hm4) c7) ?_
            obtain ⟨c8, v⟩ := v
            refine b_callV (as := []) (b := (xR h4 21 (x2).toNat)) (st := []) (kd := 3) (kc1 := 0) (ks1 := 0) (kc2 := kc + 5) (ks2 := ks + 40) (d' := d) ml_G_77 rfl d_G_type_41 rfl rfl (Nat.le_of_ble_eq_true rfl) (by decide) rfl (Nat.le_refl _) (by omega) (by omega) c8 ?_
            refine Ev.mono v ?_
            intro u h5 v
            obtain ⟨r5, rfl, v⟩ := ki_el v
            obtain ⟨hm5, v⟩ := v
            change Ev l D Y_G_type _ _ _ 44 [some (vr 20), some (vi x1), some (vi x2)] [vi r5] _ _
            obtain ⟨vt, vf⟩ := v
            refine a_if_ne (tgt := 50) d_G_type_44 (by decide) (fun c => ?_) (fun c => ?_)
            · have v := vt (c); clear vt vf
              exact v
            · have v := vf (Classical.not_not.mp c); clear vt vf
              refine a_bipush d_G_type_47 ⟨by decide, by decide⟩ (by decide) ?_
              exact a_iret d_G_type_49 rfl v
    · have v := vf (Classical.not_not.mp c); clear vt vf
      refine a_bipush d_G_type_13 ⟨by decide, by decide⟩ (by decide) ?_
      exact a_iret d_G_type_15 rfl v
theorem g_G_type_50 {l : Launch} {D : DD} {d kc ks : Nat} {h : Hp} {Φ : Option AV → Hp → Prop} {x1 : Int} {x2 : Int} (hM : GS h) (v : (¬ xI h 20 1 = (16 : Int) → (∃ a1 : Nat, 16 ≤ a1 ∧ xK h a1 = 0 ∧ (∀ h1 : Hp, h1 = nw h a1 3 0 → (GS h1 ∧ (Ev l D Y_Kind_values d 1 3 0 [] [] h1 (kr (fun r1 h2 => GS h2 ∧ ((22 ≤ xK h2 r1 ∧ xK h2 r1 ≤ 27) ∧ 0 ≤ x1 ∧ x1 < xN h2 r1 ∧ ((¬ x2 = (-1 : Int) → (0 ≤ x2 ∧ x2 < 16 ∧ (Ev l D Y_G_type (d + 1) (kc + 3) (ks + 29) 98 [some (vr 20), some (vi x1), some (vi x2)] [vr (xR h2 21 (x2).toNat), vr (xR h2 r1 (x1).toNat), vi (xI h1 20 1), vr a1, vr a1, vi (xI h 20 1), vr 21] h2 Φ))) ∧ (x2 = (-1 : Int) → (Ev l D Y_G_type (d + 1) (kc + 3) (ks + 29) 98 [some (vr 20), some (vi x1), some (vi x2)] [vr 0, vr (xR h2 r1 (x1).toNat), vi (xI h1 20 1), vr a1, vr a1, vi (xI h 20 1), vr 21] h2 Φ))))))))))) ∧ (xI h 20 1 = (16 : Int) → (Φ (some (vi (-104 : Int))) h))) : Ev l D Y_G_type (d + 1) (kc + 5) (ks + 40) 50 [some (vr 20), some (vi x1), some (vi x2)] [] h Φ := by
  refine a_aload_n d_G_type_50 rfl ?_
  refine a_getI fl_G_55 d_G_type_51 (beq_iff_eq.mpr (KNG_20 hM)) ?_
  refine a_bipush d_G_type_54 ⟨by decide, by decide⟩ (by decide) ?_
  obtain ⟨vt, vf⟩ := v
  refine a_icmp_ne (tgt := 62) d_G_type_56 (by decide) (fun c => ?_) (fun c => ?_)
  · have v := vt (c); clear vt vf
    refine a_aload_n d_G_type_62 rfl ?_
    refine a_getAe fl_G_11 d_G_type_63 (beq_iff_eq.mpr (KNG_20 hM)) (KRG_20_0 hM) ?_
    refine a_aload_n d_G_type_66 rfl ?_
    refine a_getI fl_G_55 d_G_type_67 (beq_iff_eq.mpr (KNG_20 hM)) ?_
    obtain ⟨a1, c1, c2, v⟩ := v
    have v := v _ rfl
    refine a_new (kd := 3) (kc' := kc + 4) (ks' := ks + 32) a1 d_G_type_70 (by decide) cl_G_9 (by omega) (nfle (n := 8) rfl (by omega)) c1 c2 ?_
    obtain ⟨hm1, v⟩ := v
    refine a_dup d_G_type_73 rfl ?_
    refine a_aload_n d_G_type_74 rfl ?_
    refine a_getI fl_G_55 d_G_type_75 (beq_iff_eq.mpr (KNG_20 hm1)) ?_
    refine b_callS (as := []) (st := [vi (xI (nw h a1 3 0) 20 1), vr a1, vr a1, vi (xI h 20 1), vr 21]) (kc1 := 1) (ks1 := 3) (kc2 := kc + 3) (ks2 := ks + 29) (d' := d) ml_G_173 rfl d_G_type_78 rfl rfl (Nat.le_of_ble_eq_true rfl) rfl (Nat.le_refl _) (by omega) (by omega) ?_
    refine Ev.mono v ?_
    intro u h2 v
    obtain ⟨r1, rfl, v⟩ := kr_el v
    obtain ⟨hm2, v⟩ := v
    change Ev l D Y_G_type _ _ _ 81 [some (vr 20), some (vi x1), some (vi x2)] [vr r1, vi (xI (nw h a1 3 0) 20 1), vr a1, vr a1, vi (xI h 20 1), vr 21] _ _
    refine a_iload_n d_G_type_81 rfl ?_
    obtain ⟨c3, c4, c5, v⟩ := v
    refine a_aald d_G_type_82 c3 c4 c5 ?_
    refine a_iload_n d_G_type_83 rfl ?_
    refine a_iconst d_G_type_84 ⟨by decide, by decide⟩ ?_
    obtain ⟨vt, vf⟩ := v
    refine a_icmp_ne (tgt := 92) d_G_type_85 (by decide) (fun c => ?_) (fun c => ?_)
    · have v := vt (c); clear vt vf
      refine a_aload_n d_G_type_92 rfl ?_
      refine a_getAe fl_G_11 d_G_type_93 (beq_iff_eq.mpr (KNG_20 hm2)) (KRG_20_0 hm2) ?_
      refine a_iload_n d_G_type_96 rfl ?_
      obtain ⟨c7, c8, v⟩ := v
      refine a_aald d_G_type_97 ⟨by rw [KNG_21 hm2]; decide, by rw [KNG_21 hm2]; decide⟩ c7 (lt_len (NNG_21 hm2) c8) ?_
      exact v
    · have v := vf (Classical.not_not.mp c); clear vt vf
      refine a_null d_G_type_88 ?_
      refine a_goto (tgt := 98) d_G_type_89 (by decide) ?_
      exact v
  · have v := vf (Classical.not_not.mp c); clear vt vf
    refine a_bipush d_G_type_59 ⟨by decide, by decide⟩ (by decide) ?_
    exact a_iret d_G_type_61 rfl v
theorem g_G_type_98 {l : Launch} {D : DD} {d kc ks : Nat} {h : Hp} {Φ : Option AV → Hp → Prop} {x1 : Int} {x2 : Int} {y0 : Nat} {y1 : Nat} {y2 : Int} {y3 : Nat} {y4 : Nat} {y5 : Int} (hM : GS h) (v : ¬ xK h y3 = 0 ∧ Ev l D Y_Type_init d 3 29 0 [some (vr y3), some (vi y2), some (vr y1), some (vr y0)] [] h (kv (fun h1 => GS h1 ∧ (sto (xK h1 21) (xK h1 y4) = true ∧ 0 ≤ y5 ∧ y5 < 16 ∧ (∀ h2 : Hp, h2 = sR h1 21 (y5).toNat y4 → (GS h2 ∧ (Ev l D Y_G_change d 0 0 0 [some (vr 20)] [] h2 (kv (fun h3 => GS h3 ∧ (∀ h4 : Hp, h4 = sI h3 20 1 (wr ((xI h3 20 1) + (1 : Int))) → (Φ (some (vi (xI h3 20 1))) h4))))))))))) : Ev l D Y_G_type (d + 1) (kc + 3) (ks + 29) 98 [some (vr 20), some (vi x1), some (vi x2)] [vr y0, vr y1, vi y2, vr y3, vr y4, vi y5, vr 21] h Φ := by
  obtain ⟨c8, v⟩ := v
  refine b_callI (as := [vi y2, vr y1, vr y0]) (b := y3) (st := [vr y4, vi y5, vr 21]) (kc1 := 3) (ks1 := 29) (kc2 := kc) (ks2 := ks) (d' := d) ml_G_179 rfl d_G_type_98 rfl rfl (Nat.le_of_ble_eq_true rfl) rfl (Nat.le_refl _) (by omega) (by omega) c8 ?_
  refine Ev.mono v ?_
  intro u h1 v
  obtain ⟨rfl, v⟩ := kv_el v
  obtain ⟨hm1, v⟩ := v
  change Ev l D Y_G_type _ _ _ 101 [some (vr 20), some (vi x1), some (vi x2)] [vr y4, vi y5, vr 21] _ _
  obtain ⟨c1, c3, c4, v⟩ := v
  have v := v _ rfl
  refine a_aast d_G_type_101 c1 (by decide) c3 (lt_len (NNG_21 hm1) c4) ?_
  obtain ⟨hm2, v⟩ := v
  refine a_aload_n d_G_type_102 rfl ?_
  refine b_callV (as := []) (b := 20) (st := []) (kd := 1) (kc1 := 0) (ks1 := 0) (kc2 := kc) (ks2 := ks) (d' := d) ml_G_182 rfl d_G_type_103 rfl rfl (Nat.le_of_ble_eq_true rfl) (by decide) rfl (Nat.le_refl _) (by omega) (by omega) (KNG_20 hm2) ?_
  refine Ev.mono v ?_
  intro u h3 v
  obtain ⟨rfl, v⟩ := kv_el v
  obtain ⟨hm3, v⟩ := v
  change Ev l D Y_G_type _ _ _ 106 [some (vr 20), some (vi x1), some (vi x2)] [] _ _
  refine a_aload_n d_G_type_106 rfl ?_
  refine a_dup d_G_type_107 rfl ?_
  refine a_getI fl_G_55 d_G_type_108 (beq_iff_eq.mpr (KNG_20 hm3)) ?_
  refine a_dup_x1 d_G_type_111 rfl rfl ?_
  refine a_iconst d_G_type_112 ⟨by decide, by decide⟩ ?_
  refine a_iadd d_G_type_113 ?_
  have v := v _ rfl
  refine a_putI fl_G_55 d_G_type_114 (beq_iff_eq.mpr (KNG_20 hm3)) (by decide) ?_
  exact a_iret d_G_type_117 rfl v
theorem d_G_face_0 : decode Y_G_face.2.1 0 = .ok (.aload_n 0, 1) := by decide +kernel
theorem d_G_face_1 : decode Y_G_face.2.1 1 = .ok (.iload_n 1, 1) := by decide +kernel
theorem d_G_face_2 : decode Y_G_face.2.1 2 = .ok (.invokevirtual 169, 3) := by decide +kernel
theorem d_G_face_5 : decode Y_G_face.2.1 5 = .ok (.ifCond .eq 11, 3) := by decide +kernel
theorem d_G_face_8 : decode Y_G_face.2.1 8 = .ok (.aload_n 0, 1) := by decide +kernel
theorem d_G_face_9 : decode Y_G_face.2.1 9 = .ok (.iload_n 2, 1) := by decide +kernel
theorem d_G_face_10 : decode Y_G_face.2.1 10 = .ok (.invokevirtual 169, 3) := by decide +kernel
theorem d_G_face_13 : decode Y_G_face.2.1 13 = .ok (.ifCond .ne 6, 3) := by decide +kernel
theorem d_G_face_16 : decode Y_G_face.2.1 16 = .ok (.bipush (-101), 2) := by decide +kernel
theorem d_G_face_18 : decode Y_G_face.2.1 18 = .ok (.ireturn, 1) := by decide +kernel
theorem d_G_face_19 : decode Y_G_face.2.1 19 = .ok (.aload_n 0, 1) := by decide +kernel
theorem d_G_face_20 : decode Y_G_face.2.1 20 = .ok (.getfield 11, 3) := by decide +kernel
theorem d_G_face_23 : decode Y_G_face.2.1 23 = .ok (.iload_n 1, 1) := by decide +kernel
theorem d_G_face_24 : decode Y_G_face.2.1 24 = .ok (.aaload, 1) := by decide +kernel
theorem d_G_face_25 : decode Y_G_face.2.1 25 = .ok (.astore_n 3, 1) := by decide +kernel
theorem d_G_face_26 : decode Y_G_face.2.1 26 = .ok (.aload_n 0, 1) := by decide +kernel
theorem d_G_face_27 : decode Y_G_face.2.1 27 = .ok (.getfield 11, 3) := by decide +kernel
theorem d_G_face_30 : decode Y_G_face.2.1 30 = .ok (.iload_n 2, 1) := by decide +kernel
theorem d_G_face_31 : decode Y_G_face.2.1 31 = .ok (.aaload, 1) := by decide +kernel
theorem d_G_face_32 : decode Y_G_face.2.1 32 = .ok (.astore 4, 2) := by decide +kernel
theorem d_G_face_34 : decode Y_G_face.2.1 34 = .ok (.aload 4, 2) := by decide +kernel
theorem d_G_face_36 : decode Y_G_face.2.1 36 = .ok (.invokevirtual 77, 3) := by decide +kernel
theorem d_G_face_39 : decode Y_G_face.2.1 39 = .ok (.ifCond .ne 8, 3) := by decide +kernel
theorem d_G_face_42 : decode Y_G_face.2.1 42 = .ok (.iload_n 2, 1) := by decide +kernel
theorem d_G_face_43 : decode Y_G_face.2.1 43 = .ok (.iload_n 1, 1) := by decide +kernel
theorem d_G_face_44 : decode Y_G_face.2.1 44 = .ok (.if_icmp .lt 6, 3) := by decide +kernel
theorem d_G_face_47 : decode Y_G_face.2.1 47 = .ok (.bipush (-102), 2) := by decide +kernel
theorem d_G_face_49 : decode Y_G_face.2.1 49 = .ok (.ireturn, 1) := by decide +kernel
theorem d_G_face_50 : decode Y_G_face.2.1 50 = .ok (.aload_n 3, 1) := by decide +kernel
theorem d_G_face_51 : decode Y_G_face.2.1 51 = .ok (.aload 4, 2) := by decide +kernel
theorem d_G_face_53 : decode Y_G_face.2.1 53 = .ok (.invokevirtual 185, 3) := by decide +kernel
theorem d_G_face_56 : decode Y_G_face.2.1 56 = .ok (.ifCond .eq 6, 3) := by decide +kernel
theorem d_G_face_59 : decode Y_G_face.2.1 59 = .ok (.bipush (-103), 2) := by decide +kernel
theorem d_G_face_61 : decode Y_G_face.2.1 61 = .ok (.ireturn, 1) := by decide +kernel
theorem d_G_face_62 : decode Y_G_face.2.1 62 = .ok (.aload_n 3, 1) := by decide +kernel
theorem d_G_face_63 : decode Y_G_face.2.1 63 = .ok (.getfield 188, 3) := by decide +kernel
theorem d_G_face_66 : decode Y_G_face.2.1 66 = .ok (.iconst 3, 1) := by decide +kernel
theorem d_G_face_67 : decode Y_G_face.2.1 67 = .ok (.if_icmp .ne 6, 3) := by decide +kernel
theorem d_G_face_70 : decode Y_G_face.2.1 70 = .ok (.bipush (-104), 2) := by decide +kernel
theorem d_G_face_72 : decode Y_G_face.2.1 72 = .ok (.ireturn, 1) := by decide +kernel
theorem d_G_face_73 : decode Y_G_face.2.1 73 = .ok (.aload_n 3, 1) := by decide +kernel
theorem d_G_face_74 : decode Y_G_face.2.1 74 = .ok (.getfield 191, 3) := by decide +kernel
theorem d_G_face_77 : decode Y_G_face.2.1 77 = .ok (.aload_n 3, 1) := by decide +kernel
theorem d_G_face_78 : decode Y_G_face.2.1 78 = .ok (.dup, 1) := by decide +kernel
theorem d_G_face_79 : decode Y_G_face.2.1 79 = .ok (.getfield 188, 3) := by decide +kernel
theorem d_G_face_82 : decode Y_G_face.2.1 82 = .ok (.dup_x1, 1) := by decide +kernel
theorem d_G_face_83 : decode Y_G_face.2.1 83 = .ok (.iconst 1, 1) := by decide +kernel
theorem d_G_face_84 : decode Y_G_face.2.1 84 = .ok (.iadd, 1) := by decide +kernel
theorem d_G_face_85 : decode Y_G_face.2.1 85 = .ok (.putfield 188, 3) := by decide +kernel
theorem d_G_face_88 : decode Y_G_face.2.1 88 = .ok (.aload 4, 2) := by decide +kernel
theorem d_G_face_90 : decode Y_G_face.2.1 90 = .ok (.aastore, 1) := by decide +kernel
theorem d_G_face_91 : decode Y_G_face.2.1 91 = .ok (.iconst 0, 1) := by decide +kernel
theorem d_G_face_92 : decode Y_G_face.2.1 92 = .ok (.istore 5, 2) := by decide +kernel
theorem d_G_face_94 : decode Y_G_face.2.1 94 = .ok (.iload 5, 2) := by decide +kernel
theorem d_G_face_96 : decode Y_G_face.2.1 96 = .ok (.aload_n 0, 1) := by decide +kernel
theorem d_G_face_97 : decode Y_G_face.2.1 97 = .ok (.getfield 55, 3) := by decide +kernel
theorem d_G_face_100 : decode Y_G_face.2.1 100 = .ok (.if_icmp .ge 35, 3) := by decide +kernel
theorem d_G_face_103 : decode Y_G_face.2.1 103 = .ok (.aload_n 0, 1) := by decide +kernel
theorem d_G_face_104 : decode Y_G_face.2.1 104 = .ok (.getfield 11, 3) := by decide +kernel
theorem d_G_face_107 : decode Y_G_face.2.1 107 = .ok (.iload 5, 2) := by decide +kernel
theorem d_G_face_109 : decode Y_G_face.2.1 109 = .ok (.aaload, 1) := by decide +kernel
theorem d_G_face_110 : decode Y_G_face.2.1 110 = .ok (.aload_n 3, 1) := by decide +kernel
theorem d_G_face_111 : decode Y_G_face.2.1 111 = .ok (.invokevirtual 84, 3) := by decide +kernel
theorem d_G_face_114 : decode Y_G_face.2.1 114 = .ok (.ifCond .eq 15, 3) := by decide +kernel
theorem d_G_face_117 : decode Y_G_face.2.1 117 = .ok (.aload_n 0, 1) := by decide +kernel
theorem d_G_face_118 : decode Y_G_face.2.1 118 = .ok (.getfield 11, 3) := by decide +kernel
theorem d_G_face_121 : decode Y_G_face.2.1 121 = .ok (.iload 5, 2) := by decide +kernel
theorem d_G_face_123 : decode Y_G_face.2.1 123 = .ok (.aaload, 1) := by decide +kernel
theorem d_G_face_124 : decode Y_G_face.2.1 124 = .ok (.aload 4, 2) := by decide +kernel
theorem d_G_face_126 : decode Y_G_face.2.1 126 = .ok (.invokevirtual 194, 3) := by decide +kernel
theorem d_G_face_129 : decode Y_G_face.2.1 129 = .ok (.iinc 5 1, 3) := by decide +kernel
theorem d_G_face_132 : decode Y_G_face.2.1 132 = .ok (.goto (-38), 3) := by decide +kernel
theorem d_G_face_135 : decode Y_G_face.2.1 135 = .ok (.aload_n 0, 1) := by decide +kernel
theorem d_G_face_136 : decode Y_G_face.2.1 136 = .ok (.invokevirtual 182, 3) := by decide +kernel
theorem d_G_face_139 : decode Y_G_face.2.1 139 = .ok (.aload_n 3, 1) := by decide +kernel
theorem d_G_face_140 : decode Y_G_face.2.1 140 = .ok (.getfield 188, 3) := by decide +kernel
theorem d_G_face_143 : decode Y_G_face.2.1 143 = .ok (.ireturn, 1) := by decide +kernel
theorem g_G_face_0 {l : Launch} {D : DD} {d kc ks : Nat} {h : Hp} {Φ : Option AV → Hp → Prop} {x1 : Int} {x2 : Int} (hM : GS h) (v : Ev l D Y_G_isType d 0 0 0 [some (vr 20), some (vi x1)] [] h (ki (fun r1 h1 => GS h1 ∧ ((r1 = 0 → (Φ (some (vi (-101 : Int))) h1)) ∧ (¬ r1 = 0 → (Ev l D Y_G_isType d 0 0 0 [some (vr 20), some (vi x2)] [] h1 (ki (fun r2 h2 => GS h2 ∧ ((¬ r2 = 0 → (0 ≤ x1 ∧ x1 < 16 ∧ (0 ≤ x2 ∧ x2 < 16 ∧ (xK h2 (xR h2 21 (x2).toNat) = 3 ∧ Ev l D Y_Type_isClass d 0 0 0 [some (vr (xR h2 21 (x2).toNat))] [] h2 (ki (fun r3 h3 => GS h3 ∧ ((¬ r3 = 0 → (Φ (some (vi (-102 : Int))) h3)) ∧ (r3 = 0 → ((x2 < x1 → (xK h3 (xR h2 21 (x1).toNat) = 3 ∧ Ev l D Y_Type_hasFace d 0 0 0 [some (vr (xR h2 21 (x1).toNat)), some (vr (xR h2 21 (x2).toNat)), none, none] [] h3 (ki (fun r4 h4 => GS h4 ∧ ((r4 = 0 → (xK h4 (xR h2 21 (x1).toNat) = 3 ∧ ((¬ xI h4 (xR h2 21 (x1).toNat) 4 = (3 : Int) → (xK h4 (xR h2 21 (x1).toNat) = 3 ∧ (xK h4 (xR h2 21 (x1).toNat) = 3 ∧ (xK h4 (xR h2 21 (x1).toNat) = 3 ∧ 16 ≤ xR h2 21 (x1).toNat ∧ (∀ h5 : Hp, h5 = sI h4 (xR h2 21 (x1).toNat) 4 (wr ((xI h4 (xR h2 21 (x1).toNat) 4) + (1 : Int))) → (sto (xK h5 (xR h4 (xR h2 21 (x1).toNat) 3)) (xK h5 (xR h2 21 (x2).toNat)) = true ∧ 16 ≤ xR h4 (xR h2 21 (x1).toNat) 3 ∧ 0 ≤ xI h4 (xR h2 21 (x1).toNat) 4 ∧ xI h4 (xR h2 21 (x1).toNat) 4 < xN h5 (xR h4 (xR h2 21 (x1).toNat) 3) ∧ (∀ h6 : Hp, h6 = sR h5 (xR h4 (xR h2 21 (x1).toNat) 3) (xI h4 (xR h2 21 (x1).toNat) 4).toNat (xR h2 21 (x2).toNat) → (GS h6 ∧ (Ev l D Y_G_face (d + 1) kc ks 94 [some (vr 20), some (vi x1), some (vi x2), some (vr (xR h2 21 (x1).toNat)), some (vr (xR h2 21 (x2).toNat)), some (vi (0 : Int))] [] h6 Φ))))))))) ∧ (xI h4 (xR h2 21 (x1).toNat) 4 = (3 : Int) → (Φ (some (vi (-104 : Int))) h4))))) ∧ (¬ r4 = 0 → (Φ (some (vi (-103 : Int))) h4))))))) ∧ (x2 ≥ x1 → (Φ (some (vi (-102 : Int))) h3))))))))))) ∧ (r2 = 0 → (Φ (some (vi (-101 : Int))) h2))))))))))) : Ev l D Y_G_face (d + 1) kc ks 0 [some (vr 20), some (vi x1), some (vi x2), none, none, none] [] h Φ := by
  refine a_aload_n d_G_face_0 rfl ?_
  refine a_iload_n d_G_face_1 rfl ?_
  refine b_callV (as := [vi x1]) (b := 20) (st := []) (kd := 1) (kc1 := 0) (ks1 := 0) (kc2 := kc) (ks2 := ks) (d' := d) ml_G_169 rfl d_G_face_2 rfl rfl (Nat.le_of_ble_eq_true rfl) (by decide) rfl (Nat.le_refl _) (by omega) (by omega) (KNG_20 hM) ?_
  refine Ev.mono v ?_
  intro u h1 v
  obtain ⟨r1, rfl, v⟩ := ki_el v
  obtain ⟨hm1, v⟩ := v
  change Ev l D Y_G_face _ _ _ 5 [some (vr 20), some (vi x1), some (vi x2), none, none, none] [vi r1] _ _
  obtain ⟨vt, vf⟩ := v
  refine a_if_eq (tgt := 16) d_G_face_5 (by decide) (fun c => ?_) (fun c => ?_)
  · have v := vt (c); clear vt vf
    refine a_bipush d_G_face_16 ⟨by decide, by decide⟩ (by decide) ?_
    exact a_iret d_G_face_18 rfl v
  · have v := vf (c); clear vt vf
    refine a_aload_n d_G_face_8 rfl ?_
    refine a_iload_n d_G_face_9 rfl ?_
    refine b_callV (as := [vi x2]) (b := 20) (st := []) (kd := 1) (kc1 := 0) (ks1 := 0) (kc2 := kc) (ks2 := ks) (d' := d) ml_G_169 rfl d_G_face_10 rfl rfl (Nat.le_of_ble_eq_true rfl) (by decide) rfl (Nat.le_refl _) (by omega) (by omega) (KNG_20 hm1) ?_
    refine Ev.mono v ?_
    intro u h2 v
    obtain ⟨r2, rfl, v⟩ := ki_el v
    obtain ⟨hm2, v⟩ := v
    change Ev l D Y_G_face _ _ _ 13 [some (vr 20), some (vi x1), some (vi x2), none, none, none] [vi r2] _ _
    obtain ⟨vt, vf⟩ := v
    refine a_if_ne (tgt := 19) d_G_face_13 (by decide) (fun c => ?_) (fun c => ?_)
    · have v := vt (c); clear vt vf
      refine a_aload_n d_G_face_19 rfl ?_
      refine a_getAe fl_G_11 d_G_face_20 (beq_iff_eq.mpr (KNG_20 hm2)) (KRG_20_0 hm2) ?_
      refine a_iload_n d_G_face_23 rfl ?_
      obtain ⟨c2, c3, v⟩ := v
      refine a_aald d_G_face_24 ⟨by rw [KNG_21 hm2]; decide, by rw [KNG_21 hm2]; decide⟩ c2 (lt_len (NNG_21 hm2) c3) ?_
      refine a_astore_n (L' := [some (vr 20), some (vi x1), some (vi x2), some (vr (xR h2 21 (x1).toNat)), none, none]) d_G_face_25 (Nat.le_of_ble_eq_true rfl) rfl rfl ?_
      refine a_aload_n d_G_face_26 rfl ?_
      refine a_getAe fl_G_11 d_G_face_27 (beq_iff_eq.mpr (KNG_20 hm2)) (KRG_20_0 hm2) ?_
      refine a_iload_n d_G_face_30 rfl ?_
      obtain ⟨c5, c6, v⟩ := v
      refine a_aald d_G_face_31 ⟨by rw [KNG_21 hm2]; decide, by rw [KNG_21 hm2]; decide⟩ c5 (lt_len (NNG_21 hm2) c6) ?_
      refine a_astore (L' := [some (vr 20), some (vi x1), some (vi x2), some (vr (xR h2 21 (x1).toNat)), some (vr (xR h2 21 (x2).toNat)), none]) d_G_face_32 (Nat.le_of_ble_eq_true rfl) rfl rfl ?_
      refine a_aload d_G_face_34 rfl ?_
      obtain ⟨c17, v⟩ := v
      refine b_callV (as := []) (b := (xR h2 21 (x2).toNat)) (st := []) (kd := 3) (kc1 := 0) (ks1 := 0) (kc2 := kc) (ks2 := ks) (d' := d) ml_G_77 rfl d_G_face_36 rfl rfl (Nat.le_of_ble_eq_true rfl) (by decide) rfl (Nat.le_refl _) (by omega) (by omega) c17 ?_
      refine Ev.mono v ?_
      intro u h3 v
      obtain ⟨r3, rfl, v⟩ := ki_el v
      obtain ⟨hm3, v⟩ := v
      change Ev l D Y_G_face _ _ _ 39 [some (vr 20), some (vi x1), some (vi x2), some (vr (xR h2 21 (x1).toNat)), some (vr (xR h2 21 (x2).toNat)), none] [vi r3] _ _
      obtain ⟨vt, vf⟩ := v
      refine a_if_ne (tgt := 47) d_G_face_39 (by decide) (fun c => ?_) (fun c => ?_)
      · have v := vt (c); clear vt vf
        refine a_bipush d_G_face_47 ⟨by decide, by decide⟩ (by decide) ?_
        exact a_iret d_G_face_49 rfl v
      · have v := vf (Classical.not_not.mp c); clear vt vf
        refine a_iload_n d_G_face_42 rfl ?_
        refine a_iload_n d_G_face_43 rfl ?_
        obtain ⟨vt, vf⟩ := v
        refine a_icmp_lt (tgt := 50) d_G_face_44 (by decide) (fun c => ?_) (fun c => ?_)
        · have v := vt (c); clear vt vf
          refine a_aload_n d_G_face_50 rfl ?_
          refine a_aload d_G_face_51 rfl ?_
          obtain ⟨c16, v⟩ := v
          refine b_callV (as := [vr (xR h2 21 (x2).toNat)]) (b := (xR h2 21 (x1).toNat)) (st := []) (kd := 3) (kc1 := 0) (ks1 := 0) (kc2 := kc) (ks2 := ks) (d' := d) ml_G_185 rfl d_G_face_53 rfl rfl (Nat.le_of_ble_eq_true rfl) (by decide) rfl (Nat.le_refl _) (by omega) (by omega) c16 ?_
          refine Ev.mono v ?_
          intro u h4 v
          obtain ⟨r4, rfl, v⟩ := ki_el v
          obtain ⟨hm4, v⟩ := v
          change Ev l D Y_G_face _ _ _ 56 [some (vr 20), some (vi x1), some (vi x2), some (vr (xR h2 21 (x1).toNat)), some (vr (xR h2 21 (x2).toNat)), none] [vi r4] _ _
          obtain ⟨vt, vf⟩ := v
          refine a_if_eq (tgt := 62) d_G_face_56 (by decide) (fun c => ?_) (fun c => ?_)
          · have v := vt (c); clear vt vf
            refine a_aload_n d_G_face_62 rfl ?_
            obtain ⟨c7, v⟩ := v
            refine a_getIN fl_G_188 d_G_face_63 (beq_iff_eq.mpr c7) ?_
            refine a_iconst d_G_face_66 ⟨by decide, by decide⟩ ?_
            obtain ⟨vt, vf⟩ := v
            refine a_icmp_ne (tgt := 73) d_G_face_67 (by decide) (fun c => ?_) (fun c => ?_)
            · have v := vt (c); clear vt vf
              refine a_aload_n d_G_face_73 rfl ?_
              obtain ⟨c8, v⟩ := v
              refine a_getAN fl_G_191 d_G_face_74 (beq_iff_eq.mpr c8) ?_
              refine a_aload_n d_G_face_77 rfl ?_
              refine a_dup d_G_face_78 rfl ?_
              obtain ⟨c9, v⟩ := v
              refine a_getIN fl_G_188 d_G_face_79 (beq_iff_eq.mpr c9) ?_
              refine a_dup_x1 d_G_face_82 rfl rfl ?_
              refine a_iconst d_G_face_83 ⟨by decide, by decide⟩ ?_
              refine a_iadd d_G_face_84 ?_
              obtain ⟨c10, c11, v⟩ := v
              have v := v _ rfl
              refine a_putIN fl_G_188 d_G_face_85 (beq_iff_eq.mpr c10) c11 ?_
              refine a_aload d_G_face_88 rfl ?_
              obtain ⟨c12, c13, c14, c15, v⟩ := v
              have v := v _ rfl
              refine a_aast d_G_face_90 c12 c13 c14 c15 ?_
              obtain ⟨hm5, v⟩ := v
              refine a_iconst d_G_face_91 ⟨by decide, by decide⟩ ?_
              refine a_istore (L' := [some (vr 20), some (vi x1), some (vi x2), some (vr (xR h2 21 (x1).toNat)), some (vr (xR h2 21 (x2).toNat)), some (vi (0 : Int))]) d_G_face_92 (Nat.le_of_ble_eq_true rfl) rfl rfl ?_
              exact v
            · have v := vf (Classical.not_not.mp c); clear vt vf
              refine a_bipush d_G_face_70 ⟨by decide, by decide⟩ (by decide) ?_
              exact a_iret d_G_face_72 rfl v
          · have v := vf (c); clear vt vf
            refine a_bipush d_G_face_59 ⟨by decide, by decide⟩ (by decide) ?_
            exact a_iret d_G_face_61 rfl v
        · have v := vf (Int.not_lt.mp c); clear vt vf
          refine a_bipush d_G_face_47 ⟨by decide, by decide⟩ (by decide) ?_
          exact a_iret d_G_face_49 rfl v
    · have v := vf (Classical.not_not.mp c); clear vt vf
      refine a_bipush d_G_face_16 ⟨by decide, by decide⟩ (by decide) ?_
      exact a_iret d_G_face_18 rfl v
theorem g_G_face_94 {l : Launch} {D : DD} {d kc ks : Nat} {h : Hp} {Φ : Option AV → Hp → Prop} {x1 : Int} {x2 : Int} {x3 : Nat} {x4 : Nat} {x5 : Int} (hM : GS h) (v : (x5 ≥ xI h 20 1 → (Ev l D Y_G_change d 0 0 0 [some (vr 20)] [] h (kv (fun h1 => GS h1 ∧ (xK h1 x3 = 3 ∧ (Φ (some (vi (xI h1 x3 4))) h1)))))) ∧ (x5 < xI h 20 1 → (0 ≤ x5 ∧ x5 < 16 ∧ (xK h (xR h 21 (x5).toNat) = 3 ∧ Ev l D Y_Type_isUnder d 0 0 0 [some (vr (xR h 21 (x5).toNat)), some (vr x3)] [] h (ki (fun r1 h2 => GS h2 ∧ ((r1 = 0 → (Ev l D Y_G_face (d + 1) kc ks 94 [some (vr 20), some (vi x1), some (vi x2), some (vr x3), some (vr x4), some (vi (wr (x5 + (1 : Int))))] [] h2 Φ)) ∧ (¬ r1 = 0 → (0 ≤ x5 ∧ x5 < 16 ∧ (xK h2 (xR h2 21 (x5).toNat) = 3 ∧ Ev l D Y_Type_join d 0 0 0 [some (vr (xR h2 21 (x5).toNat)), some (vr x4), none] [] h2 (kv (fun h3 => GS h3 ∧ (Ev l D Y_G_face (d + 1) kc ks 94 [some (vr 20), some (vi x1), some (vi x2), some (vr x3), some (vr x4), some (vi (wr (x5 + (1 : Int))))] [] h3 Φ))))))))))))) : Ev l D Y_G_face (d + 1) kc ks 94 [some (vr 20), some (vi x1), some (vi x2), some (vr x3), some (vr x4), some (vi x5)] [] h Φ := by
  refine a_iload d_G_face_94 rfl ?_
  refine a_aload_n d_G_face_96 rfl ?_
  refine a_getI fl_G_55 d_G_face_97 (beq_iff_eq.mpr (KNG_20 hM)) ?_
  obtain ⟨vt, vf⟩ := v
  refine a_icmp_ge (tgt := 135) d_G_face_100 (by decide) (fun c => ?_) (fun c => ?_)
  · have v := vt (c); clear vt vf
    refine a_aload_n d_G_face_135 rfl ?_
    refine b_callV (as := []) (b := 20) (st := []) (kd := 1) (kc1 := 0) (ks1 := 0) (kc2 := kc) (ks2 := ks) (d' := d) ml_G_182 rfl d_G_face_136 rfl rfl (Nat.le_of_ble_eq_true rfl) (by decide) rfl (Nat.le_refl _) (by omega) (by omega) (KNG_20 hM) ?_
    refine Ev.mono v ?_
    intro u h1 v
    obtain ⟨rfl, v⟩ := kv_el v
    obtain ⟨hm1, v⟩ := v
    change Ev l D Y_G_face _ _ _ 139 [some (vr 20), some (vi x1), some (vi x2), some (vr x3), some (vr x4), some (vi x5)] [] _ _
    refine a_aload_n d_G_face_139 rfl ?_
    obtain ⟨c1, v⟩ := v
    refine a_getIN fl_G_188 d_G_face_140 (beq_iff_eq.mpr c1) ?_
    exact a_iret d_G_face_143 rfl v
  · have v := vf (Int.not_le.mp c); clear vt vf
    refine a_aload_n d_G_face_103 rfl ?_
    refine a_getAe fl_G_11 d_G_face_104 (beq_iff_eq.mpr (KNG_20 hM)) (KRG_20_0 hM) ?_
    refine a_iload d_G_face_107 rfl ?_
    obtain ⟨c4, c5, v⟩ := v
    refine a_aald d_G_face_109 ⟨by rw [KNG_21 hM]; decide, by rw [KNG_21 hM]; decide⟩ c4 (lt_len (NNG_21 hM) c5) ?_
    refine a_aload_n d_G_face_110 rfl ?_
    obtain ⟨c10, v⟩ := v
    refine b_callV (as := [vr x3]) (b := (xR h 21 (x5).toNat)) (st := []) (kd := 3) (kc1 := 0) (ks1 := 0) (kc2 := kc) (ks2 := ks) (d' := d) ml_G_84 rfl d_G_face_111 rfl rfl (Nat.le_of_ble_eq_true rfl) (by decide) rfl (Nat.le_refl _) (by omega) (by omega) c10 ?_
    refine Ev.mono v ?_
    intro u h2 v
    obtain ⟨r1, rfl, v⟩ := ki_el v
    obtain ⟨hm2, v⟩ := v
    change Ev l D Y_G_face _ _ _ 114 [some (vr 20), some (vi x1), some (vi x2), some (vr x3), some (vr x4), some (vi x5)] [vi r1] _ _
    obtain ⟨vt, vf⟩ := v
    refine a_if_eq (tgt := 129) d_G_face_114 (by decide) (fun c => ?_) (fun c => ?_)
    · have v := vt (c); clear vt vf
      refine a_iinc (L' := [some (vr 20), some (vi x1), some (vi x2), some (vr x3), some (vr x4), some (vi (wr (x5 + (1 : Int))))]) d_G_face_129 rfl (Nat.le_of_ble_eq_true rfl) rfl rfl ?_
      refine a_goto (tgt := 94) d_G_face_132 (by decide) ?_
      exact v
    · have v := vf (c); clear vt vf
      refine a_aload_n d_G_face_117 rfl ?_
      refine a_getAe fl_G_11 d_G_face_118 (beq_iff_eq.mpr (KNG_20 hm2)) (KRG_20_0 hm2) ?_
      refine a_iload d_G_face_121 rfl ?_
      obtain ⟨c7, c8, v⟩ := v
      refine a_aald d_G_face_123 ⟨by rw [KNG_21 hm2]; decide, by rw [KNG_21 hm2]; decide⟩ c7 (lt_len (NNG_21 hm2) c8) ?_
      refine a_aload d_G_face_124 rfl ?_
      obtain ⟨c9, v⟩ := v
      refine b_callV (as := [vr x4]) (b := (xR h2 21 (x5).toNat)) (st := []) (kd := 3) (kc1 := 0) (ks1 := 0) (kc2 := kc) (ks2 := ks) (d' := d) ml_G_194 rfl d_G_face_126 rfl rfl (Nat.le_of_ble_eq_true rfl) (by decide) rfl (Nat.le_refl _) (by omega) (by omega) c9 ?_
      refine Ev.mono v ?_
      intro u h3 v
      obtain ⟨rfl, v⟩ := kv_el v
      obtain ⟨hm3, v⟩ := v
      change Ev l D Y_G_face _ _ _ 129 [some (vr 20), some (vi x1), some (vi x2), some (vr x3), some (vr x4), some (vi x5)] [] _ _
      refine a_iinc (L' := [some (vr 20), some (vi x1), some (vi x2), some (vr x3), some (vr x4), some (vi (wr (x5 + (1 : Int))))]) d_G_face_129 rfl (Nat.le_of_ble_eq_true rfl) rfl rfl ?_
      refine a_goto (tgt := 94) d_G_face_132 (by decide) ?_
      exact v
theorem d_G_member_0 : decode Y_G_member.2.1 0 = .ok (.aload_n 0, 1) := by decide +kernel
theorem d_G_member_1 : decode Y_G_member.2.1 1 = .ok (.iload_n 1, 1) := by decide +kernel
theorem d_G_member_2 : decode Y_G_member.2.1 2 = .ok (.invokevirtual 169, 3) := by decide +kernel
theorem d_G_member_5 : decode Y_G_member.2.1 5 = .ok (.ifCond .ne 6, 3) := by decide +kernel
theorem d_G_member_8 : decode Y_G_member.2.1 8 = .ok (.bipush (-101), 2) := by decide +kernel
theorem d_G_member_10 : decode Y_G_member.2.1 10 = .ok (.ireturn, 1) := by decide +kernel
theorem d_G_member_11 : decode Y_G_member.2.1 11 = .ok (.aload_n 0, 1) := by decide +kernel
theorem d_G_member_12 : decode Y_G_member.2.1 12 = .ok (.getfield 11, 3) := by decide +kernel
theorem d_G_member_15 : decode Y_G_member.2.1 15 = .ok (.iload_n 1, 1) := by decide +kernel
theorem d_G_member_16 : decode Y_G_member.2.1 16 = .ok (.aaload, 1) := by decide +kernel
theorem d_G_member_17 : decode Y_G_member.2.1 17 = .ok (.astore 4, 2) := by decide +kernel
theorem d_G_member_19 : decode Y_G_member.2.1 19 = .ok (.iload_n 3, 1) := by decide +kernel
theorem d_G_member_20 : decode Y_G_member.2.1 20 = .ok (.iconst 0, 1) := by decide +kernel
theorem d_G_member_21 : decode Y_G_member.2.1 21 = .ok (.iconst 4, 1) := by decide +kernel
theorem d_G_member_22 : decode Y_G_member.2.1 22 = .ok (.invokestatic 165, 3) := by decide +kernel
theorem d_G_member_25 : decode Y_G_member.2.1 25 = .ok (.ifCond .eq 34, 3) := by decide +kernel
theorem d_G_member_28 : decode Y_G_member.2.1 28 = .ok (.iload_n 3, 1) := by decide +kernel
theorem d_G_member_29 : decode Y_G_member.2.1 29 = .ok (.iconst 4, 1) := by decide +kernel
theorem d_G_member_30 : decode Y_G_member.2.1 30 = .ok (.if_icmp .eq 13, 3) := by decide +kernel
theorem d_G_member_33 : decode Y_G_member.2.1 33 = .ok (.iload_n 2, 1) := by decide +kernel
theorem d_G_member_34 : decode Y_G_member.2.1 34 = .ok (.iconst 0, 1) := by decide +kernel
theorem d_G_member_35 : decode Y_G_member.2.1 35 = .ok (.bipush 9, 2) := by decide +kernel
theorem d_G_member_37 : decode Y_G_member.2.1 37 = .ok (.invokestatic 165, 3) := by decide +kernel
theorem d_G_member_40 : decode Y_G_member.2.1 40 = .ok (.ifCond .eq 19, 3) := by decide +kernel
theorem d_G_member_43 : decode Y_G_member.2.1 43 = .ok (.iload_n 3, 1) := by decide +kernel
theorem d_G_member_44 : decode Y_G_member.2.1 44 = .ok (.iconst 1, 1) := by decide +kernel
theorem d_G_member_45 : decode Y_G_member.2.1 45 = .ok (.if_icmp .ne 17, 3) := by decide +kernel
theorem d_G_member_48 : decode Y_G_member.2.1 48 = .ok (.aload 4, 2) := by decide +kernel
theorem d_G_member_50 : decode Y_G_member.2.1 50 = .ok (.getfield 198, 3) := by decide +kernel
theorem d_G_member_53 : decode Y_G_member.2.1 53 = .ok (.getstatic 202, 3) := by decide +kernel
theorem d_G_member_56 : decode Y_G_member.2.1 56 = .ok (.if_acmp .ne 6, 3) := by decide +kernel
theorem d_G_member_59 : decode Y_G_member.2.1 59 = .ok (.bipush (-102), 2) := by decide +kernel
theorem d_G_member_61 : decode Y_G_member.2.1 61 = .ok (.ireturn, 1) := by decide +kernel
theorem d_G_member_62 : decode Y_G_member.2.1 62 = .ok (.iload_n 3, 1) := by decide +kernel
theorem d_G_member_63 : decode Y_G_member.2.1 63 = .ok (.iconst 4, 1) := by decide +kernel
theorem d_G_member_64 : decode Y_G_member.2.1 64 = .ok (.if_icmp .ne 14, 3) := by decide +kernel
theorem d_G_member_67 : decode Y_G_member.2.1 67 = .ok (.aload 4, 2) := by decide +kernel
theorem d_G_member_69 : decode Y_G_member.2.1 69 = .ok (.getfield 115, 3) := by decide +kernel
theorem d_G_member_72 : decode Y_G_member.2.1 72 = .ok (.ifnull 19, 3) := by decide +kernel
theorem d_G_member_75 : decode Y_G_member.2.1 75 = .ok (.goto 13, 3) := by decide +kernel
theorem d_G_member_78 : decode Y_G_member.2.1 78 = .ok (.aload 4, 2) := by decide +kernel
theorem d_G_member_80 : decode Y_G_member.2.1 80 = .ok (.getfield 58, 3) := by decide +kernel
theorem d_G_member_83 : decode Y_G_member.2.1 83 = .ok (.iload_n 2, 1) := by decide +kernel
theorem d_G_member_84 : decode Y_G_member.2.1 84 = .ok (.aaload, 1) := by decide +kernel
theorem d_G_member_85 : decode Y_G_member.2.1 85 = .ok (.ifnull 6, 3) := by decide +kernel
theorem d_G_member_88 : decode Y_G_member.2.1 88 = .ok (.bipush (-103), 2) := by decide +kernel
theorem d_G_member_90 : decode Y_G_member.2.1 90 = .ok (.ireturn, 1) := by decide +kernel
theorem d_G_member_91 : decode Y_G_member.2.1 91 = .ok (.aload_n 0, 1) := by decide +kernel
theorem d_G_member_92 : decode Y_G_member.2.1 92 = .ok (.getfield 133, 3) := by decide +kernel
theorem d_G_member_95 : decode Y_G_member.2.1 95 = .ok (.bipush 48, 2) := by decide +kernel
theorem d_G_member_97 : decode Y_G_member.2.1 97 = .ok (.if_icmp .ne 6, 3) := by decide +kernel
theorem d_G_member_100 : decode Y_G_member.2.1 100 = .ok (.bipush (-104), 2) := by decide +kernel
theorem d_G_member_102 : decode Y_G_member.2.1 102 = .ok (.ireturn, 1) := by decide +kernel
theorem d_G_member_103 : decode Y_G_member.2.1 103 = .ok (.new 15, 3) := by decide +kernel
theorem d_G_member_106 : decode Y_G_member.2.1 106 = .ok (.dup, 1) := by decide +kernel
theorem d_G_member_107 : decode Y_G_member.2.1 107 = .ok (.aload_n 0, 1) := by decide +kernel
theorem d_G_member_108 : decode Y_G_member.2.1 108 = .ok (.getfield 133, 3) := by decide +kernel
theorem d_G_member_111 : decode Y_G_member.2.1 111 = .ok (.aload 4, 2) := by decide +kernel
theorem d_G_member_113 : decode Y_G_member.2.1 113 = .ok (.iload_n 3, 1) := by decide +kernel
theorem d_G_member_114 : decode Y_G_member.2.1 114 = .ok (.iconst 4, 1) := by decide +kernel
theorem d_G_member_115 : decode Y_G_member.2.1 115 = .ok (.if_icmp .ne 7, 3) := by decide +kernel
theorem d_G_member_118 : decode Y_G_member.2.1 118 = .ok (.iconst (-1), 1) := by decide +kernel
theorem d_G_member_119 : decode Y_G_member.2.1 119 = .ok (.goto 4, 3) := by decide +kernel
theorem d_G_member_122 : decode Y_G_member.2.1 122 = .ok (.iload_n 2, 1) := by decide +kernel
theorem d_G_member_123 : decode Y_G_member.2.1 123 = .ok (.invokestatic 205, 3) := by decide +kernel
theorem d_G_member_126 : decode Y_G_member.2.1 126 = .ok (.iload_n 3, 1) := by decide +kernel
theorem d_G_member_127 : decode Y_G_member.2.1 127 = .ok (.aaload, 1) := by decide +kernel
theorem d_G_member_128 : decode Y_G_member.2.1 128 = .ok (.invokespecial 208, 3) := by decide +kernel
theorem d_G_member_131 : decode Y_G_member.2.1 131 = .ok (.astore 5, 2) := by decide +kernel
theorem d_G_member_133 : decode Y_G_member.2.1 133 = .ok (.iload_n 3, 1) := by decide +kernel
theorem d_G_member_134 : decode Y_G_member.2.1 134 = .ok (.iconst 4, 1) := by decide +kernel
theorem d_G_member_135 : decode Y_G_member.2.1 135 = .ok (.if_icmp .ne 13, 3) := by decide +kernel
theorem d_G_member_138 : decode Y_G_member.2.1 138 = .ok (.aload 4, 2) := by decide +kernel
theorem d_G_member_140 : decode Y_G_member.2.1 140 = .ok (.aload 5, 2) := by decide +kernel
theorem d_G_member_142 : decode Y_G_member.2.1 142 = .ok (.putfield 115, 3) := by decide +kernel
theorem d_G_member_145 : decode Y_G_member.2.1 145 = .ok (.goto 12, 3) := by decide +kernel
theorem d_G_member_148 : decode Y_G_member.2.1 148 = .ok (.aload 4, 2) := by decide +kernel
theorem d_G_member_150 : decode Y_G_member.2.1 150 = .ok (.getfield 58, 3) := by decide +kernel
theorem d_G_member_153 : decode Y_G_member.2.1 153 = .ok (.iload_n 2, 1) := by decide +kernel
theorem d_G_member_154 : decode Y_G_member.2.1 154 = .ok (.aload 5, 2) := by decide +kernel
theorem d_G_member_156 : decode Y_G_member.2.1 156 = .ok (.aastore, 1) := by decide +kernel
theorem d_G_member_157 : decode Y_G_member.2.1 157 = .ok (.aload_n 0, 1) := by decide +kernel
theorem d_G_member_158 : decode Y_G_member.2.1 158 = .ok (.getfield 17, 3) := by decide +kernel
theorem d_G_member_161 : decode Y_G_member.2.1 161 = .ok (.aload_n 0, 1) := by decide +kernel
theorem d_G_member_162 : decode Y_G_member.2.1 162 = .ok (.getfield 133, 3) := by decide +kernel
theorem d_G_member_165 : decode Y_G_member.2.1 165 = .ok (.aload 5, 2) := by decide +kernel
theorem d_G_member_167 : decode Y_G_member.2.1 167 = .ok (.aastore, 1) := by decide +kernel
theorem d_G_member_168 : decode Y_G_member.2.1 168 = .ok (.aload_n 0, 1) := by decide +kernel
theorem d_G_member_169 : decode Y_G_member.2.1 169 = .ok (.invokevirtual 182, 3) := by decide +kernel
theorem d_G_member_172 : decode Y_G_member.2.1 172 = .ok (.aload_n 0, 1) := by decide +kernel
theorem d_G_member_173 : decode Y_G_member.2.1 173 = .ok (.dup, 1) := by decide +kernel
theorem d_G_member_174 : decode Y_G_member.2.1 174 = .ok (.getfield 133, 3) := by decide +kernel
theorem d_G_member_177 : decode Y_G_member.2.1 177 = .ok (.dup_x1, 1) := by decide +kernel
theorem d_G_member_178 : decode Y_G_member.2.1 178 = .ok (.iconst 1, 1) := by decide +kernel
theorem d_G_member_179 : decode Y_G_member.2.1 179 = .ok (.iadd, 1) := by decide +kernel
theorem d_G_member_180 : decode Y_G_member.2.1 180 = .ok (.putfield 133, 3) := by decide +kernel
theorem d_G_member_183 : decode Y_G_member.2.1 183 = .ok (.ireturn, 1) := by decide +kernel
theorem g_G_member_0 {l : Launch} {D : DD} {d kc ks : Nat} {h : Hp} {Φ : Option AV → Hp → Prop} {x1 : Int} {x2 : Int} {x3 : Int} (hM : GS h) (v : Ev l D Y_G_isType d 0 0 0 [some (vr 20), some (vi x1)] [] h (ki (fun r1 h1 => GS h1 ∧ ((¬ r1 = 0 → (0 ≤ x1 ∧ x1 < 16 ∧ (Ev l D Y_G_within d 0 0 0 [some (vi x3), some (vi (0 : Int)), some (vi (4 : Int))] [] h1 (ki (fun r2 h2 => GS h2 ∧ ((r2 = 0 → (Φ (some (vi (-102 : Int))) h2)) ∧ (¬ r2 = 0 → ((x3 = (4 : Int) → ((¬ x3 = (1 : Int) → (Ev l D Y_G_member (d + 1) (kc + 3) (ks + 37) 62 [some (vr 20), some (vi x1), some (vi x2), some (vi x3), some (vr (xR h1 21 (x1).toNat)), none] [] h2 Φ)) ∧ (x3 = (1 : Int) → (xK h2 (xR h1 21 (x1).toNat) = 3 ∧ ((¬ xR h2 (xR h1 21 (x1).toNat) 1 = 1 → (Ev l D Y_G_member (d + 1) (kc + 3) (ks + 37) 62 [some (vr 20), some (vi x1), some (vi x2), some (vi x3), some (vr (xR h1 21 (x1).toNat)), none] [] h2 Φ)) ∧ (xR h2 (xR h1 21 (x1).toNat) 1 = 1 → (Φ (some (vi (-102 : Int))) h2))))))) ∧ (¬ x3 = (4 : Int) → (Ev l D Y_G_within d 0 0 0 [some (vi x2), some (vi (0 : Int)), some (vi (9 : Int))] [] h2 (ki (fun r3 h3 => GS h3 ∧ ((r3 = 0 → (Φ (some (vi (-102 : Int))) h3)) ∧ (¬ r3 = 0 → ((¬ x3 = (1 : Int) → (Ev l D Y_G_member (d + 1) (kc + 3) (ks + 37) 62 [some (vr 20), some (vi x1), some (vi x2), some (vi x3), some (vr (xR h1 21 (x1).toNat)), none] [] h3 Φ)) ∧ (x3 = (1 : Int) → (xK h3 (xR h1 21 (x1).toNat) = 3 ∧ ((¬ xR h3 (xR h1 21 (x1).toNat) 1 = 1 → (Ev l D Y_G_member (d + 1) (kc + 3) (ks + 37) 62 [some (vr 20), some (vi x1), some (vi x2), some (vi x3), some (vr (xR h1 21 (x1).toNat)), none] [] h3 Φ)) ∧ (xR h3 (xR h1 21 (x1).toNat) 1 = 1 → (Φ (some (vi (-102 : Int))) h3)))))))))))))))))))) ∧ (r1 = 0 → (Φ (some (vi (-101 : Int))) h1)))))) : Ev l D Y_G_member (d + 1) (kc + 3) (ks + 37) 0 [some (vr 20), some (vi x1), some (vi x2), some (vi x3), none, none] [] h Φ := by
  refine a_aload_n d_G_member_0 rfl ?_
  refine a_iload_n d_G_member_1 rfl ?_
  refine b_callV (as := [vi x1]) (b := 20) (st := []) (kd := 1) (kc1 := 0) (ks1 := 0) (kc2 := kc + 3) (ks2 := ks + 37) (d' := d) ml_G_169 rfl d_G_member_2 rfl rfl (Nat.le_of_ble_eq_true rfl) (by decide) rfl (Nat.le_refl _) (by omega) (by omega) (KNG_20 hM) ?_
  refine Ev.mono v ?_
  intro u h1 v
  obtain ⟨r1, rfl, v⟩ := ki_el v
  obtain ⟨hm1, v⟩ := v
  change Ev l D Y_G_member _ _ _ 5 [some (vr 20), some (vi x1), some (vi x2), some (vi x3), none, none] [vi r1] _ _
  obtain ⟨vt, vf⟩ := v
  refine a_if_ne (tgt := 11) d_G_member_5 (by decide) (fun c => ?_) (fun c => ?_)
  · have v := vt (c); clear vt vf
    refine a_aload_n d_G_member_11 rfl ?_
    refine a_getAe fl_G_11 d_G_member_12 (beq_iff_eq.mpr (KNG_20 hm1)) (KRG_20_0 hm1) ?_
    refine a_iload_n d_G_member_15 rfl ?_
    obtain ⟨c2, c3, v⟩ := v
    refine a_aald d_G_member_16 ⟨by rw [KNG_21 hm1]; decide, by rw [KNG_21 hm1]; decide⟩ c2 (lt_len (NNG_21 hm1) c3) ?_
    refine a_astore (L' := [some (vr 20), some (vi x1), some (vi x2), some (vi x3), some (vr (xR h1 21 (x1).toNat)), none]) d_G_member_17 (Nat.le_of_ble_eq_true rfl) rfl rfl ?_
    refine a_iload_n d_G_member_19 rfl ?_
    refine a_iconst d_G_member_20 ⟨by decide, by decide⟩ ?_
    refine a_iconst d_G_member_21 ⟨by decide, by decide⟩ ?_
    refine b_callS (as := [vi x3, vi (0 : Int), vi (4 : Int)]) (st := []) (kc1 := 0) (ks1 := 0) (kc2 := kc + 3) (ks2 := ks + 37) (d' := d) ml_G_165 rfl d_G_member_22 rfl rfl (Nat.le_of_ble_eq_true rfl) rfl (Nat.le_refl _) (by omega) (by omega) ?_
    refine Ev.mono v ?_
    intro u h2 v
    obtain ⟨r2, rfl, v⟩ := ki_el v
    obtain ⟨hm2, v⟩ := v
    change Ev l D Y_G_member _ _ _ 25 [some (vr 20), some (vi x1), some (vi x2), some (vi x3), some (vr (xR h1 21 (x1).toNat)), none] [vi r2] _ _
    obtain ⟨vt, vf⟩ := v
    refine a_if_eq (tgt := 59) d_G_member_25 (by decide) (fun c => ?_) (fun c => ?_)
    · have v := vt (c); clear vt vf
      refine a_bipush d_G_member_59 ⟨by decide, by decide⟩ (by decide) ?_
      exact a_iret d_G_member_61 rfl v
    · have v := vf (c); clear vt vf
      refine a_iload_n d_G_member_28 rfl ?_
      refine a_iconst d_G_member_29 ⟨by decide, by decide⟩ ?_
      obtain ⟨vt, vf⟩ := v
      refine a_icmp_eq (tgt := 43) d_G_member_30 (by decide) (fun c => ?_) (fun c => ?_)
      · have v := vt (c); clear vt vf
        refine a_iload_n d_G_member_43 rfl ?_
        refine a_iconst d_G_member_44 ⟨by decide, by decide⟩ ?_
        obtain ⟨vt, vf⟩ := v
        refine a_icmp_ne (tgt := 62) d_G_member_45 (by decide) (fun c => ?_) (fun c => ?_)
        · have v := vt (c); clear vt vf
          exact v
        · have v := vf (Classical.not_not.mp c); clear vt vf
          refine a_aload d_G_member_48 rfl ?_
          obtain ⟨c4, v⟩ := v
          refine a_getRN fl_G_198 d_G_member_50 (beq_iff_eq.mpr c4) ?_
          refine a_gets (k := 1) d_G_member_53 (by decide +kernel) sl_G_202 ?_
          obtain ⟨vt, vf⟩ := v
          refine a_acmp_ne (tgt := 62) d_G_member_56 (by decide) (fun c => ?_) (fun c => ?_)
          · have v := vt (c); clear vt vf
            exact v
          · have v := vf (c); clear vt vf
            refine a_bipush d_G_member_59 ⟨by decide, by decide⟩ (by decide) ?_
            exact a_iret d_G_member_61 rfl v
      · have v := vf (c); clear vt vf
        refine a_iload_n d_G_member_33 rfl ?_
        refine a_iconst d_G_member_34 ⟨by decide, by decide⟩ ?_
        refine a_bipush d_G_member_35 ⟨by decide, by decide⟩ (by decide) ?_
        refine b_callS (as := [vi x2, vi (0 : Int), vi (9 : Int)]) (st := []) (kc1 := 0) (ks1 := 0) (kc2 := kc + 3) (ks2 := ks + 37) (d' := d) ml_G_165 rfl d_G_member_37 rfl rfl (Nat.le_of_ble_eq_true rfl) rfl (Nat.le_refl _) (by omega) (by omega) ?_
        refine Ev.mono v ?_
        intro u h3 v
        obtain ⟨r3, rfl, v⟩ := ki_el v
        obtain ⟨hm3, v⟩ := v
        change Ev l D Y_G_member _ _ _ 40 [some (vr 20), some (vi x1), some (vi x2), some (vi x3), some (vr (xR h1 21 (x1).toNat)), none] [vi r3] _ _
        obtain ⟨vt, vf⟩ := v
        refine a_if_eq (tgt := 59) d_G_member_40 (by decide) (fun c => ?_) (fun c => ?_)
        · have v := vt (c); clear vt vf
          refine a_bipush d_G_member_59 ⟨by decide, by decide⟩ (by decide) ?_
          exact a_iret d_G_member_61 rfl v
        · have v := vf (c); clear vt vf
          refine a_iload_n d_G_member_43 rfl ?_
          refine a_iconst d_G_member_44 ⟨by decide, by decide⟩ ?_
          obtain ⟨vt, vf⟩ := v
          refine a_icmp_ne (tgt := 62) d_G_member_45 (by decide) (fun c => ?_) (fun c => ?_)
          · have v := vt (c); clear vt vf
            exact v
          · have v := vf (Classical.not_not.mp c); clear vt vf
            refine a_aload d_G_member_48 rfl ?_
            obtain ⟨c5, v⟩ := v
            refine a_getRN fl_G_198 d_G_member_50 (beq_iff_eq.mpr c5) ?_
            refine a_gets (k := 1) d_G_member_53 (by decide +kernel) sl_G_202 ?_
            obtain ⟨vt, vf⟩ := v
            refine a_acmp_ne (tgt := 62) d_G_member_56 (by decide) (fun c => ?_) (fun c => ?_)
            · have v := vt (c); clear vt vf
              exact v
            · have v := vf (c); clear vt vf
              refine a_bipush d_G_member_59 ⟨by decide, by decide⟩ (by decide) ?_
              exact a_iret d_G_member_61 rfl v
  · have v := vf (Classical.not_not.mp c); clear vt vf
    refine a_bipush d_G_member_8 ⟨by decide, by decide⟩ (by decide) ?_
    exact a_iret d_G_member_10 rfl v
theorem g_G_member_62 {l : Launch} {D : DD} {d kc ks : Nat} {h : Hp} {Φ : Option AV → Hp → Prop} {x1 : Int} {x2 : Int} {x3 : Int} {x4 : Nat} (hM : GS h) (v : (¬ x3 = (4 : Int) → (xK h x4 = 3 ∧ ((22 ≤ xK h (xR h x4 6) ∧ xK h (xR h x4 6) ≤ 27) ∧ 0 ≤ x2 ∧ x2 < xN h (xR h x4 6) ∧ ((xR h (xR h x4 6) (x2).toNat = 0 → (Ev l D Y_G_member (d + 1) (kc + 3) (ks + 37) 91 [some (vr 20), some (vi x1), some (vi x2), some (vi x3), some (vr x4), none] [] h Φ)) ∧ (¬ xR h (xR h x4 6) (x2).toNat = 0 → (Φ (some (vi (-103 : Int))) h)))))) ∧ (x3 = (4 : Int) → (xK h x4 = 3 ∧ ((xR h x4 7 = 0 → (Ev l D Y_G_member (d + 1) (kc + 3) (ks + 37) 91 [some (vr 20), some (vi x1), some (vi x2), some (vi x3), some (vr x4), none] [] h Φ)) ∧ (¬ xR h x4 7 = 0 → (Φ (some (vi (-103 : Int))) h)))))) : Ev l D Y_G_member (d + 1) (kc + 3) (ks + 37) 62 [some (vr 20), some (vi x1), some (vi x2), some (vi x3), some (vr x4), none] [] h Φ := by
  refine a_iload_n d_G_member_62 rfl ?_
  refine a_iconst d_G_member_63 ⟨by decide, by decide⟩ ?_
  obtain ⟨vt, vf⟩ := v
  refine a_icmp_ne (tgt := 78) d_G_member_64 (by decide) (fun c => ?_) (fun c => ?_)
  · have v := vt (c); clear vt vf
    refine a_aload d_G_member_78 rfl ?_
    obtain ⟨c1, v⟩ := v
    refine a_getAN fl_G_58 d_G_member_80 (beq_iff_eq.mpr c1) ?_
    refine a_iload_n d_G_member_83 rfl ?_
    obtain ⟨c2, c3, c4, v⟩ := v
    refine a_aald d_G_member_84 c2 c3 c4 ?_
    obtain ⟨vt, vf⟩ := v
    refine a_ifnull (tgt := 91) d_G_member_85 (by decide) (fun c => ?_) (fun c => ?_)
    · have v := vt (c); clear vt vf
      exact v
    · have v := vf (c); clear vt vf
      refine a_bipush d_G_member_88 ⟨by decide, by decide⟩ (by decide) ?_
      exact a_iret d_G_member_90 rfl v
  · have v := vf (Classical.not_not.mp c); clear vt vf
    refine a_aload d_G_member_67 rfl ?_
    obtain ⟨c5, v⟩ := v
    refine a_getRN fl_G_115 d_G_member_69 (beq_iff_eq.mpr c5) ?_
    obtain ⟨vt, vf⟩ := v
    refine a_ifnull (tgt := 91) d_G_member_72 (by decide) (fun c => ?_) (fun c => ?_)
    · have v := vt (c); clear vt vf
      exact v
    · have v := vf (c); clear vt vf
      refine a_goto (tgt := 88) d_G_member_75 (by decide) ?_
      refine a_bipush d_G_member_88 ⟨by decide, by decide⟩ (by decide) ?_
      exact a_iret d_G_member_90 rfl v
theorem g_G_member_91 {l : Launch} {D : DD} {d kc ks : Nat} {h : Hp} {Φ : Option AV → Hp → Prop} {x1 : Int} {x2 : Int} {x3 : Int} {x4 : Nat} (hM : GS h) (v : (¬ xI h 20 3 = (48 : Int) → (∃ a1 : Nat, 16 ≤ a1 ∧ xK h a1 = 0 ∧ (∀ h1 : Hp, h1 = nw h a1 4 0 → (GS h1 ∧ ((¬ x3 = (4 : Int) → (Ev l D Y_G_member (d + 1) (kc + 2) (ks + 29) 123 [some (vr 20), some (vi x1), some (vi x2), some (vi x3), some (vr x4), none] [vi x2, vr x4, vi (xI h1 20 3), vr a1, vr a1] h1 Φ)) ∧ (x3 = (4 : Int) → (Ev l D Y_G_member (d + 1) (kc + 2) (ks + 29) 123 [some (vr 20), some (vi x1), some (vi x2), some (vi x3), some (vr x4), none] [vi (-1 : Int), vr x4, vi (xI h1 20 3), vr a1, vr a1] h1 Φ))))))) ∧ (xI h 20 3 = (48 : Int) → (Φ (some (vi (-104 : Int))) h))) : Ev l D Y_G_member (d + 1) (kc + 3) (ks + 37) 91 [some (vr 20), some (vi x1), some (vi x2), some (vi x3), some (vr x4), none] [] h Φ := by
  refine a_aload_n d_G_member_91 rfl ?_
  refine a_getI fl_G_133 d_G_member_92 (beq_iff_eq.mpr (KNG_20 hM)) ?_
  refine a_bipush d_G_member_95 ⟨by decide, by decide⟩ (by decide) ?_
  obtain ⟨vt, vf⟩ := v
  refine a_icmp_ne (tgt := 103) d_G_member_97 (by decide) (fun c => ?_) (fun c => ?_)
  · have v := vt (c); clear vt vf
    obtain ⟨a1, c1, c2, v⟩ := v
    have v := v _ rfl
    refine a_new (kd := 4) (kc' := kc + 2) (ks' := ks + 29) a1 d_G_member_103 (by decide) cl_G_15 (by omega) (nfle (n := 8) rfl (by omega)) c1 c2 ?_
    obtain ⟨hm1, v⟩ := v
    refine a_dup d_G_member_106 rfl ?_
    refine a_aload_n d_G_member_107 rfl ?_
    refine a_getI fl_G_133 d_G_member_108 (beq_iff_eq.mpr (KNG_20 hm1)) ?_
    refine a_aload d_G_member_111 rfl ?_
    refine a_iload_n d_G_member_113 rfl ?_
    refine a_iconst d_G_member_114 ⟨by decide, by decide⟩ ?_
    obtain ⟨vt, vf⟩ := v
    refine a_icmp_ne (tgt := 122) d_G_member_115 (by decide) (fun c => ?_) (fun c => ?_)
    · have v := vt (c); clear vt vf
      refine a_iload_n d_G_member_122 rfl ?_
      exact v
    · have v := vf (Classical.not_not.mp c); clear vt vf
      refine a_iconst d_G_member_118 ⟨by decide, by decide⟩ ?_
      refine a_goto (tgt := 123) d_G_member_119 (by decide) ?_
      exact v
  · have v := vf (Classical.not_not.mp c); clear vt vf
    refine a_bipush d_G_member_100 ⟨by decide, by decide⟩ (by decide) ?_
    exact a_iret d_G_member_102 rfl v
theorem g_G_member_123 {l : Launch} {D : DD} {d kc ks : Nat} {h : Hp} {Φ : Option AV → Hp → Prop} {x1 : Int} {x2 : Int} {x3 : Int} {x4 : Nat} {y0 : Int} {y1 : Nat} {y2 : Int} {y3 : Nat} {y4 : Nat} (hM : GS h) (v : Ev l D Y_Sort_values d 1 5 0 [] [] h (kr (fun r1 h1 => GS h1 ∧ ((22 ≤ xK h1 r1 ∧ xK h1 r1 ≤ 27) ∧ 0 ≤ x3 ∧ x3 < xN h1 r1 ∧ (¬ xK h1 y3 = 0 ∧ Ev l D Y_Member_init d 1 24 0 [some (vr y3), some (vi y2), some (vr y1), some (vi y0), some (vr (xR h1 r1 (x3).toNat))] [] h1 (kv (fun h2 => GS h2 ∧ ((¬ x3 = (4 : Int) → (xK h2 x4 = 3 ∧ (sto (xK h2 (xR h2 x4 6)) (xK h2 y4) = true ∧ 16 ≤ xR h2 x4 6 ∧ 0 ≤ x2 ∧ x2 < xN h2 (xR h2 x4 6) ∧ (∀ h3 : Hp, h3 = sR h2 (xR h2 x4 6) (x2).toNat y4 → (GS h3 ∧ (Ev l D Y_G_member (d + 1) kc ks 157 [some (vr 20), some (vi x1), some (vi x2), some (vi x3), some (vr x4), some (vr y4)] [] h3 Φ)))))) ∧ (x3 = (4 : Int) → (xK h2 x4 = 3 ∧ 16 ≤ x4 ∧ (∀ h4 : Hp, h4 = sR h2 x4 7 y4 → (GS h4 ∧ (Ev l D Y_G_member (d + 1) kc ks 157 [some (vr 20), some (vi x1), some (vi x2), some (vi x3), some (vr x4), some (vr y4)] [] h4 Φ))))))))))))) : Ev l D Y_G_member (d + 1) (kc + 2) (ks + 29) 123 [some (vr 20), some (vi x1), some (vi x2), some (vi x3), some (vr x4), none] [vi y0, vr y1, vi y2, vr y3, vr y4] h Φ := by
  refine b_callS (as := []) (st := [vi y0, vr y1, vi y2, vr y3, vr y4]) (kc1 := 1) (ks1 := 5) (kc2 := kc + 1) (ks2 := ks + 24) (d' := d) ml_G_205 rfl d_G_member_123 rfl rfl (Nat.le_of_ble_eq_true rfl) rfl (Nat.le_refl _) (by omega) (by omega) ?_
  refine Ev.mono v ?_
  intro u h1 v
  obtain ⟨r1, rfl, v⟩ := kr_el v
  obtain ⟨hm1, v⟩ := v
  change Ev l D Y_G_member _ _ _ 126 [some (vr 20), some (vi x1), some (vi x2), some (vi x3), some (vr x4), none] [vr r1, vi y0, vr y1, vi y2, vr y3, vr y4] _ _
  refine a_iload_n d_G_member_126 rfl ?_
  obtain ⟨c1, c2, c3, v⟩ := v
  refine a_aald d_G_member_127 c1 c2 c3 ?_
  obtain ⟨c11, v⟩ := v
  refine b_callI (as := [vi y2, vr y1, vi y0, vr (xR h1 r1 (x3).toNat)]) (b := y3) (st := [vr y4]) (kc1 := 1) (ks1 := 24) (kc2 := kc) (ks2 := ks) (d' := d) ml_G_208 rfl d_G_member_128 rfl rfl (Nat.le_of_ble_eq_true rfl) rfl (Nat.le_refl _) (by omega) (by omega) c11 ?_
  refine Ev.mono v ?_
  intro u h2 v
  obtain ⟨rfl, v⟩ := kv_el v
  obtain ⟨hm2, v⟩ := v
  change Ev l D Y_G_member _ _ _ 131 [some (vr 20), some (vi x1), some (vi x2), some (vi x3), some (vr x4), none] [vr y4] _ _
  refine a_astore (L' := [some (vr 20), some (vi x1), some (vi x2), some (vi x3), some (vr x4), some (vr y4)]) d_G_member_131 (Nat.le_of_ble_eq_true rfl) rfl rfl ?_
  refine a_iload_n d_G_member_133 rfl ?_
  refine a_iconst d_G_member_134 ⟨by decide, by decide⟩ ?_
  obtain ⟨vt, vf⟩ := v
  refine a_icmp_ne (tgt := 148) d_G_member_135 (by decide) (fun c => ?_) (fun c => ?_)
  · have v := vt (c); clear vt vf
    refine a_aload d_G_member_148 rfl ?_
    obtain ⟨c4, v⟩ := v
    refine a_getAN fl_G_58 d_G_member_150 (beq_iff_eq.mpr c4) ?_
    refine a_iload_n d_G_member_153 rfl ?_
    refine a_aload d_G_member_154 rfl ?_
    obtain ⟨c5, c6, c7, c8, v⟩ := v
    have v := v _ rfl
    refine a_aast d_G_member_156 c5 c6 c7 c8 ?_
    obtain ⟨hm3, v⟩ := v
    exact v
  · have v := vf (Classical.not_not.mp c); clear vt vf
    refine a_aload d_G_member_138 rfl ?_
    refine a_aload d_G_member_140 rfl ?_
    obtain ⟨c9, c10, v⟩ := v
    have v := v _ rfl
    refine a_putRN fl_G_115 d_G_member_142 (beq_iff_eq.mpr c9) c10 ?_
    obtain ⟨hm4, v⟩ := v
    refine a_goto (tgt := 157) d_G_member_145 (by decide) ?_
    exact v
theorem g_G_member_157 {l : Launch} {D : DD} {d kc ks : Nat} {h : Hp} {Φ : Option AV → Hp → Prop} {x1 : Int} {x2 : Int} {x3 : Int} {x4 : Nat} {x5 : Nat} (hM : GS h) (v : sto (xK h 22) (xK h x5) = true ∧ 0 ≤ xI h 20 3 ∧ xI h 20 3 < 48 ∧ (∀ h1 : Hp, h1 = sR h 22 (xI h 20 3).toNat x5 → (GS h1 ∧ (Ev l D Y_G_change d 0 0 0 [some (vr 20)] [] h1 (kv (fun h2 => GS h2 ∧ (∀ h3 : Hp, h3 = sI h2 20 3 (wr ((xI h2 20 3) + (1 : Int))) → (Φ (some (vi (xI h2 20 3))) h3)))))))) : Ev l D Y_G_member (d + 1) kc ks 157 [some (vr 20), some (vi x1), some (vi x2), some (vi x3), some (vr x4), some (vr x5)] [] h Φ := by
  refine a_aload_n d_G_member_157 rfl ?_
  refine a_getAe fl_G_17 d_G_member_158 (beq_iff_eq.mpr (KNG_20 hM)) (KRG_20_2 hM) ?_
  refine a_aload_n d_G_member_161 rfl ?_
  refine a_getI fl_G_133 d_G_member_162 (beq_iff_eq.mpr (KNG_20 hM)) ?_
  refine a_aload d_G_member_165 rfl ?_
  obtain ⟨c1, c3, c4, v⟩ := v
  have v := v _ rfl
  refine a_aast d_G_member_167 c1 (by decide) c3 (lt_len (NNG_22 hM) c4) ?_
  obtain ⟨hm1, v⟩ := v
  refine a_aload_n d_G_member_168 rfl ?_
  refine b_callV (as := []) (b := 20) (st := []) (kd := 1) (kc1 := 0) (ks1 := 0) (kc2 := kc) (ks2 := ks) (d' := d) ml_G_182 rfl d_G_member_169 rfl rfl (Nat.le_of_ble_eq_true rfl) (by decide) rfl (Nat.le_refl _) (by omega) (by omega) (KNG_20 hm1) ?_
  refine Ev.mono v ?_
  intro u h2 v
  obtain ⟨rfl, v⟩ := kv_el v
  obtain ⟨hm2, v⟩ := v
  change Ev l D Y_G_member _ _ _ 172 [some (vr 20), some (vi x1), some (vi x2), some (vi x3), some (vr x4), some (vr x5)] [] _ _
  refine a_aload_n d_G_member_172 rfl ?_
  refine a_dup d_G_member_173 rfl ?_
  refine a_getI fl_G_133 d_G_member_174 (beq_iff_eq.mpr (KNG_20 hm2)) ?_
  refine a_dup_x1 d_G_member_177 rfl rfl ?_
  refine a_iconst d_G_member_178 ⟨by decide, by decide⟩ ?_
  refine a_iadd d_G_member_179 ?_
  have v := v _ rfl
  refine a_putI fl_G_133 d_G_member_180 (beq_iff_eq.mpr (KNG_20 hm2)) (by decide) ?_
  exact a_iret d_G_member_183 rfl v
theorem d_G_fits_0 : decode Y_G_fits.2.1 0 = .ok (.iload_n 2, 1) := by decide +kernel
theorem d_G_fits_1 : decode Y_G_fits.2.1 1 = .ok (.tableswitch 175 0 7 #[47, 68, 77, 68, 126, 128, 159, 166], 47) := by decide +kernel
theorem d_G_fits_48 : decode Y_G_fits.2.1 48 = .ok (.aload_n 0, 1) := by decide +kernel
theorem d_G_fits_49 : decode Y_G_fits.2.1 49 = .ok (.getfield 11, 3) := by decide +kernel
theorem d_G_fits_52 : decode Y_G_fits.2.1 52 = .ok (.iload_n 3, 1) := by decide +kernel
theorem d_G_fits_53 : decode Y_G_fits.2.1 53 = .ok (.aaload, 1) := by decide +kernel
theorem d_G_fits_54 : decode Y_G_fits.2.1 54 = .ok (.getfield 198, 3) := by decide +kernel
theorem d_G_fits_57 : decode Y_G_fits.2.1 57 = .ok (.getstatic 202, 3) := by decide +kernel
theorem d_G_fits_60 : decode Y_G_fits.2.1 60 = .ok (.if_acmp .ne 7, 3) := by decide +kernel
theorem d_G_fits_63 : decode Y_G_fits.2.1 63 = .ok (.iconst 1, 1) := by decide +kernel
theorem d_G_fits_64 : decode Y_G_fits.2.1 64 = .ok (.goto 4, 3) := by decide +kernel
theorem d_G_fits_67 : decode Y_G_fits.2.1 67 = .ok (.iconst 0, 1) := by decide +kernel
theorem d_G_fits_68 : decode Y_G_fits.2.1 68 = .ok (.ireturn, 1) := by decide +kernel
theorem d_G_fits_69 : decode Y_G_fits.2.1 69 = .ok (.iload 4, 2) := by decide +kernel
theorem d_G_fits_71 : decode Y_G_fits.2.1 71 = .ok (.iconst 0, 1) := by decide +kernel
theorem d_G_fits_72 : decode Y_G_fits.2.1 72 = .ok (.bipush 9, 2) := by decide +kernel
theorem d_G_fits_74 : decode Y_G_fits.2.1 74 = .ok (.invokestatic 165, 3) := by decide +kernel
theorem d_G_fits_77 : decode Y_G_fits.2.1 77 = .ok (.ireturn, 1) := by decide +kernel
theorem d_G_fits_78 : decode Y_G_fits.2.1 78 = .ok (.iload 4, 2) := by decide +kernel
theorem d_G_fits_80 : decode Y_G_fits.2.1 80 = .ok (.iconst 0, 1) := by decide +kernel
theorem d_G_fits_81 : decode Y_G_fits.2.1 81 = .ok (.bipush 9, 2) := by decide +kernel
theorem d_G_fits_83 : decode Y_G_fits.2.1 83 = .ok (.invokestatic 165, 3) := by decide +kernel
theorem d_G_fits_86 : decode Y_G_fits.2.1 86 = .ok (.ifCond .eq 39, 3) := by decide +kernel
theorem d_G_fits_89 : decode Y_G_fits.2.1 89 = .ok (.aload_n 1, 1) := by decide +kernel
theorem d_G_fits_90 : decode Y_G_fits.2.1 90 = .ok (.getfield 211, 3) := by decide +kernel
theorem d_G_fits_93 : decode Y_G_fits.2.1 93 = .ok (.getfield 91, 3) := by decide +kernel
theorem d_G_fits_96 : decode Y_G_fits.2.1 96 = .ok (.aload_n 0, 1) := by decide +kernel
theorem d_G_fits_97 : decode Y_G_fits.2.1 97 = .ok (.getfield 11, 3) := by decide +kernel
theorem d_G_fits_100 : decode Y_G_fits.2.1 100 = .ok (.iload_n 3, 1) := by decide +kernel
theorem d_G_fits_101 : decode Y_G_fits.2.1 101 = .ok (.aaload, 1) := by decide +kernel
theorem d_G_fits_102 : decode Y_G_fits.2.1 102 = .ok (.if_acmp .eq 19, 3) := by decide +kernel
theorem d_G_fits_105 : decode Y_G_fits.2.1 105 = .ok (.aload_n 1, 1) := by decide +kernel
theorem d_G_fits_106 : decode Y_G_fits.2.1 106 = .ok (.getfield 211, 3) := by decide +kernel
theorem d_G_fits_109 : decode Y_G_fits.2.1 109 = .ok (.aload_n 0, 1) := by decide +kernel
theorem d_G_fits_110 : decode Y_G_fits.2.1 110 = .ok (.getfield 11, 3) := by decide +kernel
theorem d_G_fits_113 : decode Y_G_fits.2.1 113 = .ok (.iload_n 3, 1) := by decide +kernel
theorem d_G_fits_114 : decode Y_G_fits.2.1 114 = .ok (.aaload, 1) := by decide +kernel
theorem d_G_fits_115 : decode Y_G_fits.2.1 115 = .ok (.invokevirtual 185, 3) := by decide +kernel
theorem d_G_fits_118 : decode Y_G_fits.2.1 118 = .ok (.ifCond .eq 7, 3) := by decide +kernel
theorem d_G_fits_121 : decode Y_G_fits.2.1 121 = .ok (.iconst 1, 1) := by decide +kernel
theorem d_G_fits_122 : decode Y_G_fits.2.1 122 = .ok (.goto 4, 3) := by decide +kernel
theorem d_G_fits_125 : decode Y_G_fits.2.1 125 = .ok (.iconst 0, 1) := by decide +kernel
theorem d_G_fits_126 : decode Y_G_fits.2.1 126 = .ok (.ireturn, 1) := by decide +kernel
theorem d_G_fits_127 : decode Y_G_fits.2.1 127 = .ok (.iconst 1, 1) := by decide +kernel
theorem d_G_fits_128 : decode Y_G_fits.2.1 128 = .ok (.ireturn, 1) := by decide +kernel
theorem d_G_fits_129 : decode Y_G_fits.2.1 129 = .ok (.iload_n 3, 1) := by decide +kernel
theorem d_G_fits_130 : decode Y_G_fits.2.1 130 = .ok (.iconst 0, 1) := by decide +kernel
theorem d_G_fits_131 : decode Y_G_fits.2.1 131 = .ok (.iconst 3, 1) := by decide +kernel
theorem d_G_fits_132 : decode Y_G_fits.2.1 132 = .ok (.invokestatic 165, 3) := by decide +kernel
theorem d_G_fits_135 : decode Y_G_fits.2.1 135 = .ok (.ifCond .eq 23, 3) := by decide +kernel
theorem d_G_fits_138 : decode Y_G_fits.2.1 138 = .ok (.aload_n 0, 1) := by decide +kernel
theorem d_G_fits_139 : decode Y_G_fits.2.1 139 = .ok (.getfield 17, 3) := by decide +kernel
theorem d_G_fits_142 : decode Y_G_fits.2.1 142 = .ok (.iload 4, 2) := by decide +kernel
theorem d_G_fits_144 : decode Y_G_fits.2.1 144 = .ok (.aaload, 1) := by decide +kernel
theorem d_G_fits_145 : decode Y_G_fits.2.1 145 = .ok (.getfield 68, 3) := by decide +kernel
theorem d_G_fits_148 : decode Y_G_fits.2.1 148 = .ok (.invokevirtual 214, 3) := by decide +kernel
theorem d_G_fits_151 : decode Y_G_fits.2.1 151 = .ok (.ifCond .eq 7, 3) := by decide +kernel
theorem d_G_fits_154 : decode Y_G_fits.2.1 154 = .ok (.iconst 1, 1) := by decide +kernel
theorem d_G_fits_155 : decode Y_G_fits.2.1 155 = .ok (.goto 4, 3) := by decide +kernel
theorem d_G_fits_158 : decode Y_G_fits.2.1 158 = .ok (.iconst 0, 1) := by decide +kernel
theorem d_G_fits_159 : decode Y_G_fits.2.1 159 = .ok (.ireturn, 1) := by decide +kernel
theorem d_G_fits_160 : decode Y_G_fits.2.1 160 = .ok (.iload_n 3, 1) := by decide +kernel
theorem d_G_fits_161 : decode Y_G_fits.2.1 161 = .ok (.iconst 0, 1) := by decide +kernel
theorem d_G_fits_162 : decode Y_G_fits.2.1 162 = .ok (.iconst 3, 1) := by decide +kernel
theorem d_G_fits_163 : decode Y_G_fits.2.1 163 = .ok (.invokestatic 165, 3) := by decide +kernel
theorem d_G_fits_166 : decode Y_G_fits.2.1 166 = .ok (.ireturn, 1) := by decide +kernel
theorem d_G_fits_167 : decode Y_G_fits.2.1 167 = .ok (.iload 4, 2) := by decide +kernel
theorem d_G_fits_169 : decode Y_G_fits.2.1 169 = .ok (.iconst 0, 1) := by decide +kernel
theorem d_G_fits_170 : decode Y_G_fits.2.1 170 = .ok (.bipush 9, 2) := by decide +kernel
theorem d_G_fits_172 : decode Y_G_fits.2.1 172 = .ok (.invokestatic 165, 3) := by decide +kernel
theorem d_G_fits_175 : decode Y_G_fits.2.1 175 = .ok (.ireturn, 1) := by decide +kernel
theorem d_G_fits_176 : decode Y_G_fits.2.1 176 = .ok (.iconst 0, 1) := by decide +kernel
theorem d_G_fits_177 : decode Y_G_fits.2.1 177 = .ok (.ireturn, 1) := by decide +kernel
theorem g_G_fits_0 {l : Launch} {D : DD} {d kc ks : Nat} {h : Hp} {Φ : Option AV → Hp → Prop} {x1 : Nat} {x2 : Int} {x3 : Int} {x4 : Int} (hM : GS h) (v : (x2 = (0 : Int) → (0 ≤ x3 ∧ x3 < 16 ∧ (xK h (xR h 21 (x3).toNat) = 3 ∧ ((¬ xR h (xR h 21 (x3).toNat) 1 = 1 → (Φ (some (vi (0 : Int))) h)) ∧ (xR h (xR h 21 (x3).toNat) 1 = 1 → (Φ (some (vi (1 : Int))) h)))))) ∧ (x2 = (1 : Int) → (Ev l D Y_G_within d 0 0 0 [some (vi x4), some (vi (0 : Int)), some (vi (9 : Int))] [] h (ki (fun r1 h1 => GS h1 ∧ ((r1 = 0 ∨ r1 = 1) ∧ Φ (some (vi r1)) h1))))) ∧ (x2 = (2 : Int) → (Ev l D Y_G_within d 0 0 0 [some (vi x4), some (vi (0 : Int)), some (vi (9 : Int))] [] h (ki (fun r2 h2 => GS h2 ∧ ((r2 = 0 → (Φ (some (vi (0 : Int))) h2)) ∧ (¬ r2 = 0 → (xK h2 x1 = 4 ∧ (xK h2 (xR h2 x1 1) = 3 ∧ (0 ≤ x3 ∧ x3 < 16 ∧ ((xR h2 (xR h2 x1 1) 2 = xR h2 21 (x3).toNat → (Φ (some (vi (1 : Int))) h2)) ∧ (¬ xR h2 (xR h2 x1 1) 2 = xR h2 21 (x3).toNat → (xK h2 x1 = 4 ∧ (0 ≤ x3 ∧ x3 < 16 ∧ (xK h2 (xR h2 x1 1) = 3 ∧ Ev l D Y_Type_hasFace d 0 0 0 [some (vr (xR h2 x1 1)), some (vr (xR h2 21 (x3).toNat)), none, none] [] h2 (ki (fun r3 h3 => GS h3 ∧ ((r3 = 0 → (Φ (some (vi (0 : Int))) h3)) ∧ (¬ r3 = 0 → (Φ (some (vi (1 : Int))) h3))))))))))))))))))) ∧ (x2 = (3 : Int) → (Ev l D Y_G_within d 0 0 0 [some (vi x4), some (vi (0 : Int)), some (vi (9 : Int))] [] h (ki (fun r4 h4 => GS h4 ∧ ((r4 = 0 ∨ r4 = 1) ∧ Φ (some (vi r4)) h4))))) ∧ (x2 = (4 : Int) → (Φ (some (vi (1 : Int))) h)) ∧ (x2 = (5 : Int) → (Ev l D Y_G_within d 0 0 0 [some (vi x3), some (vi (0 : Int)), some (vi (3 : Int))] [] h (ki (fun r5 h5 => GS h5 ∧ ((r5 = 0 → (Φ (some (vi (0 : Int))) h5)) ∧ (¬ r5 = 0 → (0 ≤ x4 ∧ x4 < 48 ∧ (xK h5 (xR h5 22 (x4).toNat) = 4 ∧ (xK h5 (xR h5 (xR h5 22 (x4).toNat) 3) = 31 ∧ Ev l D Y_Sort_isNamed d 0 0 0 [some (vr (xR h5 (xR h5 22 (x4).toNat) 3))] [] h5 (ki (fun r6 h6 => GS h6 ∧ ((r6 = 0 → (Φ (some (vi (0 : Int))) h6)) ∧ (¬ r6 = 0 → (Φ (some (vi (1 : Int))) h6)))))))))))))) ∧ (x2 = (6 : Int) → (Ev l D Y_G_within d 0 0 0 [some (vi x3), some (vi (0 : Int)), some (vi (3 : Int))] [] h (ki (fun r7 h7 => GS h7 ∧ ((r7 = 0 ∨ r7 = 1) ∧ Φ (some (vi r7)) h7))))) ∧ (x2 = (7 : Int) → (Ev l D Y_G_within d 0 0 0 [some (vi x4), some (vi (0 : Int)), some (vi (9 : Int))] [] h (ki (fun r8 h8 => GS h8 ∧ ((r8 = 0 ∨ r8 = 1) ∧ Φ (some (vi r8)) h8))))) ∧ (x2 < (0 : Int) ∨ (7 : Int) < x2 → (Φ (some (vi (0 : Int))) h))) : Ev l D Y_G_fits (d + 1) kc ks 0 [some (vr 20), some (vr x1), some (vi x2), some (vi x3), some (vi x4)] [] h Φ := by
  refine a_iload_n d_G_fits_0 rfl ?_
  obtain ⟨v0, v1, v2, v3, v4, v5, v6, v7, vd⟩ := v
  refine a_tab (tgt := 176) [48, 69, 78, 69, 127, 129, 160, 167] d_G_fits_1 (by decide) (by decide) (by decide) (fun c => ?_) (fun i t hi c => ?_)
  · have v := vd c; clear vd v0 v1 v2 v3 v4 v5 v6 v7
    refine a_iconst d_G_fits_176 ⟨by decide, by decide⟩ ?_
    exact a_zret d_G_fits_177 rfl (Or.inl rfl) v
  · match i, hi, c with
    | 0, hi, c =>
      obtain rfl : 48 = t := Option.some.inj hi
      have v := v0 (by omega); clear vd v0 v1 v2 v3 v4 v5 v6 v7
      refine a_aload_n d_G_fits_48 rfl ?_
      refine a_getAe fl_G_11 d_G_fits_49 (beq_iff_eq.mpr (KNG_20 hM)) (KRG_20_0 hM) ?_
      refine a_iload_n d_G_fits_52 rfl ?_
      obtain ⟨c2, c3, v⟩ := v
      refine a_aald d_G_fits_53 ⟨by rw [KNG_21 hM]; decide, by rw [KNG_21 hM]; decide⟩ c2 (lt_len (NNG_21 hM) c3) ?_
      obtain ⟨c4, v⟩ := v
      refine a_getRN fl_G_198 d_G_fits_54 (beq_iff_eq.mpr c4) ?_
      refine a_gets (k := 1) d_G_fits_57 (by decide +kernel) sl_G_202 ?_
      obtain ⟨vt, vf⟩ := v
      refine a_acmp_ne (tgt := 67) d_G_fits_60 (by decide) (fun c => ?_) (fun c => ?_)
      · have v := vt (c); clear vt vf
        refine a_iconst d_G_fits_67 ⟨by decide, by decide⟩ ?_
        exact a_zret d_G_fits_68 rfl (Or.inl rfl) v
      · have v := vf (c); clear vt vf
        refine a_iconst d_G_fits_63 ⟨by decide, by decide⟩ ?_
        refine a_goto (tgt := 68) d_G_fits_64 (by decide) ?_
        exact a_zret d_G_fits_68 rfl (Or.inr rfl) v
    | 1, hi, c =>
      obtain rfl : 69 = t := Option.some.inj hi
      have v := v1 (by omega); clear vd v0 v1 v2 v3 v4 v5 v6 v7
      refine a_iload d_G_fits_69 rfl ?_
      refine a_iconst d_G_fits_71 ⟨by decide, by decide⟩ ?_
      refine a_bipush d_G_fits_72 ⟨by decide, by decide⟩ (by decide) ?_
      refine b_callS (as := [vi x4, vi (0 : Int), vi (9 : Int)]) (st := []) (kc1 := 0) (ks1 := 0) (kc2 := kc) (ks2 := ks) (d' := d) ml_G_165 rfl d_G_fits_74 rfl rfl (Nat.le_of_ble_eq_true rfl) rfl (Nat.le_refl _) (by omega) (by omega) ?_
      refine Ev.mono v ?_
      intro u h1 v
      obtain ⟨r1, rfl, v⟩ := ki_el v
      obtain ⟨hm1, v⟩ := v
      change Ev l D Y_G_fits _ _ _ 77 [some (vr 20), some (vr x1), some (vi x2), some (vi x3), some (vi x4)] [vi r1] _ _
      exact a_zret d_G_fits_77 rfl v.1 v.2
    | 2, hi, c =>
      obtain rfl : 78 = t := Option.some.inj hi
      have v := v2 (by omega); clear vd v0 v1 v2 v3 v4 v5 v6 v7
      refine a_iload d_G_fits_78 rfl ?_
      refine a_iconst d_G_fits_80 ⟨by decide, by decide⟩ ?_
      refine a_bipush d_G_fits_81 ⟨by decide, by decide⟩ (by decide) ?_
      refine b_callS (as := [vi x4, vi (0 : Int), vi (9 : Int)]) (st := []) (kc1 := 0) (ks1 := 0) (kc2 := kc) (ks2 := ks) (d' := d) ml_G_165 rfl d_G_fits_83 rfl rfl (Nat.le_of_ble_eq_true rfl) rfl (Nat.le_refl _) (by omega) (by omega) ?_
      refine Ev.mono v ?_
      intro u h2 v
      obtain ⟨r2, rfl, v⟩ := ki_el v
      obtain ⟨hm2, v⟩ := v
      change Ev l D Y_G_fits _ _ _ 86 [some (vr 20), some (vr x1), some (vi x2), some (vi x3), some (vi x4)] [vi r2] _ _
      obtain ⟨vt, vf⟩ := v
      refine a_if_eq (tgt := 125) d_G_fits_86 (by decide) (fun c => ?_) (fun c => ?_)
      · have v := vt (c); clear vt vf
        refine a_iconst d_G_fits_125 ⟨by decide, by decide⟩ ?_
        exact a_zret d_G_fits_126 rfl (Or.inl rfl) v
      · have v := vf (c); clear vt vf
        refine a_aload_n d_G_fits_89 rfl ?_
        obtain ⟨c5, v⟩ := v
        refine a_getRN fl_G_211 d_G_fits_90 (beq_iff_eq.mpr c5) ?_
        obtain ⟨c6, v⟩ := v
        refine a_getRN fl_G_91 d_G_fits_93 (beq_iff_eq.mpr c6) ?_
        refine a_aload_n d_G_fits_96 rfl ?_
        refine a_getAe fl_G_11 d_G_fits_97 (beq_iff_eq.mpr (KNG_20 hm2)) (KRG_20_0 hm2) ?_
        refine a_iload_n d_G_fits_100 rfl ?_
        obtain ⟨c8, c9, v⟩ := v
        refine a_aald d_G_fits_101 ⟨by rw [KNG_21 hm2]; decide, by rw [KNG_21 hm2]; decide⟩ c8 (lt_len (NNG_21 hm2) c9) ?_
        obtain ⟨vt, vf⟩ := v
        refine a_acmp_eq (tgt := 121) d_G_fits_102 (by decide) (fun c => ?_) (fun c => ?_)
        · have v := vt (c); clear vt vf
          refine a_iconst d_G_fits_121 ⟨by decide, by decide⟩ ?_
          refine a_goto (tgt := 126) d_G_fits_122 (by decide) ?_
          exact a_zret d_G_fits_126 rfl (Or.inr rfl) v
        · have v := vf (c); clear vt vf
          refine a_aload_n d_G_fits_105 rfl ?_
          obtain ⟨c10, v⟩ := v
          refine a_getRN fl_G_211 d_G_fits_106 (beq_iff_eq.mpr c10) ?_
          refine a_aload_n d_G_fits_109 rfl ?_
          refine a_getAe fl_G_11 d_G_fits_110 (beq_iff_eq.mpr (KNG_20 hm2)) (KRG_20_0 hm2) ?_
          refine a_iload_n d_G_fits_113 rfl ?_
          obtain ⟨c12, c13, v⟩ := v
          refine a_aald d_G_fits_114 ⟨by rw [KNG_21 hm2]; decide, by rw [KNG_21 hm2]; decide⟩ c12 (lt_len (NNG_21 hm2) c13) ?_
          obtain ⟨c14, v⟩ := v
          refine b_callV (as := [vr (xR h2 21 (x3).toNat)]) (b := (xR h2 x1 1)) (st := []) (kd := 3) (kc1 := 0) (ks1 := 0) (kc2 := kc) (ks2 := ks) (d' := d) ml_G_185 rfl d_G_fits_115 rfl rfl (Nat.le_of_ble_eq_true rfl) (by decide) rfl (Nat.le_refl _) (by omega) (by omega) c14 ?_
          refine Ev.mono v ?_
          intro u h3 v
          obtain ⟨r3, rfl, v⟩ := ki_el v
          obtain ⟨hm3, v⟩ := v
          change Ev l D Y_G_fits _ _ _ 118 [some (vr 20), some (vr x1), some (vi x2), some (vi x3), some (vi x4)] [vi r3] _ _
          obtain ⟨vt, vf⟩ := v
          refine a_if_eq (tgt := 125) d_G_fits_118 (by decide) (fun c => ?_) (fun c => ?_)
          · have v := vt (c); clear vt vf
            refine a_iconst d_G_fits_125 ⟨by decide, by decide⟩ ?_
            exact a_zret d_G_fits_126 rfl (Or.inl rfl) v
          · have v := vf (c); clear vt vf
            refine a_iconst d_G_fits_121 ⟨by decide, by decide⟩ ?_
            refine a_goto (tgt := 126) d_G_fits_122 (by decide) ?_
            exact a_zret d_G_fits_126 rfl (Or.inr rfl) v
    | 3, hi, c =>
      obtain rfl : 69 = t := Option.some.inj hi
      have v := v3 (by omega); clear vd v0 v1 v2 v3 v4 v5 v6 v7
      refine a_iload d_G_fits_69 rfl ?_
      refine a_iconst d_G_fits_71 ⟨by decide, by decide⟩ ?_
      refine a_bipush d_G_fits_72 ⟨by decide, by decide⟩ (by decide) ?_
      refine b_callS (as := [vi x4, vi (0 : Int), vi (9 : Int)]) (st := []) (kc1 := 0) (ks1 := 0) (kc2 := kc) (ks2 := ks) (d' := d) ml_G_165 rfl d_G_fits_74 rfl rfl (Nat.le_of_ble_eq_true rfl) rfl (Nat.le_refl _) (by omega) (by omega) ?_
      refine Ev.mono v ?_
      intro u h4 v
      obtain ⟨r4, rfl, v⟩ := ki_el v
      obtain ⟨hm4, v⟩ := v
      change Ev l D Y_G_fits _ _ _ 77 [some (vr 20), some (vr x1), some (vi x2), some (vi x3), some (vi x4)] [vi r4] _ _
      exact a_zret d_G_fits_77 rfl v.1 v.2
    | 4, hi, c =>
      obtain rfl : 127 = t := Option.some.inj hi
      have v := v4 (by omega); clear vd v0 v1 v2 v3 v4 v5 v6 v7
      refine a_iconst d_G_fits_127 ⟨by decide, by decide⟩ ?_
      exact a_zret d_G_fits_128 rfl (Or.inr rfl) v
    | 5, hi, c =>
      obtain rfl : 129 = t := Option.some.inj hi
      have v := v5 (by omega); clear vd v0 v1 v2 v3 v4 v5 v6 v7
      refine a_iload_n d_G_fits_129 rfl ?_
      refine a_iconst d_G_fits_130 ⟨by decide, by decide⟩ ?_
      refine a_iconst d_G_fits_131 ⟨by decide, by decide⟩ ?_
      refine b_callS (as := [vi x3, vi (0 : Int), vi (3 : Int)]) (st := []) (kc1 := 0) (ks1 := 0) (kc2 := kc) (ks2 := ks) (d' := d) ml_G_165 rfl d_G_fits_132 rfl rfl (Nat.le_of_ble_eq_true rfl) rfl (Nat.le_refl _) (by omega) (by omega) ?_
      refine Ev.mono v ?_
      intro u h5 v
      obtain ⟨r5, rfl, v⟩ := ki_el v
      obtain ⟨hm5, v⟩ := v
      change Ev l D Y_G_fits _ _ _ 135 [some (vr 20), some (vr x1), some (vi x2), some (vi x3), some (vi x4)] [vi r5] _ _
      obtain ⟨vt, vf⟩ := v
      refine a_if_eq (tgt := 158) d_G_fits_135 (by decide) (fun c => ?_) (fun c => ?_)
      · have v := vt (c); clear vt vf
        refine a_iconst d_G_fits_158 ⟨by decide, by decide⟩ ?_
        exact a_zret d_G_fits_159 rfl (Or.inl rfl) v
      · have v := vf (c); clear vt vf
        refine a_aload_n d_G_fits_138 rfl ?_
        refine a_getAe fl_G_17 d_G_fits_139 (beq_iff_eq.mpr (KNG_20 hm5)) (KRG_20_2 hm5) ?_
        refine a_iload d_G_fits_142 rfl ?_
        obtain ⟨c16, c17, v⟩ := v
        refine a_aald d_G_fits_144 ⟨by rw [KNG_22 hm5]; decide, by rw [KNG_22 hm5]; decide⟩ c16 (lt_len (NNG_22 hm5) c17) ?_
        obtain ⟨c18, v⟩ := v
        refine a_getRN fl_G_68 d_G_fits_145 (beq_iff_eq.mpr c18) ?_
        obtain ⟨c19, v⟩ := v
        refine b_callV (as := []) (b := (xR h5 (xR h5 22 (x4).toNat) 3)) (st := []) (kd := 31) (kc1 := 0) (ks1 := 0) (kc2 := kc) (ks2 := ks) (d' := d) ml_G_214 rfl d_G_fits_148 rfl rfl (Nat.le_of_ble_eq_true rfl) (by decide) rfl (Nat.le_refl _) (by omega) (by omega) c19 ?_
        refine Ev.mono v ?_
        intro u h6 v
        obtain ⟨r6, rfl, v⟩ := ki_el v
        obtain ⟨hm6, v⟩ := v
        change Ev l D Y_G_fits _ _ _ 151 [some (vr 20), some (vr x1), some (vi x2), some (vi x3), some (vi x4)] [vi r6] _ _
        obtain ⟨vt, vf⟩ := v
        refine a_if_eq (tgt := 158) d_G_fits_151 (by decide) (fun c => ?_) (fun c => ?_)
        · have v := vt (c); clear vt vf
          refine a_iconst d_G_fits_158 ⟨by decide, by decide⟩ ?_
          exact a_zret d_G_fits_159 rfl (Or.inl rfl) v
        · have v := vf (c); clear vt vf
          refine a_iconst d_G_fits_154 ⟨by decide, by decide⟩ ?_
          refine a_goto (tgt := 159) d_G_fits_155 (by decide) ?_
          exact a_zret d_G_fits_159 rfl (Or.inr rfl) v
    | 6, hi, c =>
      obtain rfl : 160 = t := Option.some.inj hi
      have v := v6 (by omega); clear vd v0 v1 v2 v3 v4 v5 v6 v7
      refine a_iload_n d_G_fits_160 rfl ?_
      refine a_iconst d_G_fits_161 ⟨by decide, by decide⟩ ?_
      refine a_iconst d_G_fits_162 ⟨by decide, by decide⟩ ?_
      refine b_callS (as := [vi x3, vi (0 : Int), vi (3 : Int)]) (st := []) (kc1 := 0) (ks1 := 0) (kc2 := kc) (ks2 := ks) (d' := d) ml_G_165 rfl d_G_fits_163 rfl rfl (Nat.le_of_ble_eq_true rfl) rfl (Nat.le_refl _) (by omega) (by omega) ?_
      refine Ev.mono v ?_
      intro u h7 v
      obtain ⟨r7, rfl, v⟩ := ki_el v
      obtain ⟨hm7, v⟩ := v
      change Ev l D Y_G_fits _ _ _ 166 [some (vr 20), some (vr x1), some (vi x2), some (vi x3), some (vi x4)] [vi r7] _ _
      exact a_zret d_G_fits_166 rfl v.1 v.2
    | 7, hi, c =>
      obtain rfl : 167 = t := Option.some.inj hi
      have v := v7 (by omega); clear vd v0 v1 v2 v3 v4 v5 v6 v7
      refine a_iload d_G_fits_167 rfl ?_
      refine a_iconst d_G_fits_169 ⟨by decide, by decide⟩ ?_
      refine a_bipush d_G_fits_170 ⟨by decide, by decide⟩ (by decide) ?_
      refine b_callS (as := [vi x4, vi (0 : Int), vi (9 : Int)]) (st := []) (kc1 := 0) (ks1 := 0) (kc2 := kc) (ks2 := ks) (d' := d) ml_G_165 rfl d_G_fits_172 rfl rfl (Nat.le_of_ble_eq_true rfl) rfl (Nat.le_refl _) (by omega) (by omega) ?_
      refine Ev.mono v ?_
      intro u h8 v
      obtain ⟨r8, rfl, v⟩ := ki_el v
      obtain ⟨hm8, v⟩ := v
      change Ev l D Y_G_fits _ _ _ 175 [some (vr 20), some (vr x1), some (vi x2), some (vi x3), some (vi x4)] [vi r8] _ _
      exact a_zret d_G_fits_175 rfl v.1 v.2
    | i + 8, hi, c => exact absurd hi (by simp)
theorem d_G_mkop_0 : decode Y_G_mkop.2.1 0 = .ok (.aload_n 1, 1) := by decide +kernel
theorem d_G_mkop_1 : decode Y_G_mkop.2.1 1 = .ok (.getfield 142, 3) := by decide +kernel
theorem d_G_mkop_4 : decode Y_G_mkop.2.1 4 = .ok (.istore 5, 2) := by decide +kernel
theorem d_G_mkop_6 : decode Y_G_mkop.2.1 6 = .ok (.iload_n 2, 1) := by decide +kernel
theorem d_G_mkop_7 : decode Y_G_mkop.2.1 7 = .ok (.tableswitch 165 0 6 #[41, 58, 77, 96, 115, 134, 153], 41) := by decide +kernel
theorem d_G_mkop_48 : decode Y_G_mkop.2.1 48 = .ok (.new 217, 3) := by decide +kernel
theorem d_G_mkop_51 : decode Y_G_mkop.2.1 51 = .ok (.dup, 1) := by decide +kernel
theorem d_G_mkop_52 : decode Y_G_mkop.2.1 52 = .ok (.iload 5, 2) := by decide +kernel
theorem d_G_mkop_54 : decode Y_G_mkop.2.1 54 = .ok (.aload_n 1, 1) := by decide +kernel
theorem d_G_mkop_55 : decode Y_G_mkop.2.1 55 = .ok (.aload_n 0, 1) := by decide +kernel
theorem d_G_mkop_56 : decode Y_G_mkop.2.1 56 = .ok (.getfield 11, 3) := by decide +kernel
theorem d_G_mkop_59 : decode Y_G_mkop.2.1 59 = .ok (.iload_n 3, 1) := by decide +kernel
theorem d_G_mkop_60 : decode Y_G_mkop.2.1 60 = .ok (.aaload, 1) := by decide +kernel
theorem d_G_mkop_61 : decode Y_G_mkop.2.1 61 = .ok (.invokespecial 219, 3) := by decide +kernel
theorem d_G_mkop_64 : decode Y_G_mkop.2.1 64 = .ok (.areturn, 1) := by decide +kernel
theorem d_G_mkop_65 : decode Y_G_mkop.2.1 65 = .ok (.new 222, 3) := by decide +kernel
theorem d_G_mkop_68 : decode Y_G_mkop.2.1 68 = .ok (.dup, 1) := by decide +kernel
theorem d_G_mkop_69 : decode Y_G_mkop.2.1 69 = .ok (.iload 5, 2) := by decide +kernel
theorem d_G_mkop_71 : decode Y_G_mkop.2.1 71 = .ok (.aload_n 1, 1) := by decide +kernel
theorem d_G_mkop_72 : decode Y_G_mkop.2.1 72 = .ok (.aload_n 0, 1) := by decide +kernel
theorem d_G_mkop_73 : decode Y_G_mkop.2.1 73 = .ok (.getfield 11, 3) := by decide +kernel
theorem d_G_mkop_76 : decode Y_G_mkop.2.1 76 = .ok (.iload_n 3, 1) := by decide +kernel
theorem d_G_mkop_77 : decode Y_G_mkop.2.1 77 = .ok (.aaload, 1) := by decide +kernel
theorem d_G_mkop_78 : decode Y_G_mkop.2.1 78 = .ok (.iload 4, 2) := by decide +kernel
theorem d_G_mkop_80 : decode Y_G_mkop.2.1 80 = .ok (.invokespecial 224, 3) := by decide +kernel
theorem d_G_mkop_83 : decode Y_G_mkop.2.1 83 = .ok (.areturn, 1) := by decide +kernel
theorem d_G_mkop_84 : decode Y_G_mkop.2.1 84 = .ok (.new 227, 3) := by decide +kernel
theorem d_G_mkop_87 : decode Y_G_mkop.2.1 87 = .ok (.dup, 1) := by decide +kernel
theorem d_G_mkop_88 : decode Y_G_mkop.2.1 88 = .ok (.iload 5, 2) := by decide +kernel
theorem d_G_mkop_90 : decode Y_G_mkop.2.1 90 = .ok (.aload_n 1, 1) := by decide +kernel
theorem d_G_mkop_91 : decode Y_G_mkop.2.1 91 = .ok (.aload_n 0, 1) := by decide +kernel
theorem d_G_mkop_92 : decode Y_G_mkop.2.1 92 = .ok (.getfield 11, 3) := by decide +kernel
theorem d_G_mkop_95 : decode Y_G_mkop.2.1 95 = .ok (.iload_n 3, 1) := by decide +kernel
theorem d_G_mkop_96 : decode Y_G_mkop.2.1 96 = .ok (.aaload, 1) := by decide +kernel
theorem d_G_mkop_97 : decode Y_G_mkop.2.1 97 = .ok (.iload 4, 2) := by decide +kernel
theorem d_G_mkop_99 : decode Y_G_mkop.2.1 99 = .ok (.invokespecial 229, 3) := by decide +kernel
theorem d_G_mkop_102 : decode Y_G_mkop.2.1 102 = .ok (.areturn, 1) := by decide +kernel
theorem d_G_mkop_103 : decode Y_G_mkop.2.1 103 = .ok (.new 230, 3) := by decide +kernel
theorem d_G_mkop_106 : decode Y_G_mkop.2.1 106 = .ok (.dup, 1) := by decide +kernel
theorem d_G_mkop_107 : decode Y_G_mkop.2.1 107 = .ok (.iload 5, 2) := by decide +kernel
theorem d_G_mkop_109 : decode Y_G_mkop.2.1 109 = .ok (.aload_n 1, 1) := by decide +kernel
theorem d_G_mkop_110 : decode Y_G_mkop.2.1 110 = .ok (.aload_n 0, 1) := by decide +kernel
theorem d_G_mkop_111 : decode Y_G_mkop.2.1 111 = .ok (.getfield 11, 3) := by decide +kernel
theorem d_G_mkop_114 : decode Y_G_mkop.2.1 114 = .ok (.iload_n 3, 1) := by decide +kernel
theorem d_G_mkop_115 : decode Y_G_mkop.2.1 115 = .ok (.aaload, 1) := by decide +kernel
theorem d_G_mkop_116 : decode Y_G_mkop.2.1 116 = .ok (.iload 4, 2) := by decide +kernel
theorem d_G_mkop_118 : decode Y_G_mkop.2.1 118 = .ok (.invokespecial 232, 3) := by decide +kernel
theorem d_G_mkop_121 : decode Y_G_mkop.2.1 121 = .ok (.areturn, 1) := by decide +kernel
theorem d_G_mkop_122 : decode Y_G_mkop.2.1 122 = .ok (.new 222, 3) := by decide +kernel
theorem d_G_mkop_125 : decode Y_G_mkop.2.1 125 = .ok (.dup, 1) := by decide +kernel
theorem d_G_mkop_126 : decode Y_G_mkop.2.1 126 = .ok (.iload 5, 2) := by decide +kernel
theorem d_G_mkop_128 : decode Y_G_mkop.2.1 128 = .ok (.aload_n 1, 1) := by decide +kernel
theorem d_G_mkop_129 : decode Y_G_mkop.2.1 129 = .ok (.aload_n 0, 1) := by decide +kernel
theorem d_G_mkop_130 : decode Y_G_mkop.2.1 130 = .ok (.getfield 11, 3) := by decide +kernel
theorem d_G_mkop_133 : decode Y_G_mkop.2.1 133 = .ok (.iload_n 3, 1) := by decide +kernel
theorem d_G_mkop_134 : decode Y_G_mkop.2.1 134 = .ok (.aaload, 1) := by decide +kernel
theorem d_G_mkop_135 : decode Y_G_mkop.2.1 135 = .ok (.bipush 9, 2) := by decide +kernel
theorem d_G_mkop_137 : decode Y_G_mkop.2.1 137 = .ok (.invokespecial 224, 3) := by decide +kernel
theorem d_G_mkop_140 : decode Y_G_mkop.2.1 140 = .ok (.areturn, 1) := by decide +kernel
theorem d_G_mkop_141 : decode Y_G_mkop.2.1 141 = .ok (.new 233, 3) := by decide +kernel
theorem d_G_mkop_144 : decode Y_G_mkop.2.1 144 = .ok (.dup, 1) := by decide +kernel
theorem d_G_mkop_145 : decode Y_G_mkop.2.1 145 = .ok (.iload 5, 2) := by decide +kernel
theorem d_G_mkop_147 : decode Y_G_mkop.2.1 147 = .ok (.aload_n 1, 1) := by decide +kernel
theorem d_G_mkop_148 : decode Y_G_mkop.2.1 148 = .ok (.iload_n 3, 1) := by decide +kernel
theorem d_G_mkop_149 : decode Y_G_mkop.2.1 149 = .ok (.aload_n 0, 1) := by decide +kernel
theorem d_G_mkop_150 : decode Y_G_mkop.2.1 150 = .ok (.getfield 17, 3) := by decide +kernel
theorem d_G_mkop_153 : decode Y_G_mkop.2.1 153 = .ok (.iload 4, 2) := by decide +kernel
theorem d_G_mkop_155 : decode Y_G_mkop.2.1 155 = .ok (.aaload, 1) := by decide +kernel
theorem d_G_mkop_156 : decode Y_G_mkop.2.1 156 = .ok (.invokespecial 235, 3) := by decide +kernel
theorem d_G_mkop_159 : decode Y_G_mkop.2.1 159 = .ok (.areturn, 1) := by decide +kernel
theorem d_G_mkop_160 : decode Y_G_mkop.2.1 160 = .ok (.new 238, 3) := by decide +kernel
theorem d_G_mkop_163 : decode Y_G_mkop.2.1 163 = .ok (.dup, 1) := by decide +kernel
theorem d_G_mkop_164 : decode Y_G_mkop.2.1 164 = .ok (.iload 5, 2) := by decide +kernel
theorem d_G_mkop_166 : decode Y_G_mkop.2.1 166 = .ok (.aload_n 1, 1) := by decide +kernel
theorem d_G_mkop_167 : decode Y_G_mkop.2.1 167 = .ok (.iload_n 3, 1) := by decide +kernel
theorem d_G_mkop_168 : decode Y_G_mkop.2.1 168 = .ok (.invokespecial 240, 3) := by decide +kernel
theorem d_G_mkop_171 : decode Y_G_mkop.2.1 171 = .ok (.areturn, 1) := by decide +kernel
theorem d_G_mkop_172 : decode Y_G_mkop.2.1 172 = .ok (.new 243, 3) := by decide +kernel
theorem d_G_mkop_175 : decode Y_G_mkop.2.1 175 = .ok (.dup, 1) := by decide +kernel
theorem d_G_mkop_176 : decode Y_G_mkop.2.1 176 = .ok (.iload 5, 2) := by decide +kernel
theorem d_G_mkop_178 : decode Y_G_mkop.2.1 178 = .ok (.aload_n 1, 1) := by decide +kernel
theorem d_G_mkop_179 : decode Y_G_mkop.2.1 179 = .ok (.iload 4, 2) := by decide +kernel
theorem d_G_mkop_181 : decode Y_G_mkop.2.1 181 = .ok (.invokespecial 245, 3) := by decide +kernel
theorem d_G_mkop_184 : decode Y_G_mkop.2.1 184 = .ok (.areturn, 1) := by decide +kernel
theorem g_G_mkop_0 {l : Launch} {D : DD} {d kc ks : Nat} {h : Hp} {Φ : Option AV → Hp → Prop} {x1 : Nat} {x2 : Int} {x3 : Int} {x4 : Int} (hM : GS h) (v : xK h x1 = 4 ∧ ((x2 = (0 : Int) → (∃ a1 : Nat, 16 ≤ a1 ∧ xK h a1 = 0 ∧ (∀ h1 : Hp, h1 = nw h a1 5 0 → (GS h1 ∧ (0 ≤ x3 ∧ x3 < 16 ∧ (¬ xK h1 a1 = 0 ∧ Ev l D Y_New_init d 2 52 0 [some (vr a1), some (vi (xI h x1 5)), some (vr x1), some (vr (xR h1 21 (x3).toNat))] [] h1 (kv (fun h2 => GS h2 ∧ (Φ (some (vr a1)) h2))))))))) ∧ (x2 = (1 : Int) → (∃ a2 : Nat, 16 ≤ a2 ∧ xK h a2 = 0 ∧ (∀ h3 : Hp, h3 = nw h a2 6 0 → (GS h3 ∧ (0 ≤ x3 ∧ x3 < 16 ∧ (¬ xK h3 a2 = 0 ∧ Ev l D Y_Call_init d 2 52 0 [some (vr a2), some (vi (xI h x1 5)), some (vr x1), some (vr (xR h3 21 (x3).toNat)), some (vi x4)] [] h3 (kv (fun h4 => GS h4 ∧ (Φ (some (vr a2)) h4))))))))) ∧ (x2 = (2 : Int) → (∃ a3 : Nat, 16 ≤ a3 ∧ xK h a3 = 0 ∧ (∀ h5 : Hp, h5 = nw h a3 7 0 → (GS h5 ∧ (0 ≤ x3 ∧ x3 < 16 ∧ (¬ xK h5 a3 = 0 ∧ Ev l D Y_Up_init d 2 52 0 [some (vr a3), some (vi (xI h x1 5)), some (vr x1), some (vr (xR h5 21 (x3).toNat)), some (vi x4)] [] h5 (kv (fun h6 => GS h6 ∧ (Φ (some (vr a3)) h6))))))))) ∧ (x2 = (3 : Int) → (∃ a4 : Nat, 16 ≤ a4 ∧ xK h a4 = 0 ∧ (∀ h7 : Hp, h7 = nw h a4 8 0 → (GS h7 ∧ (0 ≤ x3 ∧ x3 < 16 ∧ (¬ xK h7 a4 = 0 ∧ Ev l D Y_Static_init d 2 52 0 [some (vr a4), some (vi (xI h x1 5)), some (vr x1), some (vr (xR h7 21 (x3).toNat)), some (vi x4)] [] h7 (kv (fun h8 => GS h8 ∧ (Φ (some (vr a4)) h8))))))))) ∧ (x2 = (4 : Int) → (∃ a5 : Nat, 16 ≤ a5 ∧ xK h a5 = 0 ∧ (∀ h9 : Hp, h9 = nw h a5 6 0 → (GS h9 ∧ (0 ≤ x3 ∧ x3 < 16 ∧ (¬ xK h9 a5 = 0 ∧ Ev l D Y_Call_init d 2 52 0 [some (vr a5), some (vi (xI h x1 5)), some (vr x1), some (vr (xR h9 21 (x3).toNat)), some (vi (9 : Int))] [] h9 (kv (fun h10 => GS h10 ∧ (Φ (some (vr a5)) h10))))))))) ∧ (x2 = (5 : Int) → (∃ a6 : Nat, 16 ≤ a6 ∧ xK h a6 = 0 ∧ (∀ h11 : Hp, h11 = nw h a6 9 0 → (GS h11 ∧ (0 ≤ x4 ∧ x4 < 48 ∧ (¬ xK h11 a6 = 0 ∧ Ev l D Y_Put_init d 2 52 0 [some (vr a6), some (vi (xI h x1 5)), some (vr x1), some (vi x3), some (vr (xR h11 22 (x4).toNat))] [] h11 (kv (fun h12 => GS h12 ∧ (Φ (some (vr a6)) h12))))))))) ∧ (x2 = (6 : Int) → (∃ a7 : Nat, 16 ≤ a7 ∧ xK h a7 = 0 ∧ (∀ h13 : Hp, h13 = nw h a7 10 0 → (GS h13 ∧ (¬ xK h13 a7 = 0 ∧ Ev l D Y_Out_init d 2 52 0 [some (vr a7), some (vi (xI h x1 5)), some (vr x1), some (vi x3)] [] h13 (kv (fun h14 => GS h14 ∧ (Φ (some (vr a7)) h14)))))))) ∧ (x2 < (0 : Int) ∨ (6 : Int) < x2 → (∃ a8 : Nat, 16 ≤ a8 ∧ xK h a8 = 0 ∧ (∀ h15 : Hp, h15 = nw h a8 11 0 → (GS h15 ∧ (¬ xK h15 a8 = 0 ∧ Ev l D Y_Any_init d 2 52 0 [some (vr a8), some (vi (xI h x1 5)), some (vr x1), some (vi x4)] [] h15 (kv (fun h16 => GS h16 ∧ (Φ (some (vr a8)) h16)))))))))) : Ev l D Y_G_mkop (d + 1) (kc + 3) (ks + 58) 0 [some (vr 20), some (vr x1), some (vi x2), some (vi x3), some (vi x4), none] [] h Φ := by
  refine a_aload_n d_G_mkop_0 rfl ?_
  obtain ⟨c1, v⟩ := v
  refine a_getIN fl_G_142 d_G_mkop_1 (beq_iff_eq.mpr c1) ?_
  refine a_istore (L' := [some (vr 20), some (vr x1), some (vi x2), some (vi x3), some (vi x4), some (vi (xI h x1 5))]) d_G_mkop_4 (Nat.le_of_ble_eq_true rfl) rfl rfl ?_
  refine a_iload_n d_G_mkop_6 rfl ?_
  obtain ⟨v0, v1, v2, v3, v4, v5, v6, vd⟩ := v
  refine a_tab (tgt := 172) [48, 65, 84, 103, 122, 141, 160] d_G_mkop_7 (by decide) (by decide) (by decide) (fun c => ?_) (fun i t hi c => ?_)
  · have v := vd c; clear vd v0 v1 v2 v3 v4 v5 v6
    obtain ⟨a8, c41, c42, v⟩ := v
    have v := v _ rfl
    refine a_new (kd := 11) (kc' := kc + 2) (ks' := ks + 53) a8 d_G_mkop_172 (by decide) cl_G_243 (by omega) (nfle (n := 5) rfl (by omega)) c41 c42 ?_
    obtain ⟨hm15, v⟩ := v
    refine a_dup d_G_mkop_175 rfl ?_
    refine a_iload d_G_mkop_176 rfl ?_
    refine a_aload_n d_G_mkop_178 rfl ?_
    refine a_iload d_G_mkop_179 rfl ?_
    obtain ⟨c43, v⟩ := v
    refine b_callI (as := [vi (xI h x1 5), vr x1, vi x4]) (b := a8) (st := [vr a8]) (kc1 := 2) (ks1 := 52) (kc2 := kc) (ks2 := ks + 1) (d' := d) ml_G_245 rfl d_G_mkop_181 rfl rfl (Nat.le_of_ble_eq_true rfl) rfl (Nat.le_refl _) (by omega) (by omega) c43 ?_
    refine Ev.mono v ?_
    intro u h16 v
    obtain ⟨rfl, v⟩ := kv_el v
    obtain ⟨hm16, v⟩ := v
    change Ev l D Y_G_mkop _ _ _ 184 [some (vr 20), some (vr x1), some (vi x2), some (vi x3), some (vi x4), some (vi (xI h x1 5))] [vr a8] _ _
    exact a_aret d_G_mkop_184 rfl (Or.inl ⟨_, rfl⟩) v
  · match i, hi, c with
    | 0, hi, c =>
      obtain rfl : 48 = t := Option.some.inj hi
      have v := v0 (by omega); clear vd v0 v1 v2 v3 v4 v5 v6
      obtain ⟨a1, c2, c3, v⟩ := v
      have v := v _ rfl
      refine a_new (kd := 5) (kc' := kc + 2) (ks' := ks + 53) a1 d_G_mkop_48 (by decide) cl_G_217 (by omega) (nfle (n := 5) rfl (by omega)) c2 c3 ?_
      obtain ⟨hm1, v⟩ := v
      refine a_dup d_G_mkop_51 rfl ?_
      refine a_iload d_G_mkop_52 rfl ?_
      refine a_aload_n d_G_mkop_54 rfl ?_
      refine a_aload_n d_G_mkop_55 rfl ?_
      refine a_getAe fl_G_11 d_G_mkop_56 (beq_iff_eq.mpr (KNG_20 hm1)) (KRG_20_0 hm1) ?_
      refine a_iload_n d_G_mkop_59 rfl ?_
      obtain ⟨c5, c6, v⟩ := v
      refine a_aald d_G_mkop_60 ⟨by rw [KNG_21 hm1]; decide, by rw [KNG_21 hm1]; decide⟩ c5 (lt_len (NNG_21 hm1) c6) ?_
      obtain ⟨c7, v⟩ := v
      refine b_callI (as := [vi (xI h x1 5), vr x1, vr (xR (nw h a1 5 0) 21 (x3).toNat)]) (b := a1) (st := [vr a1]) (kc1 := 2) (ks1 := 52) (kc2 := kc) (ks2 := ks + 1) (d' := d) ml_G_219 rfl d_G_mkop_61 rfl rfl (Nat.le_of_ble_eq_true rfl) rfl (Nat.le_refl _) (by omega) (by omega) c7 ?_
      refine Ev.mono v ?_
      intro u h2 v
      obtain ⟨rfl, v⟩ := kv_el v
      obtain ⟨hm2, v⟩ := v
      change Ev l D Y_G_mkop _ _ _ 64 [some (vr 20), some (vr x1), some (vi x2), some (vi x3), some (vi x4), some (vi (xI h x1 5))] [vr a1] _ _
      exact a_aret d_G_mkop_64 rfl (Or.inl ⟨_, rfl⟩) v
    | 1, hi, c =>
      obtain rfl : 65 = t := Option.some.inj hi
      have v := v1 (by omega); clear vd v0 v1 v2 v3 v4 v5 v6
      obtain ⟨a2, c8, c9, v⟩ := v
      have v := v _ rfl
      refine a_new (kd := 6) (kc' := kc + 2) (ks' := ks + 52) a2 d_G_mkop_65 (by decide) cl_G_222 (by omega) (nfle (n := 6) rfl (by omega)) c8 c9 ?_
      obtain ⟨hm3, v⟩ := v
      refine a_dup d_G_mkop_68 rfl ?_
      refine a_iload d_G_mkop_69 rfl ?_
      refine a_aload_n d_G_mkop_71 rfl ?_
      refine a_aload_n d_G_mkop_72 rfl ?_
      refine a_getAe fl_G_11 d_G_mkop_73 (beq_iff_eq.mpr (KNG_20 hm3)) (KRG_20_0 hm3) ?_
      refine a_iload_n d_G_mkop_76 rfl ?_
      obtain ⟨c11, c12, v⟩ := v
      refine a_aald d_G_mkop_77 ⟨by rw [KNG_21 hm3]; decide, by rw [KNG_21 hm3]; decide⟩ c11 (lt_len (NNG_21 hm3) c12) ?_
      refine a_iload d_G_mkop_78 rfl ?_
      obtain ⟨c13, v⟩ := v
      refine b_callI (as := [vi (xI h x1 5), vr x1, vr (xR (nw h a2 6 0) 21 (x3).toNat), vi x4]) (b := a2) (st := [vr a2]) (kc1 := 2) (ks1 := 52) (kc2 := kc) (ks2 := ks) (d' := d) ml_G_224 rfl d_G_mkop_80 rfl rfl (Nat.le_of_ble_eq_true rfl) rfl (Nat.le_refl _) (by omega) (by omega) c13 ?_
      refine Ev.mono v ?_
      intro u h4 v
      obtain ⟨rfl, v⟩ := kv_el v
      obtain ⟨hm4, v⟩ := v
      change Ev l D Y_G_mkop _ _ _ 83 [some (vr 20), some (vr x1), some (vi x2), some (vi x3), some (vi x4), some (vi (xI h x1 5))] [vr a2] _ _
      exact a_aret d_G_mkop_83 rfl (Or.inl ⟨_, rfl⟩) v
    | 2, hi, c =>
      obtain rfl : 84 = t := Option.some.inj hi
      have v := v2 (by omega); clear vd v0 v1 v2 v3 v4 v5 v6
      obtain ⟨a3, c14, c15, v⟩ := v
      have v := v _ rfl
      refine a_new (kd := 7) (kc' := kc + 2) (ks' := ks + 52) a3 d_G_mkop_84 (by decide) cl_G_227 (by omega) (nfle (n := 6) rfl (by omega)) c14 c15 ?_
      obtain ⟨hm5, v⟩ := v
      refine a_dup d_G_mkop_87 rfl ?_
      refine a_iload d_G_mkop_88 rfl ?_
      refine a_aload_n d_G_mkop_90 rfl ?_
      refine a_aload_n d_G_mkop_91 rfl ?_
      refine a_getAe fl_G_11 d_G_mkop_92 (beq_iff_eq.mpr (KNG_20 hm5)) (KRG_20_0 hm5) ?_
      refine a_iload_n d_G_mkop_95 rfl ?_
      obtain ⟨c17, c18, v⟩ := v
      refine a_aald d_G_mkop_96 ⟨by rw [KNG_21 hm5]; decide, by rw [KNG_21 hm5]; decide⟩ c17 (lt_len (NNG_21 hm5) c18) ?_
      refine a_iload d_G_mkop_97 rfl ?_
      obtain ⟨c19, v⟩ := v
      refine b_callI (as := [vi (xI h x1 5), vr x1, vr (xR (nw h a3 7 0) 21 (x3).toNat), vi x4]) (b := a3) (st := [vr a3]) (kc1 := 2) (ks1 := 52) (kc2 := kc) (ks2 := ks) (d' := d) ml_G_229 rfl d_G_mkop_99 rfl rfl (Nat.le_of_ble_eq_true rfl) rfl (Nat.le_refl _) (by omega) (by omega) c19 ?_
      refine Ev.mono v ?_
      intro u h6 v
      obtain ⟨rfl, v⟩ := kv_el v
      obtain ⟨hm6, v⟩ := v
      change Ev l D Y_G_mkop _ _ _ 102 [some (vr 20), some (vr x1), some (vi x2), some (vi x3), some (vi x4), some (vi (xI h x1 5))] [vr a3] _ _
      exact a_aret d_G_mkop_102 rfl (Or.inl ⟨_, rfl⟩) v
    | 3, hi, c =>
      obtain rfl : 103 = t := Option.some.inj hi
      have v := v3 (by omega); clear vd v0 v1 v2 v3 v4 v5 v6
      obtain ⟨a4, c20, c21, v⟩ := v
      have v := v _ rfl
      refine a_new (kd := 8) (kc' := kc + 2) (ks' := ks + 52) a4 d_G_mkop_103 (by decide) cl_G_230 (by omega) (nfle (n := 6) rfl (by omega)) c20 c21 ?_
      obtain ⟨hm7, v⟩ := v
      refine a_dup d_G_mkop_106 rfl ?_
      refine a_iload d_G_mkop_107 rfl ?_
      refine a_aload_n d_G_mkop_109 rfl ?_
      refine a_aload_n d_G_mkop_110 rfl ?_
      refine a_getAe fl_G_11 d_G_mkop_111 (beq_iff_eq.mpr (KNG_20 hm7)) (KRG_20_0 hm7) ?_
      refine a_iload_n d_G_mkop_114 rfl ?_
      obtain ⟨c23, c24, v⟩ := v
      refine a_aald d_G_mkop_115 ⟨by rw [KNG_21 hm7]; decide, by rw [KNG_21 hm7]; decide⟩ c23 (lt_len (NNG_21 hm7) c24) ?_
      refine a_iload d_G_mkop_116 rfl ?_
      obtain ⟨c25, v⟩ := v
      refine b_callI (as := [vi (xI h x1 5), vr x1, vr (xR (nw h a4 8 0) 21 (x3).toNat), vi x4]) (b := a4) (st := [vr a4]) (kc1 := 2) (ks1 := 52) (kc2 := kc) (ks2 := ks) (d' := d) ml_G_232 rfl d_G_mkop_118 rfl rfl (Nat.le_of_ble_eq_true rfl) rfl (Nat.le_refl _) (by omega) (by omega) c25 ?_
      refine Ev.mono v ?_
      intro u h8 v
      obtain ⟨rfl, v⟩ := kv_el v
      obtain ⟨hm8, v⟩ := v
      change Ev l D Y_G_mkop _ _ _ 121 [some (vr 20), some (vr x1), some (vi x2), some (vi x3), some (vi x4), some (vi (xI h x1 5))] [vr a4] _ _
      exact a_aret d_G_mkop_121 rfl (Or.inl ⟨_, rfl⟩) v
    | 4, hi, c =>
      obtain rfl : 122 = t := Option.some.inj hi
      have v := v4 (by omega); clear vd v0 v1 v2 v3 v4 v5 v6
      obtain ⟨a5, c26, c27, v⟩ := v
      have v := v _ rfl
      refine a_new (kd := 6) (kc' := kc + 2) (ks' := ks + 52) a5 d_G_mkop_122 (by decide) cl_G_222 (by omega) (nfle (n := 6) rfl (by omega)) c26 c27 ?_
      obtain ⟨hm9, v⟩ := v
      refine a_dup d_G_mkop_125 rfl ?_
      refine a_iload d_G_mkop_126 rfl ?_
      refine a_aload_n d_G_mkop_128 rfl ?_
      refine a_aload_n d_G_mkop_129 rfl ?_
      refine a_getAe fl_G_11 d_G_mkop_130 (beq_iff_eq.mpr (KNG_20 hm9)) (KRG_20_0 hm9) ?_
      refine a_iload_n d_G_mkop_133 rfl ?_
      obtain ⟨c29, c30, v⟩ := v
      refine a_aald d_G_mkop_134 ⟨by rw [KNG_21 hm9]; decide, by rw [KNG_21 hm9]; decide⟩ c29 (lt_len (NNG_21 hm9) c30) ?_
      refine a_bipush d_G_mkop_135 ⟨by decide, by decide⟩ (by decide) ?_
      obtain ⟨c31, v⟩ := v
      refine b_callI (as := [vi (xI h x1 5), vr x1, vr (xR (nw h a5 6 0) 21 (x3).toNat), vi (9 : Int)]) (b := a5) (st := [vr a5]) (kc1 := 2) (ks1 := 52) (kc2 := kc) (ks2 := ks) (d' := d) ml_G_224 rfl d_G_mkop_137 rfl rfl (Nat.le_of_ble_eq_true rfl) rfl (Nat.le_refl _) (by omega) (by omega) c31 ?_
      refine Ev.mono v ?_
      intro u h10 v
      obtain ⟨rfl, v⟩ := kv_el v
      obtain ⟨hm10, v⟩ := v
      change Ev l D Y_G_mkop _ _ _ 140 [some (vr 20), some (vr x1), some (vi x2), some (vi x3), some (vi x4), some (vi (xI h x1 5))] [vr a5] _ _
      exact a_aret d_G_mkop_140 rfl (Or.inl ⟨_, rfl⟩) v
    | 5, hi, c =>
      obtain rfl : 141 = t := Option.some.inj hi
      have v := v5 (by omega); clear vd v0 v1 v2 v3 v4 v5 v6
      obtain ⟨a6, c32, c33, v⟩ := v
      have v := v _ rfl
      refine a_new (kd := 9) (kc' := kc + 2) (ks' := ks + 52) a6 d_G_mkop_141 (by decide) cl_G_233 (by omega) (nfle (n := 6) rfl (by omega)) c32 c33 ?_
      obtain ⟨hm11, v⟩ := v
      refine a_dup d_G_mkop_144 rfl ?_
      refine a_iload d_G_mkop_145 rfl ?_
      refine a_aload_n d_G_mkop_147 rfl ?_
      refine a_iload_n d_G_mkop_148 rfl ?_
      refine a_aload_n d_G_mkop_149 rfl ?_
      refine a_getAe fl_G_17 d_G_mkop_150 (beq_iff_eq.mpr (KNG_20 hm11)) (KRG_20_2 hm11) ?_
      refine a_iload d_G_mkop_153 rfl ?_
      obtain ⟨c35, c36, v⟩ := v
      refine a_aald d_G_mkop_155 ⟨by rw [KNG_22 hm11]; decide, by rw [KNG_22 hm11]; decide⟩ c35 (lt_len (NNG_22 hm11) c36) ?_
      obtain ⟨c37, v⟩ := v
      refine b_callI (as := [vi (xI h x1 5), vr x1, vi x3, vr (xR (nw h a6 9 0) 22 (x4).toNat)]) (b := a6) (st := [vr a6]) (kc1 := 2) (ks1 := 52) (kc2 := kc) (ks2 := ks) (d' := d) ml_G_235 rfl d_G_mkop_156 rfl rfl (Nat.le_of_ble_eq_true rfl) rfl (Nat.le_refl _) (by omega) (by omega) c37 ?_
      refine Ev.mono v ?_
      intro u h12 v
      obtain ⟨rfl, v⟩ := kv_el v
      obtain ⟨hm12, v⟩ := v
      change Ev l D Y_G_mkop _ _ _ 159 [some (vr 20), some (vr x1), some (vi x2), some (vi x3), some (vi x4), some (vi (xI h x1 5))] [vr a6] _ _
      exact a_aret d_G_mkop_159 rfl (Or.inl ⟨_, rfl⟩) v
    | 6, hi, c =>
      obtain rfl : 160 = t := Option.some.inj hi
      have v := v6 (by omega); clear vd v0 v1 v2 v3 v4 v5 v6
      obtain ⟨a7, c38, c39, v⟩ := v
      have v := v _ rfl
      refine a_new (kd := 10) (kc' := kc + 2) (ks' := ks + 53) a7 d_G_mkop_160 (by decide) cl_G_238 (by omega) (nfle (n := 5) rfl (by omega)) c38 c39 ?_
      obtain ⟨hm13, v⟩ := v
      refine a_dup d_G_mkop_163 rfl ?_
      refine a_iload d_G_mkop_164 rfl ?_
      refine a_aload_n d_G_mkop_166 rfl ?_
      refine a_iload_n d_G_mkop_167 rfl ?_
      obtain ⟨c40, v⟩ := v
      refine b_callI (as := [vi (xI h x1 5), vr x1, vi x3]) (b := a7) (st := [vr a7]) (kc1 := 2) (ks1 := 52) (kc2 := kc) (ks2 := ks + 1) (d' := d) ml_G_240 rfl d_G_mkop_168 rfl rfl (Nat.le_of_ble_eq_true rfl) rfl (Nat.le_refl _) (by omega) (by omega) c40 ?_
      refine Ev.mono v ?_
      intro u h14 v
      obtain ⟨rfl, v⟩ := kv_el v
      obtain ⟨hm14, v⟩ := v
      change Ev l D Y_G_mkop _ _ _ 171 [some (vr 20), some (vr x1), some (vi x2), some (vi x3), some (vi x4), some (vi (xI h x1 5))] [vr a7] _ _
      exact a_aret d_G_mkop_171 rfl (Or.inl ⟨_, rfl⟩) v
    | i + 7, hi, c => exact absurd hi (by simp)
theorem d_G_op_0 : decode Y_G_op.2.1 0 = .ok (.aload_n 0, 1) := by decide +kernel
theorem d_G_op_1 : decode Y_G_op.2.1 1 = .ok (.iload_n 1, 1) := by decide +kernel
theorem d_G_op_2 : decode Y_G_op.2.1 2 = .ok (.invokevirtual 246, 3) := by decide +kernel
theorem d_G_op_5 : decode Y_G_op.2.1 5 = .ok (.ifCond .eq 34, 3) := by decide +kernel
theorem d_G_op_8 : decode Y_G_op.2.1 8 = .ok (.iload_n 2, 1) := by decide +kernel
theorem d_G_op_9 : decode Y_G_op.2.1 9 = .ok (.iconst 0, 1) := by decide +kernel
theorem d_G_op_10 : decode Y_G_op.2.1 10 = .ok (.iconst 4, 1) := by decide +kernel
theorem d_G_op_11 : decode Y_G_op.2.1 11 = .ok (.invokestatic 165, 3) := by decide +kernel
theorem d_G_op_14 : decode Y_G_op.2.1 14 = .ok (.ifCond .eq 11, 3) := by decide +kernel
theorem d_G_op_17 : decode Y_G_op.2.1 17 = .ok (.aload_n 0, 1) := by decide +kernel
theorem d_G_op_18 : decode Y_G_op.2.1 18 = .ok (.iload_n 3, 1) := by decide +kernel
theorem d_G_op_19 : decode Y_G_op.2.1 19 = .ok (.invokevirtual 169, 3) := by decide +kernel
theorem d_G_op_22 : decode Y_G_op.2.1 22 = .ok (.ifCond .eq 17, 3) := by decide +kernel
theorem d_G_op_25 : decode Y_G_op.2.1 25 = .ok (.iload_n 2, 1) := by decide +kernel
theorem d_G_op_26 : decode Y_G_op.2.1 26 = .ok (.iconst 5, 1) := by decide +kernel
theorem d_G_op_27 : decode Y_G_op.2.1 27 = .ok (.if_icmp .ne 15, 3) := by decide +kernel
theorem d_G_op_30 : decode Y_G_op.2.1 30 = .ok (.aload_n 0, 1) := by decide +kernel
theorem d_G_op_31 : decode Y_G_op.2.1 31 = .ok (.iload 4, 2) := by decide +kernel
theorem d_G_op_33 : decode Y_G_op.2.1 33 = .ok (.invokevirtual 246, 3) := by decide +kernel
theorem d_G_op_36 : decode Y_G_op.2.1 36 = .ok (.ifCond .ne 6, 3) := by decide +kernel
theorem d_G_op_39 : decode Y_G_op.2.1 39 = .ok (.bipush (-101), 2) := by decide +kernel
theorem d_G_op_41 : decode Y_G_op.2.1 41 = .ok (.ireturn, 1) := by decide +kernel
theorem d_G_op_42 : decode Y_G_op.2.1 42 = .ok (.aload_n 0, 1) := by decide +kernel
theorem d_G_op_43 : decode Y_G_op.2.1 43 = .ok (.getfield 17, 3) := by decide +kernel
theorem d_G_op_46 : decode Y_G_op.2.1 46 = .ok (.iload_n 1, 1) := by decide +kernel
theorem d_G_op_47 : decode Y_G_op.2.1 47 = .ok (.aaload, 1) := by decide +kernel
theorem d_G_op_48 : decode Y_G_op.2.1 48 = .ok (.astore 5, 2) := by decide +kernel
theorem d_G_op_50 : decode Y_G_op.2.1 50 = .ok (.aload_n 0, 1) := by decide +kernel
theorem d_G_op_51 : decode Y_G_op.2.1 51 = .ok (.aload 5, 2) := by decide +kernel
theorem d_G_op_53 : decode Y_G_op.2.1 53 = .ok (.iload_n 2, 1) := by decide +kernel
theorem d_G_op_54 : decode Y_G_op.2.1 54 = .ok (.iload_n 3, 1) := by decide +kernel
theorem d_G_op_55 : decode Y_G_op.2.1 55 = .ok (.iload 4, 2) := by decide +kernel
theorem d_G_op_57 : decode Y_G_op.2.1 57 = .ok (.invokevirtual 249, 3) := by decide +kernel
theorem d_G_op_60 : decode Y_G_op.2.1 60 = .ok (.ifCond .ne 6, 3) := by decide +kernel
theorem d_G_op_63 : decode Y_G_op.2.1 63 = .ok (.bipush (-102), 2) := by decide +kernel
theorem d_G_op_65 : decode Y_G_op.2.1 65 = .ok (.ireturn, 1) := by decide +kernel
theorem d_G_op_66 : decode Y_G_op.2.1 66 = .ok (.aload 5, 2) := by decide +kernel
theorem d_G_op_68 : decode Y_G_op.2.1 68 = .ok (.getfield 68, 3) := by decide +kernel
theorem d_G_op_71 : decode Y_G_op.2.1 71 = .ok (.getstatic 253, 3) := by decide +kernel
theorem d_G_op_74 : decode Y_G_op.2.1 74 = .ok (.if_acmp .ne 6, 3) := by decide +kernel
theorem d_G_op_77 : decode Y_G_op.2.1 77 = .ok (.bipush (-103), 2) := by decide +kernel
theorem d_G_op_79 : decode Y_G_op.2.1 79 = .ok (.ireturn, 1) := by decide +kernel
theorem d_G_op_80 : decode Y_G_op.2.1 80 = .ok (.aload 5, 2) := by decide +kernel
theorem d_G_op_82 : decode Y_G_op.2.1 82 = .ok (.getfield 142, 3) := by decide +kernel
theorem d_G_op_85 : decode Y_G_op.2.1 85 = .ok (.bipush 24, 2) := by decide +kernel
theorem d_G_op_87 : decode Y_G_op.2.1 87 = .ok (.if_icmp .eq 13, 3) := by decide +kernel
theorem d_G_op_90 : decode Y_G_op.2.1 90 = .ok (.aload_n 0, 1) := by decide +kernel
theorem d_G_op_91 : decode Y_G_op.2.1 91 = .ok (.getfield 256, 3) := by decide +kernel
theorem d_G_op_94 : decode Y_G_op.2.1 94 = .ok (.sipush 160, 3) := by decide +kernel
theorem d_G_op_97 : decode Y_G_op.2.1 97 = .ok (.if_icmp .ne 6, 3) := by decide +kernel
theorem d_G_op_100 : decode Y_G_op.2.1 100 = .ok (.bipush (-104), 2) := by decide +kernel
theorem d_G_op_102 : decode Y_G_op.2.1 102 = .ok (.ireturn, 1) := by decide +kernel
theorem d_G_op_103 : decode Y_G_op.2.1 103 = .ok (.aload 5, 2) := by decide +kernel
theorem d_G_op_105 : decode Y_G_op.2.1 105 = .ok (.getfield 145, 3) := by decide +kernel
theorem d_G_op_108 : decode Y_G_op.2.1 108 = .ok (.aload 5, 2) := by decide +kernel
theorem d_G_op_110 : decode Y_G_op.2.1 110 = .ok (.getfield 142, 3) := by decide +kernel
theorem d_G_op_113 : decode Y_G_op.2.1 113 = .ok (.aload_n 0, 1) := by decide +kernel
theorem d_G_op_114 : decode Y_G_op.2.1 114 = .ok (.aload 5, 2) := by decide +kernel
theorem d_G_op_116 : decode Y_G_op.2.1 116 = .ok (.iload_n 2, 1) := by decide +kernel
theorem d_G_op_117 : decode Y_G_op.2.1 117 = .ok (.iload_n 3, 1) := by decide +kernel
theorem d_G_op_118 : decode Y_G_op.2.1 118 = .ok (.iload 4, 2) := by decide +kernel
theorem d_G_op_120 : decode Y_G_op.2.1 120 = .ok (.invokevirtual 257, 3) := by decide +kernel
theorem d_G_op_123 : decode Y_G_op.2.1 123 = .ok (.aastore, 1) := by decide +kernel
theorem d_G_op_124 : decode Y_G_op.2.1 124 = .ok (.aload_n 0, 1) := by decide +kernel
theorem d_G_op_125 : decode Y_G_op.2.1 125 = .ok (.dup, 1) := by decide +kernel
theorem d_G_op_126 : decode Y_G_op.2.1 126 = .ok (.getfield 256, 3) := by decide +kernel
theorem d_G_op_129 : decode Y_G_op.2.1 129 = .ok (.iconst 1, 1) := by decide +kernel
theorem d_G_op_130 : decode Y_G_op.2.1 130 = .ok (.iadd, 1) := by decide +kernel
theorem d_G_op_131 : decode Y_G_op.2.1 131 = .ok (.putfield 256, 3) := by decide +kernel
theorem d_G_op_134 : decode Y_G_op.2.1 134 = .ok (.aload_n 0, 1) := by decide +kernel
theorem d_G_op_135 : decode Y_G_op.2.1 135 = .ok (.invokevirtual 182, 3) := by decide +kernel
theorem d_G_op_138 : decode Y_G_op.2.1 138 = .ok (.aload 5, 2) := by decide +kernel
theorem d_G_op_140 : decode Y_G_op.2.1 140 = .ok (.dup, 1) := by decide +kernel
theorem d_G_op_141 : decode Y_G_op.2.1 141 = .ok (.getfield 142, 3) := by decide +kernel
theorem d_G_op_144 : decode Y_G_op.2.1 144 = .ok (.dup_x1, 1) := by decide +kernel
theorem d_G_op_145 : decode Y_G_op.2.1 145 = .ok (.iconst 1, 1) := by decide +kernel
theorem d_G_op_146 : decode Y_G_op.2.1 146 = .ok (.iadd, 1) := by decide +kernel
theorem d_G_op_147 : decode Y_G_op.2.1 147 = .ok (.putfield 142, 3) := by decide +kernel
theorem d_G_op_150 : decode Y_G_op.2.1 150 = .ok (.ireturn, 1) := by decide +kernel
theorem g_G_op_0 {l : Launch} {D : DD} {d kc ks : Nat} {h : Hp} {Φ : Option AV → Hp → Prop} {x1 : Int} {x2 : Int} {x3 : Int} {x4 : Int} (hM : GS h) (v : Ev l D Y_G_isMember d 0 0 0 [some (vr 20), some (vi x1)] [] h (ki (fun r1 h1 => GS h1 ∧ ((r1 = 0 → (Φ (some (vi (-101 : Int))) h1)) ∧ (¬ r1 = 0 → (Ev l D Y_G_within d 0 0 0 [some (vi x2), some (vi (0 : Int)), some (vi (4 : Int))] [] h1 (ki (fun r2 h2 => GS h2 ∧ ((r2 = 0 → ((¬ x2 = (5 : Int) → (Ev l D Y_G_op (d + 1) (kc + 3) (ks + 58) 42 [some (vr 20), some (vi x1), some (vi x2), some (vi x3), some (vi x4), none] [] h2 Φ)) ∧ (x2 = (5 : Int) → (Ev l D Y_G_isMember d 0 0 0 [some (vr 20), some (vi x4)] [] h2 (ki (fun r3 h3 => GS h3 ∧ ((¬ r3 = 0 → (Ev l D Y_G_op (d + 1) (kc + 3) (ks + 58) 42 [some (vr 20), some (vi x1), some (vi x2), some (vi x3), some (vi x4), none] [] h3 Φ)) ∧ (r3 = 0 → (Φ (some (vi (-101 : Int))) h3))))))))) ∧ (¬ r2 = 0 → (Ev l D Y_G_isType d 0 0 0 [some (vr 20), some (vi x3)] [] h2 (ki (fun r4 h4 => GS h4 ∧ ((r4 = 0 → (Φ (some (vi (-101 : Int))) h4)) ∧ (¬ r4 = 0 → ((¬ x2 = (5 : Int) → (Ev l D Y_G_op (d + 1) (kc + 3) (ks + 58) 42 [some (vr 20), some (vi x1), some (vi x2), some (vi x3), some (vi x4), none] [] h4 Φ)) ∧ (x2 = (5 : Int) → (Ev l D Y_G_isMember d 0 0 0 [some (vr 20), some (vi x4)] [] h4 (ki (fun r5 h5 => GS h5 ∧ ((¬ r5 = 0 → (Ev l D Y_G_op (d + 1) (kc + 3) (ks + 58) 42 [some (vr 20), some (vi x1), some (vi x2), some (vi x3), some (vi x4), none] [] h5 Φ)) ∧ (r5 = 0 → (Φ (some (vi (-101 : Int))) h5))))))))))))))))))))))) : Ev l D Y_G_op (d + 1) (kc + 3) (ks + 58) 0 [some (vr 20), some (vi x1), some (vi x2), some (vi x3), some (vi x4), none] [] h Φ := by
  refine a_aload_n d_G_op_0 rfl ?_
  refine a_iload_n d_G_op_1 rfl ?_
  refine b_callV (as := [vi x1]) (b := 20) (st := []) (kd := 1) (kc1 := 0) (ks1 := 0) (kc2 := kc + 3) (ks2 := ks + 58) (d' := d) ml_G_246 rfl d_G_op_2 rfl rfl (Nat.le_of_ble_eq_true rfl) (by decide) rfl (Nat.le_refl _) (by omega) (by omega) (KNG_20 hM) ?_
  refine Ev.mono v ?_
  intro u h1 v
  obtain ⟨r1, rfl, v⟩ := ki_el v
  obtain ⟨hm1, v⟩ := v
  change Ev l D Y_G_op _ _ _ 5 [some (vr 20), some (vi x1), some (vi x2), some (vi x3), some (vi x4), none] [vi r1] _ _
  obtain ⟨vt, vf⟩ := v
  refine a_if_eq (tgt := 39) d_G_op_5 (by decide) (fun c => ?_) (fun c => ?_)
  · have v := vt (c); clear vt vf
    refine a_bipush d_G_op_39 ⟨by decide, by decide⟩ (by decide) ?_
    exact a_iret d_G_op_41 rfl v
  · have v := vf (c); clear vt vf
    refine a_iload_n d_G_op_8 rfl ?_
    refine a_iconst d_G_op_9 ⟨by decide, by decide⟩ ?_
    refine a_iconst d_G_op_10 ⟨by decide, by decide⟩ ?_
    refine b_callS (as := [vi x2, vi (0 : Int), vi (4 : Int)]) (st := []) (kc1 := 0) (ks1 := 0) (kc2 := kc + 3) (ks2 := ks + 58) (d' := d) ml_G_165 rfl d_G_op_11 rfl rfl (Nat.le_of_ble_eq_true rfl) rfl (Nat.le_refl _) (by omega) (by omega) ?_
    refine Ev.mono v ?_
    intro u h2 v
    obtain ⟨r2, rfl, v⟩ := ki_el v
    obtain ⟨hm2, v⟩ := v
    change Ev l D Y_G_op _ _ _ 14 [some (vr 20), some (vi x1), some (vi x2), some (vi x3), some (vi x4), none] [vi r2] _ _
    obtain ⟨vt, vf⟩ := v
    refine a_if_eq (tgt := 25) d_G_op_14 (by decide) (fun c => ?_) (fun c => ?_)
    · have v := vt (c); clear vt vf
      refine a_iload_n d_G_op_25 rfl ?_
      refine a_iconst d_G_op_26 ⟨by decide, by decide⟩ ?_
      obtain ⟨vt, vf⟩ := v
      refine a_icmp_ne (tgt := 42) d_G_op_27 (by decide) (fun c => ?_) (fun c => ?_)
      · have v := vt (c); clear vt vf
        exact v
      · have v := vf (Classical.not_not.mp c); clear vt vf
        refine a_aload_n d_G_op_30 rfl ?_
        refine a_iload d_G_op_31 rfl ?_
        refine b_callV (as := [vi x4]) (b := 20) (st := []) (kd := 1) (kc1 := 0) (ks1 := 0) (kc2 := kc + 3) (ks2 := ks + 58) (d' := d) ml_G_246 rfl d_G_op_33 rfl rfl (Nat.le_of_ble_eq_true rfl) (by decide) rfl (Nat.le_refl _) (by omega) (by omega) (KNG_20 hm2) ?_
        refine Ev.mono v ?_
        intro u h3 v
        obtain ⟨r3, rfl, v⟩ := ki_el v
        obtain ⟨hm3, v⟩ := v
        change Ev l D Y_G_op _ _ _ 36 [some (vr 20), some (vi x1), some (vi x2), some (vi x3), some (vi x4), none] [vi r3] _ _
        obtain ⟨vt, vf⟩ := v
        refine a_if_ne (tgt := 42) d_G_op_36 (by decide) (fun c => ?_) (fun c => ?_)
        · have v := vt (c); clear vt vf
          exact v
        · have v := vf (Classical.not_not.mp c); clear vt vf
          refine a_bipush d_G_op_39 ⟨by decide, by decide⟩ (by decide) ?_
          exact a_iret d_G_op_41 rfl v
    · have v := vf (c); clear vt vf
      refine a_aload_n d_G_op_17 rfl ?_
      refine a_iload_n d_G_op_18 rfl ?_
      refine b_callV (as := [vi x3]) (b := 20) (st := []) (kd := 1) (kc1 := 0) (ks1 := 0) (kc2 := kc + 3) (ks2 := ks + 58) (d' := d) ml_G_169 rfl d_G_op_19 rfl rfl (Nat.le_of_ble_eq_true rfl) (by decide) rfl (Nat.le_refl _) (by omega) (by omega) (KNG_20 hm2) ?_
      refine Ev.mono v ?_
      intro u h4 v
      obtain ⟨r4, rfl, v⟩ := ki_el v
      obtain ⟨hm4, v⟩ := v
      change Ev l D Y_G_op _ _ _ 22 [some (vr 20), some (vi x1), some (vi x2), some (vi x3), some (vi x4), none] [vi r4] _ _
      obtain ⟨vt, vf⟩ := v
      refine a_if_eq (tgt := 39) d_G_op_22 (by decide) (fun c => ?_) (fun c => ?_)
      · have v := vt (c); clear vt vf
        refine a_bipush d_G_op_39 ⟨by decide, by decide⟩ (by decide) ?_
        exact a_iret d_G_op_41 rfl v
      · have v := vf (c); clear vt vf
        refine a_iload_n d_G_op_25 rfl ?_
        refine a_iconst d_G_op_26 ⟨by decide, by decide⟩ ?_
        obtain ⟨vt, vf⟩ := v
        refine a_icmp_ne (tgt := 42) d_G_op_27 (by decide) (fun c => ?_) (fun c => ?_)
        · have v := vt (c); clear vt vf
          exact v
        · have v := vf (Classical.not_not.mp c); clear vt vf
          refine a_aload_n d_G_op_30 rfl ?_
          refine a_iload d_G_op_31 rfl ?_
          refine b_callV (as := [vi x4]) (b := 20) (st := []) (kd := 1) (kc1 := 0) (ks1 := 0) (kc2 := kc + 3) (ks2 := ks + 58) (d' := d) ml_G_246 rfl d_G_op_33 rfl rfl (Nat.le_of_ble_eq_true rfl) (by decide) rfl (Nat.le_refl _) (by omega) (by omega) (KNG_20 hm4) ?_
          refine Ev.mono v ?_
          intro u h5 v
          obtain ⟨r5, rfl, v⟩ := ki_el v
          obtain ⟨hm5, v⟩ := v
          change Ev l D Y_G_op _ _ _ 36 [some (vr 20), some (vi x1), some (vi x2), some (vi x3), some (vi x4), none] [vi r5] _ _
          obtain ⟨vt, vf⟩ := v
          refine a_if_ne (tgt := 42) d_G_op_36 (by decide) (fun c => ?_) (fun c => ?_)
          · have v := vt (c); clear vt vf
            exact v
          · have v := vf (Classical.not_not.mp c); clear vt vf
            refine a_bipush d_G_op_39 ⟨by decide, by decide⟩ (by decide) ?_
            exact a_iret d_G_op_41 rfl v
theorem g_G_op_42 {l : Launch} {D : DD} {d kc ks : Nat} {h : Hp} {Φ : Option AV → Hp → Prop} {x1 : Int} {x2 : Int} {x3 : Int} {x4 : Int} (hM : GS h) (v : 0 ≤ x1 ∧ x1 < 48 ∧ (Ev l D Y_G_fits d 0 0 0 [some (vr 20), some (vr (xR h 22 (x1).toNat)), some (vi x2), some (vi x3), some (vi x4)] [] h (ki (fun r1 h1 => GS h1 ∧ ((¬ r1 = 0 → (xK h1 (xR h 22 (x1).toNat) = 4 ∧ ((¬ xR h1 (xR h 22 (x1).toNat) 3 = 5 → (xK h1 (xR h 22 (x1).toNat) = 4 ∧ ((xI h1 (xR h 22 (x1).toNat) 5 = (24 : Int) → (Ev l D Y_G_op (d + 1) (kc + 3) (ks + 58) 100 [some (vr 20), some (vi x1), some (vi x2), some (vi x3), some (vi x4), some (vr (xR h 22 (x1).toNat))] [] h1 Φ)) ∧ (¬ xI h1 (xR h 22 (x1).toNat) 5 = (24 : Int) → ((¬ xI h1 20 4 = (160 : Int) → (xK h1 (xR h 22 (x1).toNat) = 4 ∧ (xK h1 (xR h 22 (x1).toNat) = 4 ∧ (Ev l D Y_G_mkop d 3 58 0 [some (vr 20), some (vr (xR h 22 (x1).toNat)), some (vi x2), some (vi x3), some (vi x4), none] [] h1 (kr (fun r2 h2 => GS h2 ∧ (sto (xK h2 (xR h1 (xR h 22 (x1).toNat) 4)) (xK h2 r2) = true ∧ 16 ≤ xR h1 (xR h 22 (x1).toNat) 4 ∧ 0 ≤ xI h1 (xR h 22 (x1).toNat) 5 ∧ xI h1 (xR h 22 (x1).toNat) 5 < xN h2 (xR h1 (xR h 22 (x1).toNat) 4) ∧ (∀ h3 : Hp, h3 = sR h2 (xR h1 (xR h 22 (x1).toNat) 4) (xI h1 (xR h 22 (x1).toNat) 5).toNat r2 → (GS h3 ∧ (∀ h4 : Hp, h4 = sI h3 20 4 (wr ((xI h3 20 4) + (1 : Int))) → (Ev l D Y_G_change d 0 0 0 [some (vr 20)] [] h4 (kv (fun h5 => GS h5 ∧ (xK h5 (xR h 22 (x1).toNat) = 4 ∧ (xK h5 (xR h 22 (x1).toNat) = 4 ∧ 16 ≤ xR h 22 (x1).toNat ∧ (∀ h6 : Hp, h6 = sI h5 (xR h 22 (x1).toNat) 5 (wr ((xI h5 (xR h 22 (x1).toNat) 5) + (1 : Int))) → (Φ (some (vi (xI h5 (xR h 22 (x1).toNat) 5))) h6))))))))))))))))) ∧ (xI h1 20 4 = (160 : Int) → (Ev l D Y_G_op (d + 1) (kc + 3) (ks + 58) 100 [some (vr 20), some (vi x1), some (vi x2), some (vi x3), some (vi x4), some (vr (xR h 22 (x1).toNat))] [] h1 Φ))))))) ∧ (xR h1 (xR h 22 (x1).toNat) 3 = 5 → (Φ (some (vi (-103 : Int))) h1))))) ∧ (r1 = 0 → (Φ (some (vi (-102 : Int))) h1))))))) : Ev l D Y_G_op (d + 1) (kc + 3) (ks + 58) 42 [some (vr 20), some (vi x1), some (vi x2), some (vi x3), some (vi x4), none] [] h Φ := by
  refine a_aload_n d_G_op_42 rfl ?_
  refine a_getAe fl_G_17 d_G_op_43 (beq_iff_eq.mpr (KNG_20 hM)) (KRG_20_2 hM) ?_
  refine a_iload_n d_G_op_46 rfl ?_
  obtain ⟨c2, c3, v⟩ := v
  refine a_aald d_G_op_47 ⟨by rw [KNG_22 hM]; decide, by rw [KNG_22 hM]; decide⟩ c2 (lt_len (NNG_22 hM) c3) ?_
  refine a_astore (L' := [some (vr 20), some (vi x1), some (vi x2), some (vi x3), some (vi x4), some (vr (xR h 22 (x1).toNat))]) d_G_op_48 (Nat.le_of_ble_eq_true rfl) rfl rfl ?_
  refine a_aload_n d_G_op_50 rfl ?_
  refine a_aload d_G_op_51 rfl ?_
  refine a_iload_n d_G_op_53 rfl ?_
  refine a_iload_n d_G_op_54 rfl ?_
  refine a_iload d_G_op_55 rfl ?_
  refine b_callV (as := [vr (xR h 22 (x1).toNat), vi x2, vi x3, vi x4]) (b := 20) (st := []) (kd := 1) (kc1 := 0) (ks1 := 0) (kc2 := kc + 3) (ks2 := ks + 58) (d' := d) ml_G_249 rfl d_G_op_57 rfl rfl (Nat.le_of_ble_eq_true rfl) (by decide) rfl (Nat.le_refl _) (by omega) (by omega) (KNG_20 hM) ?_
  refine Ev.mono v ?_
  intro u h1 v
  obtain ⟨r1, rfl, v⟩ := ki_el v
  obtain ⟨hm1, v⟩ := v
  change Ev l D Y_G_op _ _ _ 60 [some (vr 20), some (vi x1), some (vi x2), some (vi x3), some (vi x4), some (vr (xR h 22 (x1).toNat))] [vi r1] _ _
  obtain ⟨vt, vf⟩ := v
  refine a_if_ne (tgt := 66) d_G_op_60 (by decide) (fun c => ?_) (fun c => ?_)
  · have v := vt (c); clear vt vf
    refine a_aload d_G_op_66 rfl ?_
    obtain ⟨c4, v⟩ := v
    refine a_getRN fl_G_68 d_G_op_68 (beq_iff_eq.mpr c4) ?_
    refine a_gets (k := 5) d_G_op_71 (by decide +kernel) sl_G_253 ?_
    obtain ⟨vt, vf⟩ := v
    refine a_acmp_ne (tgt := 80) d_G_op_74 (by decide) (fun c => ?_) (fun c => ?_)
    · have v := vt (c); clear vt vf
      refine a_aload d_G_op_80 rfl ?_
      obtain ⟨c5, v⟩ := v
      refine a_getIN fl_G_142 d_G_op_82 (beq_iff_eq.mpr c5) ?_
      refine a_bipush d_G_op_85 ⟨by decide, by decide⟩ (by decide) ?_
      obtain ⟨vt, vf⟩ := v
      refine a_icmp_eq (tgt := 100) d_G_op_87 (by decide) (fun c => ?_) (fun c => ?_)
      · have v := vt (c); clear vt vf
        exact v
      · have v := vf (c); clear vt vf
        refine a_aload_n d_G_op_90 rfl ?_
        refine a_getI fl_G_256 d_G_op_91 (beq_iff_eq.mpr (KNG_20 hm1)) ?_
        refine a_sipush d_G_op_94 ⟨by decide, by decide⟩ (by decide) ?_
        obtain ⟨vt, vf⟩ := v
        refine a_icmp_ne (tgt := 103) d_G_op_97 (by decide) (fun c => ?_) (fun c => ?_)
        · have v := vt (c); clear vt vf
          refine a_aload d_G_op_103 rfl ?_
          obtain ⟨c6, v⟩ := v
          refine a_getAN fl_G_145 d_G_op_105 (beq_iff_eq.mpr c6) ?_
          refine a_aload d_G_op_108 rfl ?_
          obtain ⟨c7, v⟩ := v
          refine a_getIN fl_G_142 d_G_op_110 (beq_iff_eq.mpr c7) ?_
          refine a_aload_n d_G_op_113 rfl ?_
          refine a_aload d_G_op_114 rfl ?_
          refine a_iload_n d_G_op_116 rfl ?_
          refine a_iload_n d_G_op_117 rfl ?_
          refine a_iload d_G_op_118 rfl ?_
          refine b_callV (as := [vr (xR h 22 (x1).toNat), vi x2, vi x3, vi x4]) (b := 20) (st := [vi (xI h1 (xR h 22 (x1).toNat) 5), vr (xR h1 (xR h 22 (x1).toNat) 4)]) (kd := 1) (kc1 := 3) (ks1 := 58) (kc2 := kc) (ks2 := ks) (d' := d) ml_G_257 rfl d_G_op_120 rfl rfl (Nat.le_of_ble_eq_true rfl) (by decide) rfl (Nat.le_refl _) (by omega) (by omega) (KNG_20 hm1) ?_
          refine Ev.mono v ?_
          intro u h2 v
          obtain ⟨r2, rfl, v⟩ := kr_el v
          obtain ⟨hm2, v⟩ := v
          change Ev l D Y_G_op _ _ _ 123 [some (vr 20), some (vi x1), some (vi x2), some (vi x3), some (vi x4), some (vr (xR h 22 (x1).toNat))] [vr r2, vi (xI h1 (xR h 22 (x1).toNat) 5), vr (xR h1 (xR h 22 (x1).toNat) 4)] _ _
          obtain ⟨c8, c9, c10, c11, v⟩ := v
          have v := v _ rfl
          refine a_aast d_G_op_123 c8 c9 c10 c11 ?_
          obtain ⟨hm3, v⟩ := v
          refine a_aload_n d_G_op_124 rfl ?_
          refine a_dup d_G_op_125 rfl ?_
          refine a_getI fl_G_256 d_G_op_126 (beq_iff_eq.mpr (KNG_20 hm3)) ?_
          refine a_iconst d_G_op_129 ⟨by decide, by decide⟩ ?_
          refine a_iadd d_G_op_130 ?_
          have v := v _ rfl
          refine a_putI fl_G_256 d_G_op_131 (beq_iff_eq.mpr (KNG_20 hm3)) (by decide) ?_
          refine a_aload_n d_G_op_134 rfl ?_
          refine b_callV (as := []) (b := 20) (st := []) (kd := 1) (kc1 := 0) (ks1 := 0) (kc2 := kc) (ks2 := ks) (d' := d) ml_G_182 rfl d_G_op_135 rfl rfl (Nat.le_of_ble_eq_true rfl) (by decide) rfl (Nat.le_refl _) (by omega) (by omega) (KNG_20 hm3) ?_
          refine Ev.mono v ?_
          intro u h5 v
          obtain ⟨rfl, v⟩ := kv_el v
          obtain ⟨hm4, v⟩ := v
          change Ev l D Y_G_op _ _ _ 138 [some (vr 20), some (vi x1), some (vi x2), some (vi x3), some (vi x4), some (vr (xR h 22 (x1).toNat))] [] _ _
          refine a_aload d_G_op_138 rfl ?_
          refine a_dup d_G_op_140 rfl ?_
          obtain ⟨c14, v⟩ := v
          refine a_getIN fl_G_142 d_G_op_141 (beq_iff_eq.mpr c14) ?_
          refine a_dup_x1 d_G_op_144 rfl rfl ?_
          refine a_iconst d_G_op_145 ⟨by decide, by decide⟩ ?_
          refine a_iadd d_G_op_146 ?_
          obtain ⟨c15, c16, v⟩ := v
          have v := v _ rfl
          refine a_putIN fl_G_142 d_G_op_147 (beq_iff_eq.mpr c15) c16 ?_
          exact a_iret d_G_op_150 rfl v
        · have v := vf (Classical.not_not.mp c); clear vt vf
          exact v
    · have v := vf (c); clear vt vf
      refine a_bipush d_G_op_77 ⟨by decide, by decide⟩ (by decide) ?_
      exact a_iret d_G_op_79 rfl v
  · have v := vf (Classical.not_not.mp c); clear vt vf
    refine a_bipush d_G_op_63 ⟨by decide, by decide⟩ (by decide) ?_
    exact a_iret d_G_op_65 rfl v
theorem g_G_op_100 {l : Launch} {D : DD} {d kc ks : Nat} {h : Hp} {Φ : Option AV → Hp → Prop} {x1 : Int} {x2 : Int} {x3 : Int} {x4 : Int} {x5 : Nat} (hM : GS h) (v : Φ (some (vi (-104 : Int))) h) : Ev l D Y_G_op (d + 1) (kc + 3) (ks + 58) 100 [some (vr 20), some (vi x1), some (vi x2), some (vi x3), some (vi x4), some (vr x5)] [] h Φ := by
  refine a_bipush d_G_op_100 ⟨by decide, by decide⟩ (by decide) ?_
  exact a_iret d_G_op_102 rfl v
theorem d_G_root_0 : decode Y_G_root.2.1 0 = .ok (.aload_n 0, 1) := by decide +kernel
theorem d_G_root_1 : decode Y_G_root.2.1 1 = .ok (.iload_n 1, 1) := by decide +kernel
theorem d_G_root_2 : decode Y_G_root.2.1 2 = .ok (.invokevirtual 246, 3) := by decide +kernel
theorem d_G_root_5 : decode Y_G_root.2.1 5 = .ok (.ifCond .ne 6, 3) := by decide +kernel
theorem d_G_root_8 : decode Y_G_root.2.1 8 = .ok (.bipush (-101), 2) := by decide +kernel
theorem d_G_root_10 : decode Y_G_root.2.1 10 = .ok (.ireturn, 1) := by decide +kernel
theorem d_G_root_11 : decode Y_G_root.2.1 11 = .ok (.aload_n 0, 1) := by decide +kernel
theorem d_G_root_12 : decode Y_G_root.2.1 12 = .ok (.getfield 17, 3) := by decide +kernel
theorem d_G_root_15 : decode Y_G_root.2.1 15 = .ok (.iload_n 1, 1) := by decide +kernel
theorem d_G_root_16 : decode Y_G_root.2.1 16 = .ok (.aaload, 1) := by decide +kernel
theorem d_G_root_17 : decode Y_G_root.2.1 17 = .ok (.astore_n 3, 1) := by decide +kernel
theorem d_G_root_18 : decode Y_G_root.2.1 18 = .ok (.aload_n 3, 1) := by decide +kernel
theorem d_G_root_19 : decode Y_G_root.2.1 19 = .ok (.getfield 68, 3) := by decide +kernel
theorem d_G_root_22 : decode Y_G_root.2.1 22 = .ok (.invokevirtual 214, 3) := by decide +kernel
theorem d_G_root_25 : decode Y_G_root.2.1 25 = .ok (.ifCond .ne 6, 3) := by decide +kernel
theorem d_G_root_28 : decode Y_G_root.2.1 28 = .ok (.bipush (-102), 2) := by decide +kernel
theorem d_G_root_30 : decode Y_G_root.2.1 30 = .ok (.ireturn, 1) := by decide +kernel
theorem d_G_root_31 : decode Y_G_root.2.1 31 = .ok (.aload_n 3, 1) := by decide +kernel
theorem d_G_root_32 : decode Y_G_root.2.1 32 = .ok (.getfield 136, 3) := by decide +kernel
theorem d_G_root_35 : decode Y_G_root.2.1 35 = .ok (.istore 4, 2) := by decide +kernel
theorem d_G_root_37 : decode Y_G_root.2.1 37 = .ok (.aload_n 3, 1) := by decide +kernel
theorem d_G_root_38 : decode Y_G_root.2.1 38 = .ok (.iload_n 2, 1) := by decide +kernel
theorem d_G_root_39 : decode Y_G_root.2.1 39 = .ok (.putfield 136, 3) := by decide +kernel
theorem d_G_root_42 : decode Y_G_root.2.1 42 = .ok (.aload_n 0, 1) := by decide +kernel
theorem d_G_root_43 : decode Y_G_root.2.1 43 = .ok (.invokevirtual 182, 3) := by decide +kernel
theorem d_G_root_46 : decode Y_G_root.2.1 46 = .ok (.iload 4, 2) := by decide +kernel
theorem d_G_root_48 : decode Y_G_root.2.1 48 = .ok (.iload_n 2, 1) := by decide +kernel
theorem d_G_root_49 : decode Y_G_root.2.1 49 = .ok (.if_icmp .ne 7, 3) := by decide +kernel
theorem d_G_root_52 : decode Y_G_root.2.1 52 = .ok (.iconst 0, 1) := by decide +kernel
theorem d_G_root_53 : decode Y_G_root.2.1 53 = .ok (.goto 4, 3) := by decide +kernel
theorem d_G_root_56 : decode Y_G_root.2.1 56 = .ok (.iconst 1, 1) := by decide +kernel
theorem d_G_root_57 : decode Y_G_root.2.1 57 = .ok (.ireturn, 1) := by decide +kernel
theorem g_G_root_0 {l : Launch} {D : DD} {d kc ks : Nat} {h : Hp} {Φ : Option AV → Hp → Prop} {x1 : Int} {x2 : Int} (hM : GS h) (v : Ev l D Y_G_isMember d 0 0 0 [some (vr 20), some (vi x1)] [] h (ki (fun r1 h1 => GS h1 ∧ ((¬ r1 = 0 → (0 ≤ x1 ∧ x1 < 48 ∧ (xK h1 (xR h1 22 (x1).toNat) = 4 ∧ (xK h1 (xR h1 (xR h1 22 (x1).toNat) 3) = 31 ∧ Ev l D Y_Sort_isNamed d 0 0 0 [some (vr (xR h1 (xR h1 22 (x1).toNat) 3))] [] h1 (ki (fun r2 h2 => GS h2 ∧ ((¬ r2 = 0 → (xK h2 (xR h1 22 (x1).toNat) = 4 ∧ (xK h2 (xR h1 22 (x1).toNat) = 4 ∧ 16 ≤ xR h1 22 (x1).toNat ∧ (x2 = 0 ∨ x2 = 1) ∧ (∀ h3 : Hp, h3 = sI h2 (xR h1 22 (x1).toNat) 6 x2 → (Ev l D Y_G_change d 0 0 0 [some (vr 20)] [] h3 (kv (fun h4 => GS h4 ∧ ((¬ xI h2 (xR h1 22 (x1).toNat) 6 = x2 → (Φ (some (vi (1 : Int))) h4)) ∧ (xI h2 (xR h1 22 (x1).toNat) 6 = x2 → (Φ (some (vi (0 : Int))) h4)))))))))) ∧ (r2 = 0 → (Φ (some (vi (-102 : Int))) h2))))))))) ∧ (r1 = 0 → (Φ (some (vi (-101 : Int))) h1)))))) : Ev l D Y_G_root (d + 1) kc ks 0 [some (vr 20), some (vi x1), some (vi x2), none, none] [] h Φ := by
  refine a_aload_n d_G_root_0 rfl ?_
  refine a_iload_n d_G_root_1 rfl ?_
  refine b_callV (as := [vi x1]) (b := 20) (st := []) (kd := 1) (kc1 := 0) (ks1 := 0) (kc2 := kc) (ks2 := ks) (d' := d) ml_G_246 rfl d_G_root_2 rfl rfl (Nat.le_of_ble_eq_true rfl) (by decide) rfl (Nat.le_refl _) (by omega) (by omega) (KNG_20 hM) ?_
  refine Ev.mono v ?_
  intro u h1 v
  obtain ⟨r1, rfl, v⟩ := ki_el v
  obtain ⟨hm1, v⟩ := v
  change Ev l D Y_G_root _ _ _ 5 [some (vr 20), some (vi x1), some (vi x2), none, none] [vi r1] _ _
  obtain ⟨vt, vf⟩ := v
  refine a_if_ne (tgt := 11) d_G_root_5 (by decide) (fun c => ?_) (fun c => ?_)
  · have v := vt (c); clear vt vf
    refine a_aload_n d_G_root_11 rfl ?_
    refine a_getAe fl_G_17 d_G_root_12 (beq_iff_eq.mpr (KNG_20 hm1)) (KRG_20_2 hm1) ?_
    refine a_iload_n d_G_root_15 rfl ?_
    obtain ⟨c2, c3, v⟩ := v
    refine a_aald d_G_root_16 ⟨by rw [KNG_22 hm1]; decide, by rw [KNG_22 hm1]; decide⟩ c2 (lt_len (NNG_22 hm1) c3) ?_
    refine a_astore_n (L' := [some (vr 20), some (vi x1), some (vi x2), some (vr (xR h1 22 (x1).toNat)), none]) d_G_root_17 (Nat.le_of_ble_eq_true rfl) rfl rfl ?_
    refine a_aload_n d_G_root_18 rfl ?_
    obtain ⟨c4, v⟩ := v
    refine a_getRN fl_G_68 d_G_root_19 (beq_iff_eq.mpr c4) ?_
    obtain ⟨c10, v⟩ := v
    refine b_callV (as := []) (b := (xR h1 (xR h1 22 (x1).toNat) 3)) (st := []) (kd := 31) (kc1 := 0) (ks1 := 0) (kc2 := kc) (ks2 := ks) (d' := d) ml_G_214 rfl d_G_root_22 rfl rfl (Nat.le_of_ble_eq_true rfl) (by decide) rfl (Nat.le_refl _) (by omega) (by omega) c10 ?_
    refine Ev.mono v ?_
    intro u h2 v
    obtain ⟨r2, rfl, v⟩ := ki_el v
    obtain ⟨hm2, v⟩ := v
    change Ev l D Y_G_root _ _ _ 25 [some (vr 20), some (vi x1), some (vi x2), some (vr (xR h1 22 (x1).toNat)), none] [vi r2] _ _
    obtain ⟨vt, vf⟩ := v
    refine a_if_ne (tgt := 31) d_G_root_25 (by decide) (fun c => ?_) (fun c => ?_)
    · have v := vt (c); clear vt vf
      refine a_aload_n d_G_root_31 rfl ?_
      obtain ⟨c5, v⟩ := v
      refine a_getZN fl_G_136 d_G_root_32 (beq_iff_eq.mpr c5) ?_
      refine a_istore (L' := [some (vr 20), some (vi x1), some (vi x2), some (vr (xR h1 22 (x1).toNat)), some (vi (xI h2 (xR h1 22 (x1).toNat) 6))]) d_G_root_35 (Nat.le_of_ble_eq_true rfl) rfl rfl ?_
      refine a_aload_n d_G_root_37 rfl ?_
      refine a_iload_n d_G_root_38 rfl ?_
      obtain ⟨c6, c7, c8, v⟩ := v
      have v := v _ rfl
      refine a_putZN fl_G_136 d_G_root_39 (beq_iff_eq.mpr c6) c7 c8 ?_
      refine a_aload_n d_G_root_42 rfl ?_
      refine b_callV (as := []) (b := 20) (st := []) (kd := 1) (kc1 := 0) (ks1 := 0) (kc2 := kc) (ks2 := ks) (d' := d) ml_G_182 rfl d_G_root_43 rfl rfl (Nat.le_of_ble_eq_true rfl) (by decide) rfl (Nat.le_refl _) (by omega) (by omega) (KNG_20 hm2) ?_
      refine Ev.mono v ?_
      intro u h4 v
      obtain ⟨rfl, v⟩ := kv_el v
      obtain ⟨hm3, v⟩ := v
      change Ev l D Y_G_root _ _ _ 46 [some (vr 20), some (vi x1), some (vi x2), some (vr (xR h1 22 (x1).toNat)), some (vi (xI h2 (xR h1 22 (x1).toNat) 6))] [] _ _
      refine a_iload d_G_root_46 rfl ?_
      refine a_iload_n d_G_root_48 rfl ?_
      obtain ⟨vt, vf⟩ := v
      refine a_icmp_ne (tgt := 56) d_G_root_49 (by decide) (fun c => ?_) (fun c => ?_)
      · have v := vt (c); clear vt vf
        refine a_iconst d_G_root_56 ⟨by decide, by decide⟩ ?_
        exact a_iret d_G_root_57 rfl v
      · have v := vf (Classical.not_not.mp c); clear vt vf
        refine a_iconst d_G_root_52 ⟨by decide, by decide⟩ ?_
        refine a_goto (tgt := 57) d_G_root_53 (by decide) ?_
        exact a_iret d_G_root_57 rfl v
    · have v := vf (Classical.not_not.mp c); clear vt vf
      refine a_bipush d_G_root_28 ⟨by decide, by decide⟩ (by decide) ?_
      exact a_iret d_G_root_30 rfl v
  · have v := vf (Classical.not_not.mp c); clear vt vf
    refine a_bipush d_G_root_8 ⟨by decide, by decide⟩ (by decide) ?_
    exact a_iret d_G_root_10 rfl v
theorem d_Any_tells_0 : decode Y_Any_tells.2.1 0 = .ok (.aload_n 1, 1) := by decide +kernel
theorem d_Any_tells_1 : decode Y_Any_tells.2.1 1 = .ok (.getfield 13, 3) := by decide +kernel
theorem d_Any_tells_4 : decode Y_Any_tells.2.1 4 = .ok (.aload_n 0, 1) := by decide +kernel
theorem d_Any_tells_5 : decode Y_Any_tells.2.1 5 = .ok (.getfield 7, 3) := by decide +kernel
theorem d_Any_tells_8 : decode Y_Any_tells.2.1 8 = .ok (.if_icmp .ne 17, 3) := by decide +kernel
theorem d_Any_tells_11 : decode Y_Any_tells.2.1 11 = .ok (.aload_n 1, 1) := by decide +kernel
theorem d_Any_tells_12 : decode Y_Any_tells.2.1 12 = .ok (.getfield 16, 3) := by decide +kernel
theorem d_Any_tells_15 : decode Y_Any_tells.2.1 15 = .ok (.invokevirtual 20, 3) := by decide +kernel
theorem d_Any_tells_18 : decode Y_Any_tells.2.1 18 = .ok (.ifCond .eq 7, 3) := by decide +kernel
theorem d_Any_tells_21 : decode Y_Any_tells.2.1 21 = .ok (.iconst 1, 1) := by decide +kernel
theorem d_Any_tells_22 : decode Y_Any_tells.2.1 22 = .ok (.goto 4, 3) := by decide +kernel
theorem d_Any_tells_25 : decode Y_Any_tells.2.1 25 = .ok (.iconst 0, 1) := by decide +kernel
theorem d_Any_tells_26 : decode Y_Any_tells.2.1 26 = .ok (.ireturn, 1) := by decide +kernel
theorem g_Any_tells_0 {l : Launch} {D : DD} {d kc ks : Nat} {h : Hp} {Φ : Option AV → Hp → Prop} {x0 : Nat} {x1 : Nat} (hM : GS h) (v : xK h x1 = 4 ∧ (xK h x0 = 11 ∧ ((¬ xI h x1 2 = xI h x0 4 → (Φ (some (vi (0 : Int))) h)) ∧ (xI h x1 2 = xI h x0 4 → (xK h x1 = 4 ∧ (xK h (xR h x1 3) = 31 ∧ Ev l D Y_Sort_isNamed d 0 0 0 [some (vr (xR h x1 3))] [] h (ki (fun r1 h1 => GS h1 ∧ ((r1 = 0 → (Φ (some (vi (0 : Int))) h1)) ∧ (¬ r1 = 0 → (Φ (some (vi (1 : Int))) h1))))))))))) : Ev l D Y_Any_tells (d + 1) kc ks 0 [some (vr x0), some (vr x1)] [] h Φ := by
  refine a_aload_n d_Any_tells_0 rfl ?_
  obtain ⟨c1, v⟩ := v
  refine a_getIN fl_Any_13 d_Any_tells_1 (beq_iff_eq.mpr c1) ?_
  refine a_aload_n d_Any_tells_4 rfl ?_
  obtain ⟨c2, v⟩ := v
  refine a_getI fl_Any_7 d_Any_tells_5 (beq_iff_eq.mpr c2) ?_
  obtain ⟨vt, vf⟩ := v
  refine a_icmp_ne (tgt := 25) d_Any_tells_8 (by decide) (fun c => ?_) (fun c => ?_)
  · have v := vt (c); clear vt vf
    refine a_iconst d_Any_tells_25 ⟨by decide, by decide⟩ ?_
    exact a_zret d_Any_tells_26 rfl (Or.inl rfl) v
  · have v := vf (Classical.not_not.mp c); clear vt vf
    refine a_aload_n d_Any_tells_11 rfl ?_
    obtain ⟨c3, v⟩ := v
    refine a_getRN fl_Any_16 d_Any_tells_12 (beq_iff_eq.mpr c3) ?_
    obtain ⟨c4, v⟩ := v
    refine b_callV (as := []) (b := (xR h x1 3)) (st := []) (kd := 31) (kc1 := 0) (ks1 := 0) (kc2 := kc) (ks2 := ks) (d' := d) ml_Any_20 rfl d_Any_tells_15 rfl rfl (Nat.le_of_ble_eq_true rfl) (by decide) rfl (Nat.le_refl _) (by omega) (by omega) c4 ?_
    refine Ev.mono v ?_
    intro u h1 v
    obtain ⟨r1, rfl, v⟩ := ki_el v
    obtain ⟨hm1, v⟩ := v
    change Ev l D Y_Any_tells _ _ _ 18 [some (vr x0), some (vr x1)] [vi r1] _ _
    obtain ⟨vt, vf⟩ := v
    refine a_if_eq (tgt := 25) d_Any_tells_18 (by decide) (fun c => ?_) (fun c => ?_)
    · have v := vt (c); clear vt vf
      refine a_iconst d_Any_tells_25 ⟨by decide, by decide⟩ ?_
      exact a_zret d_Any_tells_26 rfl (Or.inl rfl) v
    · have v := vf (c); clear vt vf
      refine a_iconst d_Any_tells_21 ⟨by decide, by decide⟩ ?_
      refine a_goto (tgt := 26) d_Any_tells_22 (by decide) ?_
      exact a_zret d_Any_tells_26 rfl (Or.inr rfl) v
theorem d_Any_spread_0 : decode Y_Any_spread.2.1 0 = .ok (.iconst 0, 1) := by decide +kernel
theorem d_Any_spread_1 : decode Y_Any_spread.2.1 1 = .ok (.istore_n 2, 1) := by decide +kernel
theorem d_Any_spread_2 : decode Y_Any_spread.2.1 2 = .ok (.iload_n 2, 1) := by decide +kernel
theorem d_Any_spread_3 : decode Y_Any_spread.2.1 3 = .ok (.aload_n 1, 1) := by decide +kernel
theorem d_Any_spread_4 : decode Y_Any_spread.2.1 4 = .ok (.getfield 26, 3) := by decide +kernel
theorem d_Any_spread_7 : decode Y_Any_spread.2.1 7 = .ok (.if_icmp .ge 33, 3) := by decide +kernel
theorem d_Any_spread_10 : decode Y_Any_spread.2.1 10 = .ok (.aload_n 0, 1) := by decide +kernel
theorem d_Any_spread_11 : decode Y_Any_spread.2.1 11 = .ok (.aload_n 1, 1) := by decide +kernel
theorem d_Any_spread_12 : decode Y_Any_spread.2.1 12 = .ok (.getfield 31, 3) := by decide +kernel
theorem d_Any_spread_15 : decode Y_Any_spread.2.1 15 = .ok (.iload_n 2, 1) := by decide +kernel
theorem d_Any_spread_16 : decode Y_Any_spread.2.1 16 = .ok (.aaload, 1) := by decide +kernel
theorem d_Any_spread_17 : decode Y_Any_spread.2.1 17 = .ok (.invokevirtual 35, 3) := by decide +kernel
theorem d_Any_spread_20 : decode Y_Any_spread.2.1 20 = .ok (.ifCond .eq 14, 3) := by decide +kernel
theorem d_Any_spread_23 : decode Y_Any_spread.2.1 23 = .ok (.aload_n 0, 1) := by decide +kernel
theorem d_Any_spread_24 : decode Y_Any_spread.2.1 24 = .ok (.aload_n 1, 1) := by decide +kernel
theorem d_Any_spread_25 : decode Y_Any_spread.2.1 25 = .ok (.aload_n 1, 1) := by decide +kernel
theorem d_Any_spread_26 : decode Y_Any_spread.2.1 26 = .ok (.getfield 31, 3) := by decide +kernel
theorem d_Any_spread_29 : decode Y_Any_spread.2.1 29 = .ok (.iload_n 2, 1) := by decide +kernel
theorem d_Any_spread_30 : decode Y_Any_spread.2.1 30 = .ok (.aaload, 1) := by decide +kernel
theorem d_Any_spread_31 : decode Y_Any_spread.2.1 31 = .ok (.invokevirtual 39, 3) := by decide +kernel
theorem d_Any_spread_34 : decode Y_Any_spread.2.1 34 = .ok (.iinc 2 1, 3) := by decide +kernel
theorem d_Any_spread_37 : decode Y_Any_spread.2.1 37 = .ok (.goto (-35), 3) := by decide +kernel
theorem d_Any_spread_40 : decode Y_Any_spread.2.1 40 = .ok (.return_, 1) := by decide +kernel
theorem g_Any_spread_0 {l : Launch} {D : DD} {d kc ks : Nat} {h : Hp} {Φ : Option AV → Hp → Prop} {x0 : Nat} (hM : GS h) (v : Ev l D Y_Any_spread (d + 1) kc ks 2 [some (vr x0), some (vr 20), some (vi (0 : Int))] [] h Φ) : Ev l D Y_Any_spread (d + 1) kc ks 0 [some (vr x0), some (vr 20), none] [] h Φ := by
  refine a_iconst d_Any_spread_0 ⟨by decide, by decide⟩ ?_
  refine a_istore_n (L' := [some (vr x0), some (vr 20), some (vi (0 : Int))]) d_Any_spread_1 (Nat.le_of_ble_eq_true rfl) rfl rfl ?_
  exact v
theorem g_Any_spread_2 {l : Launch} {D : DD} {d kc ks : Nat} {h : Hp} {Φ : Option AV → Hp → Prop} {x0 : Nat} {x2 : Int} (hM : GS h) (v : (x2 ≥ xI h 20 3 → (Φ none h)) ∧ (x2 < xI h 20 3 → (0 ≤ x2 ∧ x2 < 48 ∧ (xK h x0 = 11 ∧ Ev l D Y_Any_tells d 0 0 0 [some (vr x0), some (vr (xR h 22 (x2).toNat))] [] h (ki (fun r1 h1 => GS h1 ∧ ((r1 = 0 → (Ev l D Y_Any_spread (d + 1) kc ks 2 [some (vr x0), some (vr 20), some (vi (wr (x2 + (1 : Int))))] [] h1 Φ)) ∧ (¬ r1 = 0 → (0 ≤ x2 ∧ x2 < 48 ∧ (xK h1 x0 = 11 ∧ Ev l D (mt_Any_call_Y (xK h1 x0)) d 0 0 0 (enL (mt_Any_call_Y (xK h1 x0)).2.2.1 [vr x0, vr 20, vr (xR h1 22 (x2).toNat)]) [] h1 (kv (fun h2 => GS h2 ∧ (Ev l D Y_Any_spread (d + 1) kc ks 2 [some (vr x0), some (vr 20), some (vi (wr (x2 + (1 : Int))))] [] h2 Φ))))))))))))) : Ev l D Y_Any_spread (d + 1) kc ks 2 [some (vr x0), some (vr 20), some (vi x2)] [] h Φ := by
  refine a_iload_n d_Any_spread_2 rfl ?_
  refine a_aload_n d_Any_spread_3 rfl ?_
  refine a_getIN fl_Any_26 d_Any_spread_4 (beq_iff_eq.mpr (KNG_20 hM)) ?_
  obtain ⟨vt, vf⟩ := v
  refine a_icmp_ge (tgt := 40) d_Any_spread_7 (by decide) (fun c => ?_) (fun c => ?_)
  · have v := vt (c); clear vt vf
    exact a_vret d_Any_spread_40 rfl v
  · have v := vf (Int.not_le.mp c); clear vt vf
    refine a_aload_n d_Any_spread_10 rfl ?_
    refine a_aload_n d_Any_spread_11 rfl ?_
    refine a_getAeN fl_Any_31 d_Any_spread_12 (beq_iff_eq.mpr (KNG_20 hM)) (KRG_20_2 hM) ?_
    refine a_iload_n d_Any_spread_15 rfl ?_
    obtain ⟨c2, c3, v⟩ := v
    refine a_aald d_Any_spread_16 ⟨by rw [KNG_22 hM]; decide, by rw [KNG_22 hM]; decide⟩ c2 (lt_len (NNG_22 hM) c3) ?_
    obtain ⟨c8, v⟩ := v
    refine b_callV (as := [vr (xR h 22 (x2).toNat)]) (b := x0) (st := []) (kd := 11) (kc1 := 0) (ks1 := 0) (kc2 := kc) (ks2 := ks) (d' := d) ml_Any_35 rfl d_Any_spread_17 rfl rfl (Nat.le_of_ble_eq_true rfl) (by decide) rfl (Nat.le_refl _) (by omega) (by omega) c8 ?_
    refine Ev.mono v ?_
    intro u h1 v
    obtain ⟨r1, rfl, v⟩ := ki_el v
    obtain ⟨hm1, v⟩ := v
    change Ev l D Y_Any_spread _ _ _ 20 [some (vr x0), some (vr 20), some (vi x2)] [vi r1] _ _
    obtain ⟨vt, vf⟩ := v
    refine a_if_eq (tgt := 34) d_Any_spread_20 (by decide) (fun c => ?_) (fun c => ?_)
    · have v := vt (c); clear vt vf
      refine a_iinc (L' := [some (vr x0), some (vr 20), some (vi (wr (x2 + (1 : Int))))]) d_Any_spread_34 rfl (Nat.le_of_ble_eq_true rfl) rfl rfl ?_
      refine a_goto (tgt := 2) d_Any_spread_37 (by decide) ?_
      exact v
    · have v := vf (c); clear vt vf
      refine a_aload_n d_Any_spread_23 rfl ?_
      refine a_aload_n d_Any_spread_24 rfl ?_
      refine a_aload_n d_Any_spread_25 rfl ?_
      refine a_getAeN fl_Any_31 d_Any_spread_26 (beq_iff_eq.mpr (KNG_20 hm1)) (KRG_20_2 hm1) ?_
      refine a_iload_n d_Any_spread_29 rfl ?_
      obtain ⟨c5, c6, v⟩ := v
      refine a_aald d_Any_spread_30 ⟨by rw [KNG_22 hm1]; decide, by rw [KNG_22 hm1]; decide⟩ c5 (lt_len (NNG_22 hm1) c6) ?_
      obtain ⟨c7, v⟩ := v
      refine b_callU (as := [vr 20, vr (xR h1 22 (x2).toNat)]) (b := x0) (st := []) (kc1 := 0) (ks1 := 0) (kc2 := kc) (ks2 := ks) (d' := d) ml_Any_39 mt_Any_call rfl d_Any_spread_31 rfl rfl (fl1 (Nat.le_of_ble_eq_true rfl)) (Nat.le_refl _) (by omega) (by omega) (beq_iff_eq.mpr c7) ?_
      refine Ev.mono v ?_
      intro u h2 v
      obtain ⟨rfl, v⟩ := kv_el v
      obtain ⟨hm2, v⟩ := v
      change Ev l D Y_Any_spread _ _ _ 34 [some (vr x0), some (vr 20), some (vi x2)] [] _ _
      refine a_iinc (L' := [some (vr x0), some (vr 20), some (vi (wr (x2 + (1 : Int))))]) d_Any_spread_34 rfl (Nat.le_of_ble_eq_true rfl) rfl rfl ?_
      refine a_goto (tgt := 2) d_Any_spread_37 (by decide) ?_
      exact v
theorem d_Out_spread_0 : decode Y_Out_spread.2.1 0 = .ok (.iconst 0, 1) := by decide +kernel
theorem d_Out_spread_1 : decode Y_Out_spread.2.1 1 = .ok (.istore_n 2, 1) := by decide +kernel
theorem d_Out_spread_2 : decode Y_Out_spread.2.1 2 = .ok (.iload_n 2, 1) := by decide +kernel
theorem d_Out_spread_3 : decode Y_Out_spread.2.1 3 = .ok (.aload_n 1, 1) := by decide +kernel
theorem d_Out_spread_4 : decode Y_Out_spread.2.1 4 = .ok (.getfield 15, 3) := by decide +kernel
theorem d_Out_spread_7 : decode Y_Out_spread.2.1 7 = .ok (.if_icmp .ge 34, 3) := by decide +kernel
theorem d_Out_spread_10 : decode Y_Out_spread.2.1 10 = .ok (.aload_n 1, 1) := by decide +kernel
theorem d_Out_spread_11 : decode Y_Out_spread.2.1 11 = .ok (.getfield 18, 3) := by decide +kernel
theorem d_Out_spread_14 : decode Y_Out_spread.2.1 14 = .ok (.aload_n 0, 1) := by decide +kernel
theorem d_Out_spread_15 : decode Y_Out_spread.2.1 15 = .ok (.getfield 9, 3) := by decide +kernel
theorem d_Out_spread_18 : decode Y_Out_spread.2.1 18 = .ok (.aaload, 1) := by decide +kernel
theorem d_Out_spread_19 : decode Y_Out_spread.2.1 19 = .ok (.iload_n 2, 1) := by decide +kernel
theorem d_Out_spread_20 : decode Y_Out_spread.2.1 20 = .ok (.baload, 1) := by decide +kernel
theorem d_Out_spread_21 : decode Y_Out_spread.2.1 21 = .ok (.ifCond .eq 14, 3) := by decide +kernel
theorem d_Out_spread_24 : decode Y_Out_spread.2.1 24 = .ok (.aload_n 0, 1) := by decide +kernel
theorem d_Out_spread_25 : decode Y_Out_spread.2.1 25 = .ok (.aload_n 1, 1) := by decide +kernel
theorem d_Out_spread_26 : decode Y_Out_spread.2.1 26 = .ok (.aload_n 1, 1) := by decide +kernel
theorem d_Out_spread_27 : decode Y_Out_spread.2.1 27 = .ok (.getfield 22, 3) := by decide +kernel
theorem d_Out_spread_30 : decode Y_Out_spread.2.1 30 = .ok (.iload_n 2, 1) := by decide +kernel
theorem d_Out_spread_31 : decode Y_Out_spread.2.1 31 = .ok (.aaload, 1) := by decide +kernel
theorem d_Out_spread_32 : decode Y_Out_spread.2.1 32 = .ok (.invokevirtual 26, 3) := by decide +kernel
theorem d_Out_spread_35 : decode Y_Out_spread.2.1 35 = .ok (.iinc 2 1, 3) := by decide +kernel
theorem d_Out_spread_38 : decode Y_Out_spread.2.1 38 = .ok (.goto (-36), 3) := by decide +kernel
theorem d_Out_spread_41 : decode Y_Out_spread.2.1 41 = .ok (.return_, 1) := by decide +kernel
theorem g_Out_spread_0 {l : Launch} {D : DD} {d kc ks : Nat} {h : Hp} {Φ : Option AV → Hp → Prop} {x0 : Nat} (hM : GS h) (v : Ev l D Y_Out_spread (d + 1) kc ks 2 [some (vr x0), some (vr 20), some (vi (0 : Int))] [] h Φ) : Ev l D Y_Out_spread (d + 1) kc ks 0 [some (vr x0), some (vr 20), none] [] h Φ := by
  refine a_iconst d_Out_spread_0 ⟨by decide, by decide⟩ ?_
  refine a_istore_n (L' := [some (vr x0), some (vr 20), some (vi (0 : Int))]) d_Out_spread_1 (Nat.le_of_ble_eq_true rfl) rfl rfl ?_
  exact v
theorem g_Out_spread_2 {l : Launch} {D : DD} {d kc ks : Nat} {h : Hp} {Φ : Option AV → Hp → Prop} {x0 : Nat} {x2 : Int} (hM : GS h) (v : (x2 ≥ xI h 20 3 → (Φ none h)) ∧ (x2 < xI h 20 3 → (xK h x0 = 10 ∧ (0 ≤ xI h x0 4 ∧ xI h x0 4 < 4 ∧ (xK h (xR h 25 (xI h x0 4).toNat) = 21 ∧ 0 ≤ x2 ∧ x2 < xN h (xR h 25 (xI h x0 4).toNat) ∧ ((xI h (xR h 25 (xI h x0 4).toNat) (x2).toNat = 0 → (Ev l D Y_Out_spread (d + 1) kc ks 2 [some (vr x0), some (vr 20), some (vi (wr (x2 + (1 : Int))))] [] h Φ)) ∧ (¬ xI h (xR h 25 (xI h x0 4).toNat) (x2).toNat = 0 → (0 ≤ x2 ∧ x2 < 48 ∧ (xK h x0 = 10 ∧ Ev l D (mt_Out_call_Y (xK h x0)) d 0 0 0 (enL (mt_Out_call_Y (xK h x0)).2.2.1 [vr x0, vr 20, vr (xR h 22 (x2).toNat)]) [] h (kv (fun h1 => GS h1 ∧ (Ev l D Y_Out_spread (d + 1) kc ks 2 [some (vr x0), some (vr 20), some (vi (wr (x2 + (1 : Int))))] [] h1 Φ)))))))))))) : Ev l D Y_Out_spread (d + 1) kc ks 2 [some (vr x0), some (vr 20), some (vi x2)] [] h Φ := by
  refine a_iload_n d_Out_spread_2 rfl ?_
  refine a_aload_n d_Out_spread_3 rfl ?_
  refine a_getIN fl_Out_15 d_Out_spread_4 (beq_iff_eq.mpr (KNG_20 hM)) ?_
  obtain ⟨vt, vf⟩ := v
  refine a_icmp_ge (tgt := 41) d_Out_spread_7 (by decide) (fun c => ?_) (fun c => ?_)
  · have v := vt (c); clear vt vf
    exact a_vret d_Out_spread_41 rfl v
  · have v := vf (Int.not_le.mp c); clear vt vf
    refine a_aload_n d_Out_spread_10 rfl ?_
    refine a_getAeN fl_Out_18 d_Out_spread_11 (beq_iff_eq.mpr (KNG_20 hM)) (KRG_20_11 hM) ?_
    refine a_aload_n d_Out_spread_14 rfl ?_
    obtain ⟨c1, v⟩ := v
    refine a_getI fl_Out_9 d_Out_spread_15 (beq_iff_eq.mpr c1) ?_
    obtain ⟨c3, c4, v⟩ := v
    refine a_aald d_Out_spread_18 ⟨by rw [KNG_25 hM]; decide, by rw [KNG_25 hM]; decide⟩ c3 (lt_len (NNG_25 hM) c4) ?_
    refine a_iload_n d_Out_spread_19 rfl ?_
    obtain ⟨c5, c6, c7, v⟩ := v
    refine a_zald d_Out_spread_20 c5 c6 c7 ?_
    obtain ⟨vt, vf⟩ := v
    refine a_if_eq (tgt := 35) d_Out_spread_21 (by decide) (fun c => ?_) (fun c => ?_)
    · have v := vt (c); clear vt vf
      refine a_iinc (L' := [some (vr x0), some (vr 20), some (vi (wr (x2 + (1 : Int))))]) d_Out_spread_35 rfl (Nat.le_of_ble_eq_true rfl) rfl rfl ?_
      refine a_goto (tgt := 2) d_Out_spread_38 (by decide) ?_
      exact v
    · have v := vf (c); clear vt vf
      refine a_aload_n d_Out_spread_24 rfl ?_
      refine a_aload_n d_Out_spread_25 rfl ?_
      refine a_aload_n d_Out_spread_26 rfl ?_
      refine a_getAeN fl_Out_22 d_Out_spread_27 (beq_iff_eq.mpr (KNG_20 hM)) (KRG_20_2 hM) ?_
      refine a_iload_n d_Out_spread_30 rfl ?_
      obtain ⟨c9, c10, v⟩ := v
      refine a_aald d_Out_spread_31 ⟨by rw [KNG_22 hM]; decide, by rw [KNG_22 hM]; decide⟩ c9 (lt_len (NNG_22 hM) c10) ?_
      obtain ⟨c11, v⟩ := v
      refine b_callU (as := [vr 20, vr (xR h 22 (x2).toNat)]) (b := x0) (st := []) (kc1 := 0) (ks1 := 0) (kc2 := kc) (ks2 := ks) (d' := d) ml_Out_26 mt_Out_call rfl d_Out_spread_32 rfl rfl (fl1 (Nat.le_of_ble_eq_true rfl)) (Nat.le_refl _) (by omega) (by omega) (beq_iff_eq.mpr c11) ?_
      refine Ev.mono v ?_
      intro u h1 v
      obtain ⟨rfl, v⟩ := kv_el v
      obtain ⟨hm1, v⟩ := v
      change Ev l D Y_Out_spread _ _ _ 35 [some (vr x0), some (vr 20), some (vi x2)] [] _ _
      refine a_iinc (L' := [some (vr x0), some (vr 20), some (vi (wr (x2 + (1 : Int))))]) d_Out_spread_35 rfl (Nat.le_of_ble_eq_true rfl) rfl rfl ?_
      refine a_goto (tgt := 2) d_Out_spread_38 (by decide) ?_
      exact v
theorem d_Put_spread_0 : decode Y_Put_spread.2.1 0 = .ok (.aload_n 1, 1) := by decide +kernel
theorem d_Put_spread_1 : decode Y_Put_spread.2.1 1 = .ok (.getfield 17, 3) := by decide +kernel
theorem d_Put_spread_4 : decode Y_Put_spread.2.1 4 = .ok (.aload_n 0, 1) := by decide +kernel
theorem d_Put_spread_5 : decode Y_Put_spread.2.1 5 = .ok (.getfield 7, 3) := by decide +kernel
theorem d_Put_spread_8 : decode Y_Put_spread.2.1 8 = .ok (.aaload, 1) := by decide +kernel
theorem d_Put_spread_9 : decode Y_Put_spread.2.1 9 = .ok (.aload_n 0, 1) := by decide +kernel
theorem d_Put_spread_10 : decode Y_Put_spread.2.1 10 = .ok (.getfield 13, 3) := by decide +kernel
theorem d_Put_spread_13 : decode Y_Put_spread.2.1 13 = .ok (.getfield 23, 3) := by decide +kernel
theorem d_Put_spread_16 : decode Y_Put_spread.2.1 16 = .ok (.baload, 1) := by decide +kernel
theorem d_Put_spread_17 : decode Y_Put_spread.2.1 17 = .ok (.ifCond .ne 26, 3) := by decide +kernel
theorem d_Put_spread_20 : decode Y_Put_spread.2.1 20 = .ok (.aload_n 1, 1) := by decide +kernel
theorem d_Put_spread_21 : decode Y_Put_spread.2.1 21 = .ok (.getfield 17, 3) := by decide +kernel
theorem d_Put_spread_24 : decode Y_Put_spread.2.1 24 = .ok (.aload_n 0, 1) := by decide +kernel
theorem d_Put_spread_25 : decode Y_Put_spread.2.1 25 = .ok (.getfield 7, 3) := by decide +kernel
theorem d_Put_spread_28 : decode Y_Put_spread.2.1 28 = .ok (.aaload, 1) := by decide +kernel
theorem d_Put_spread_29 : decode Y_Put_spread.2.1 29 = .ok (.aload_n 0, 1) := by decide +kernel
theorem d_Put_spread_30 : decode Y_Put_spread.2.1 30 = .ok (.getfield 13, 3) := by decide +kernel
theorem d_Put_spread_33 : decode Y_Put_spread.2.1 33 = .ok (.getfield 23, 3) := by decide +kernel
theorem d_Put_spread_36 : decode Y_Put_spread.2.1 36 = .ok (.iconst 1, 1) := by decide +kernel
theorem d_Put_spread_37 : decode Y_Put_spread.2.1 37 = .ok (.bastore, 1) := by decide +kernel
theorem d_Put_spread_38 : decode Y_Put_spread.2.1 38 = .ok (.aload_n 1, 1) := by decide +kernel
theorem d_Put_spread_39 : decode Y_Put_spread.2.1 39 = .ok (.iconst 1, 1) := by decide +kernel
theorem d_Put_spread_40 : decode Y_Put_spread.2.1 40 = .ok (.putfield 28, 3) := by decide +kernel
theorem d_Put_spread_43 : decode Y_Put_spread.2.1 43 = .ok (.return_, 1) := by decide +kernel
theorem g_Put_spread_0 {l : Launch} {D : DD} {d kc ks : Nat} {h : Hp} {Φ : Option AV → Hp → Prop} {x0 : Nat} (hM : GS h) (v : xK h x0 = 9 ∧ (0 ≤ xI h x0 4 ∧ xI h x0 4 < 4 ∧ (xK h x0 = 9 ∧ (xK h (xR h x0 5) = 4 ∧ (xK h (xR h 25 (xI h x0 4).toNat) = 21 ∧ 0 ≤ xI h (xR h x0 5) 0 ∧ xI h (xR h x0 5) 0 < xN h (xR h 25 (xI h x0 4).toNat) ∧ ((¬ xI h (xR h 25 (xI h x0 4).toNat) (xI h (xR h x0 5) 0).toNat = 0 → (Φ none h)) ∧ (xI h (xR h 25 (xI h x0 4).toNat) (xI h (xR h x0 5) 0).toNat = 0 → (xK h x0 = 9 ∧ (0 ≤ xI h x0 4 ∧ xI h x0 4 < 4 ∧ (xK h x0 = 9 ∧ (xK h (xR h x0 5) = 4 ∧ (xK h (xR h 25 (xI h x0 4).toNat) = 21 ∧ 16 ≤ xR h 25 (xI h x0 4).toNat ∧ 0 ≤ xI h (xR h x0 5) 0 ∧ xI h (xR h x0 5) 0 < xN h (xR h 25 (xI h x0 4).toNat) ∧ (∀ h1 : Hp, h1 = sI h (xR h 25 (xI h x0 4).toNat) (xI h (xR h x0 5) 0).toNat (1 : Int) → (∀ h2 : Hp, h2 = sI h1 20 8 (1 : Int) → (Φ none h2))))))))))))))) : Ev l D Y_Put_spread d kc ks 0 [some (vr x0), some (vr 20)] [] h Φ := by
  refine a_aload_n d_Put_spread_0 rfl ?_
  refine a_getAeN fl_Put_17 d_Put_spread_1 (beq_iff_eq.mpr (KNG_20 hM)) (KRG_20_11 hM) ?_
  refine a_aload_n d_Put_spread_4 rfl ?_
  obtain ⟨c1, v⟩ := v
  refine a_getI fl_Put_7 d_Put_spread_5 (beq_iff_eq.mpr c1) ?_
  obtain ⟨c3, c4, v⟩ := v
  refine a_aald d_Put_spread_8 ⟨by rw [KNG_25 hM]; decide, by rw [KNG_25 hM]; decide⟩ c3 (lt_len (NNG_25 hM) c4) ?_
  refine a_aload_n d_Put_spread_9 rfl ?_
  obtain ⟨c5, v⟩ := v
  refine a_getR fl_Put_13 d_Put_spread_10 (beq_iff_eq.mpr c5) ?_
  obtain ⟨c6, v⟩ := v
  refine a_getIN fl_Put_23 d_Put_spread_13 (beq_iff_eq.mpr c6) ?_
  obtain ⟨c7, c8, c9, v⟩ := v
  refine a_zald d_Put_spread_16 c7 c8 c9 ?_
  obtain ⟨vt, vf⟩ := v
  refine a_if_ne (tgt := 43) d_Put_spread_17 (by decide) (fun c => ?_) (fun c => ?_)
  · have v := vt (c); clear vt vf
    exact a_vret d_Put_spread_43 rfl v
  · have v := vf (Classical.not_not.mp c); clear vt vf
    refine a_aload_n d_Put_spread_20 rfl ?_
    refine a_getAeN fl_Put_17 d_Put_spread_21 (beq_iff_eq.mpr (KNG_20 hM)) (KRG_20_11 hM) ?_
    refine a_aload_n d_Put_spread_24 rfl ?_
    obtain ⟨c10, v⟩ := v
    refine a_getI fl_Put_7 d_Put_spread_25 (beq_iff_eq.mpr c10) ?_
    obtain ⟨c12, c13, v⟩ := v
    refine a_aald d_Put_spread_28 ⟨by rw [KNG_25 hM]; decide, by rw [KNG_25 hM]; decide⟩ c12 (lt_len (NNG_25 hM) c13) ?_
    refine a_aload_n d_Put_spread_29 rfl ?_
    obtain ⟨c14, v⟩ := v
    refine a_getR fl_Put_13 d_Put_spread_30 (beq_iff_eq.mpr c14) ?_
    obtain ⟨c15, v⟩ := v
    refine a_getIN fl_Put_23 d_Put_spread_33 (beq_iff_eq.mpr c15) ?_
    refine a_iconst d_Put_spread_36 ⟨by decide, by decide⟩ ?_
    obtain ⟨c16, c17, c18, c19, v⟩ := v
    have v := v _ rfl
    refine a_zast d_Put_spread_37 c16 c17 c18 c19 (Or.inr rfl) ?_
    refine a_aload_n d_Put_spread_38 rfl ?_
    refine a_iconst d_Put_spread_39 ⟨by decide, by decide⟩ ?_
    have v := v _ rfl
    refine a_putZN fl_Put_28 d_Put_spread_40 (beq_iff_eq.mpr (KNG_20 hM)) (by decide) (Or.inr rfl) ?_
    exact a_vret d_Put_spread_43 rfl v
theorem d_New_spread_0 : decode Y_New_spread.2.1 0 = .ok (.aload_n 1, 1) := by decide +kernel
theorem d_New_spread_1 : decode Y_New_spread.2.1 1 = .ok (.getfield 13, 3) := by decide +kernel
theorem d_New_spread_4 : decode Y_New_spread.2.1 4 = .ok (.aload_n 0, 1) := by decide +kernel
theorem d_New_spread_5 : decode Y_New_spread.2.1 5 = .ok (.getfield 7, 3) := by decide +kernel
theorem d_New_spread_8 : decode Y_New_spread.2.1 8 = .ok (.getfield 19, 3) := by decide +kernel
theorem d_New_spread_11 : decode Y_New_spread.2.1 11 = .ok (.baload, 1) := by decide +kernel
theorem d_New_spread_12 : decode Y_New_spread.2.1 12 = .ok (.ifCond .ne 21, 3) := by decide +kernel
theorem d_New_spread_15 : decode Y_New_spread.2.1 15 = .ok (.aload_n 1, 1) := by decide +kernel
theorem d_New_spread_16 : decode Y_New_spread.2.1 16 = .ok (.getfield 13, 3) := by decide +kernel
theorem d_New_spread_19 : decode Y_New_spread.2.1 19 = .ok (.aload_n 0, 1) := by decide +kernel
theorem d_New_spread_20 : decode Y_New_spread.2.1 20 = .ok (.getfield 7, 3) := by decide +kernel
theorem d_New_spread_23 : decode Y_New_spread.2.1 23 = .ok (.getfield 19, 3) := by decide +kernel
theorem d_New_spread_26 : decode Y_New_spread.2.1 26 = .ok (.iconst 1, 1) := by decide +kernel
theorem d_New_spread_27 : decode Y_New_spread.2.1 27 = .ok (.bastore, 1) := by decide +kernel
theorem d_New_spread_28 : decode Y_New_spread.2.1 28 = .ok (.aload_n 1, 1) := by decide +kernel
theorem d_New_spread_29 : decode Y_New_spread.2.1 29 = .ok (.iconst 1, 1) := by decide +kernel
theorem d_New_spread_30 : decode Y_New_spread.2.1 30 = .ok (.putfield 25, 3) := by decide +kernel
theorem d_New_spread_33 : decode Y_New_spread.2.1 33 = .ok (.aload_n 1, 1) := by decide +kernel
theorem d_New_spread_34 : decode Y_New_spread.2.1 34 = .ok (.aload_n 0, 1) := by decide +kernel
theorem d_New_spread_35 : decode Y_New_spread.2.1 35 = .ok (.aload_n 0, 1) := by decide +kernel
theorem d_New_spread_36 : decode Y_New_spread.2.1 36 = .ok (.getfield 7, 3) := by decide +kernel
theorem d_New_spread_39 : decode Y_New_spread.2.1 39 = .ok (.invokevirtual 29, 3) := by decide +kernel
theorem d_New_spread_42 : decode Y_New_spread.2.1 42 = .ok (.return_, 1) := by decide +kernel
theorem g_New_spread_0 {l : Launch} {D : DD} {d kc ks : Nat} {h : Hp} {Φ : Option AV → Hp → Prop} {x0 : Nat} (hM : GS h) (v : xK h x0 = 5 ∧ (xK h (xR h x0 4) = 3 ∧ (0 ≤ xI h (xR h x0 4) 0 ∧ xI h (xR h x0 4) 0 < 16 ∧ ((¬ xI h 23 (xI h (xR h x0 4) 0).toNat = 0 → (xK h x0 = 5 ∧ (Ev l D Y_G_begin d 0 0 0 [some (vr 20), some (vr x0), some (vr (xR h x0 4)), none, none] [] h (kv (fun h1 => GS h1 ∧ (Φ none h1)))))) ∧ (xI h 23 (xI h (xR h x0 4) 0).toNat = 0 → (xK h x0 = 5 ∧ (xK h (xR h x0 4) = 3 ∧ (0 ≤ xI h (xR h x0 4) 0 ∧ xI h (xR h x0 4) 0 < 16 ∧ (∀ h2 : Hp, h2 = sI h 23 (xI h (xR h x0 4) 0).toNat (1 : Int) → (∀ h3 : Hp, h3 = sI h2 20 8 (1 : Int) → (xK h3 x0 = 5 ∧ (Ev l D Y_G_begin d 0 0 0 [some (vr 20), some (vr x0), some (vr (xR h3 x0 4)), none, none] [] h3 (kv (fun h4 => GS h4 ∧ (Φ none h4))))))))))))))) : Ev l D Y_New_spread (d + 1) kc ks 0 [some (vr x0), some (vr 20)] [] h Φ := by
  refine a_aload_n d_New_spread_0 rfl ?_
  refine a_getAeN fl_New_13 d_New_spread_1 (beq_iff_eq.mpr (KNG_20 hM)) (KRG_20_9 hM) ?_
  refine a_aload_n d_New_spread_4 rfl ?_
  obtain ⟨c1, v⟩ := v
  refine a_getR fl_New_7 d_New_spread_5 (beq_iff_eq.mpr c1) ?_
  obtain ⟨c2, v⟩ := v
  refine a_getIN fl_New_19 d_New_spread_8 (beq_iff_eq.mpr c2) ?_
  obtain ⟨c4, c5, v⟩ := v
  refine a_zald d_New_spread_11 (KNG_23 hM) c4 (lt_len (NNG_23 hM) c5) ?_
  obtain ⟨vt, vf⟩ := v
  refine a_if_ne (tgt := 33) d_New_spread_12 (by decide) (fun c => ?_) (fun c => ?_)
  · have v := vt (c); clear vt vf
    refine a_aload_n d_New_spread_33 rfl ?_
    refine a_aload_n d_New_spread_34 rfl ?_
    refine a_aload_n d_New_spread_35 rfl ?_
    obtain ⟨c6, v⟩ := v
    refine a_getR fl_New_7 d_New_spread_36 (beq_iff_eq.mpr c6) ?_
    refine b_callN (as := [vr x0, vr (xR h x0 4)]) (b := 20) (st := []) (kd := 1) (kc1 := 0) (ks1 := 0) (kc2 := kc) (ks2 := ks) (d' := d) ml_New_29 rfl d_New_spread_39 rfl rfl (Nat.le_of_ble_eq_true rfl) (by decide) rfl (Nat.le_refl _) (by omega) (by omega) (KNG_20 hM) ?_
    refine Ev.mono v ?_
    intro u h1 v
    obtain ⟨rfl, v⟩ := kv_el v
    obtain ⟨hm1, v⟩ := v
    change Ev l D Y_New_spread _ _ _ 42 [some (vr x0), some (vr 20)] [] _ _
    exact a_vret d_New_spread_42 rfl v
  · have v := vf (Classical.not_not.mp c); clear vt vf
    refine a_aload_n d_New_spread_15 rfl ?_
    refine a_getAeN fl_New_13 d_New_spread_16 (beq_iff_eq.mpr (KNG_20 hM)) (KRG_20_9 hM) ?_
    refine a_aload_n d_New_spread_19 rfl ?_
    obtain ⟨c8, v⟩ := v
    refine a_getR fl_New_7 d_New_spread_20 (beq_iff_eq.mpr c8) ?_
    obtain ⟨c9, v⟩ := v
    refine a_getIN fl_New_19 d_New_spread_23 (beq_iff_eq.mpr c9) ?_
    refine a_iconst d_New_spread_26 ⟨by decide, by decide⟩ ?_
    obtain ⟨c12, c13, v⟩ := v
    have v := v _ rfl
    refine a_zast d_New_spread_27 (KNG_23 hM) (by decide) c12 (lt_len (NNG_23 hM) c13) (Or.inr rfl) ?_
    refine a_aload_n d_New_spread_28 rfl ?_
    refine a_iconst d_New_spread_29 ⟨by decide, by decide⟩ ?_
    have v := v _ rfl
    refine a_putZN fl_New_25 d_New_spread_30 (beq_iff_eq.mpr (KNG_20 hM)) (by decide) (Or.inr rfl) ?_
    refine a_aload_n d_New_spread_33 rfl ?_
    refine a_aload_n d_New_spread_34 rfl ?_
    refine a_aload_n d_New_spread_35 rfl ?_
    obtain ⟨c16, v⟩ := v
    refine a_getR fl_New_7 d_New_spread_36 (beq_iff_eq.mpr c16) ?_
    refine b_callN (as := [vr x0, vr (xR (sI (sI h 23 (xI h (xR h x0 4) 0).toNat (1 : Int)) 20 8 (1 : Int)) x0 4)]) (b := 20) (st := []) (kd := 1) (kc1 := 0) (ks1 := 0) (kc2 := kc) (ks2 := ks) (d' := d) ml_New_29 rfl d_New_spread_39 rfl rfl (Nat.le_of_ble_eq_true rfl) (by decide) rfl (Nat.le_refl _) (by omega) (by omega) (KNG_20 hM) ?_
    refine Ev.mono v ?_
    intro u h4 v
    obtain ⟨rfl, v⟩ := kv_el v
    obtain ⟨hm2, v⟩ := v
    change Ev l D Y_New_spread _ _ _ 42 [some (vr x0), some (vr 20)] [] _ _
    exact a_vret d_New_spread_42 rfl v
theorem d_Up_spread_0 : decode Y_Up_spread.2.1 0 = .ok (.aload_n 1, 1) := by decide +kernel
theorem d_Up_spread_1 : decode Y_Up_spread.2.1 1 = .ok (.aload_n 0, 1) := by decide +kernel
theorem d_Up_spread_2 : decode Y_Up_spread.2.1 2 = .ok (.getfield 7, 3) := by decide +kernel
theorem d_Up_spread_5 : decode Y_Up_spread.2.1 5 = .ok (.aload_n 1, 1) := by decide +kernel
theorem d_Up_spread_6 : decode Y_Up_spread.2.1 6 = .ok (.aload_n 0, 1) := by decide +kernel
theorem d_Up_spread_7 : decode Y_Up_spread.2.1 7 = .ok (.getfield 7, 3) := by decide +kernel
theorem d_Up_spread_10 : decode Y_Up_spread.2.1 10 = .ok (.aload_n 0, 1) := by decide +kernel
theorem d_Up_spread_11 : decode Y_Up_spread.2.1 11 = .ok (.getfield 13, 3) := by decide +kernel
theorem d_Up_spread_14 : decode Y_Up_spread.2.1 14 = .ok (.invokevirtual 17, 3) := by decide +kernel
theorem d_Up_spread_17 : decode Y_Up_spread.2.1 17 = .ok (.invokevirtual 23, 3) := by decide +kernel
theorem d_Up_spread_20 : decode Y_Up_spread.2.1 20 = .ok (.istore_n 2, 1) := by decide +kernel
theorem d_Up_spread_21 : decode Y_Up_spread.2.1 21 = .ok (.iload_n 2, 1) := by decide +kernel
theorem d_Up_spread_22 : decode Y_Up_spread.2.1 22 = .ok (.ifCond .lt 14, 3) := by decide +kernel
theorem d_Up_spread_25 : decode Y_Up_spread.2.1 25 = .ok (.aload_n 0, 1) := by decide +kernel
theorem d_Up_spread_26 : decode Y_Up_spread.2.1 26 = .ok (.aload_n 1, 1) := by decide +kernel
theorem d_Up_spread_27 : decode Y_Up_spread.2.1 27 = .ok (.aload_n 1, 1) := by decide +kernel
theorem d_Up_spread_28 : decode Y_Up_spread.2.1 28 = .ok (.getfield 27, 3) := by decide +kernel
theorem d_Up_spread_31 : decode Y_Up_spread.2.1 31 = .ok (.iload_n 2, 1) := by decide +kernel
theorem d_Up_spread_32 : decode Y_Up_spread.2.1 32 = .ok (.aaload, 1) := by decide +kernel
theorem d_Up_spread_33 : decode Y_Up_spread.2.1 33 = .ok (.invokevirtual 31, 3) := by decide +kernel
theorem d_Up_spread_36 : decode Y_Up_spread.2.1 36 = .ok (.return_, 1) := by decide +kernel
theorem g_Up_spread_0 {l : Launch} {D : DD} {d kc ks : Nat} {h : Hp} {Φ : Option AV → Hp → Prop} {x0 : Nat} (hM : GS h) (v : xK h x0 = 7 ∧ (xK h x0 = 7 ∧ (xK h x0 = 7 ∧ (Ev l D Y_G_find d 0 0 0 [some (vr 20), some (vr (xR h x0 4)), some (vi (xI h x0 5)), none] [] h (kr (fun r1 h1 => GS h1 ∧ (Ev l D Y_G_choose d 0 0 0 [some (vr 20), some (vr (xR h x0 4)), some (vr r1), none, none] [] h1 (ki (fun r2 h2 => GS h2 ∧ ((r2 < 0 → (Φ none h2)) ∧ (r2 ≥ 0 → (0 ≤ r2 ∧ r2 < 48 ∧ (xK h2 x0 = 7 ∧ Ev l D (mt_Up_call_Y (xK h2 x0)) d 0 0 0 (enL (mt_Up_call_Y (xK h2 x0)).2.2.1 [vr x0, vr 20, vr (xR h2 22 (r2).toNat)]) [] h2 (kv (fun h3 => GS h3 ∧ (Φ none h3)))))))))))))))) : Ev l D Y_Up_spread (d + 1) kc ks 0 [some (vr x0), some (vr 20), none] [] h Φ := by
  refine a_aload_n d_Up_spread_0 rfl ?_
  refine a_aload_n d_Up_spread_1 rfl ?_
  obtain ⟨c1, v⟩ := v
  refine a_getR fl_Up_7 d_Up_spread_2 (beq_iff_eq.mpr c1) ?_
  refine a_aload_n d_Up_spread_5 rfl ?_
  refine a_aload_n d_Up_spread_6 rfl ?_
  obtain ⟨c2, v⟩ := v
  refine a_getR fl_Up_7 d_Up_spread_7 (beq_iff_eq.mpr c2) ?_
  refine a_aload_n d_Up_spread_10 rfl ?_
  obtain ⟨c3, v⟩ := v
  refine a_getI fl_Up_13 d_Up_spread_11 (beq_iff_eq.mpr c3) ?_
  refine b_callN (as := [vr (xR h x0 4), vi (xI h x0 5)]) (b := 20) (st := [vr (xR h x0 4), vr 20]) (kd := 1) (kc1 := 0) (ks1 := 0) (kc2 := kc) (ks2 := ks) (d' := d) ml_Up_17 rfl d_Up_spread_14 rfl rfl (Nat.le_of_ble_eq_true rfl) (by decide) rfl (Nat.le_refl _) (by omega) (by omega) (KNG_20 hM) ?_
  refine Ev.mono v ?_
  intro u h1 v
  obtain ⟨r1, rfl, v⟩ := kr_el v
  obtain ⟨hm1, v⟩ := v
  change Ev l D Y_Up_spread _ _ _ 17 [some (vr x0), some (vr 20), none] [vr r1, vr (xR h x0 4), vr 20] _ _
  refine b_callN (as := [vr (xR h x0 4), vr r1]) (b := 20) (st := []) (kd := 1) (kc1 := 0) (ks1 := 0) (kc2 := kc) (ks2 := ks) (d' := d) ml_Up_23 rfl d_Up_spread_17 rfl rfl (Nat.le_of_ble_eq_true rfl) (by decide) rfl (Nat.le_refl _) (by omega) (by omega) (KNG_20 hm1) ?_
  refine Ev.mono v ?_
  intro u h2 v
  obtain ⟨r2, rfl, v⟩ := ki_el v
  obtain ⟨hm2, v⟩ := v
  change Ev l D Y_Up_spread _ _ _ 20 [some (vr x0), some (vr 20), none] [vi r2] _ _
  refine a_istore_n (L' := [some (vr x0), some (vr 20), some (vi r2)]) d_Up_spread_20 (Nat.le_of_ble_eq_true rfl) rfl rfl ?_
  refine a_iload_n d_Up_spread_21 rfl ?_
  obtain ⟨vt, vf⟩ := v
  refine a_if_lt (tgt := 36) d_Up_spread_22 (by decide) (fun c => ?_) (fun c => ?_)
  · have v := vt (c); clear vt vf
    exact a_vret d_Up_spread_36 rfl v
  · have v := vf (Int.not_lt.mp c); clear vt vf
    refine a_aload_n d_Up_spread_25 rfl ?_
    refine a_aload_n d_Up_spread_26 rfl ?_
    refine a_aload_n d_Up_spread_27 rfl ?_
    refine a_getAeN fl_Up_27 d_Up_spread_28 (beq_iff_eq.mpr (KNG_20 hm2)) (KRG_20_2 hm2) ?_
    refine a_iload_n d_Up_spread_31 rfl ?_
    obtain ⟨c5, c6, v⟩ := v
    refine a_aald d_Up_spread_32 ⟨by rw [KNG_22 hm2]; decide, by rw [KNG_22 hm2]; decide⟩ c5 (lt_len (NNG_22 hm2) c6) ?_
    obtain ⟨c7, v⟩ := v
    refine b_callU (as := [vr 20, vr (xR h2 22 (r2).toNat)]) (b := x0) (st := []) (kc1 := 0) (ks1 := 0) (kc2 := kc) (ks2 := ks) (d' := d) ml_Up_31 mt_Up_call rfl d_Up_spread_33 rfl rfl (fl1 (Nat.le_of_ble_eq_true rfl)) (Nat.le_refl _) (by omega) (by omega) (beq_iff_eq.mpr c7) ?_
    refine Ev.mono v ?_
    intro u h3 v
    obtain ⟨rfl, v⟩ := kv_el v
    obtain ⟨hm3, v⟩ := v
    change Ev l D Y_Up_spread _ _ _ 36 [some (vr x0), some (vr 20), some (vi r2)] [] _ _
    exact a_vret d_Up_spread_36 rfl v
theorem d_Up_judge_0 : decode Y_Up_judge.2.1 0 = .ok (.aload_n 1, 1) := by decide +kernel
theorem d_Up_judge_1 : decode Y_Up_judge.2.1 1 = .ok (.aload_n 0, 1) := by decide +kernel
theorem d_Up_judge_2 : decode Y_Up_judge.2.1 2 = .ok (.getfield 7, 3) := by decide +kernel
theorem d_Up_judge_5 : decode Y_Up_judge.2.1 5 = .ok (.aload_n 1, 1) := by decide +kernel
theorem d_Up_judge_6 : decode Y_Up_judge.2.1 6 = .ok (.aload_n 0, 1) := by decide +kernel
theorem d_Up_judge_7 : decode Y_Up_judge.2.1 7 = .ok (.getfield 7, 3) := by decide +kernel
theorem d_Up_judge_10 : decode Y_Up_judge.2.1 10 = .ok (.aload_n 0, 1) := by decide +kernel
theorem d_Up_judge_11 : decode Y_Up_judge.2.1 11 = .ok (.getfield 13, 3) := by decide +kernel
theorem d_Up_judge_14 : decode Y_Up_judge.2.1 14 = .ok (.invokevirtual 17, 3) := by decide +kernel
theorem d_Up_judge_17 : decode Y_Up_judge.2.1 17 = .ok (.invokevirtual 23, 3) := by decide +kernel
theorem d_Up_judge_20 : decode Y_Up_judge.2.1 20 = .ok (.istore_n 2, 1) := by decide +kernel
theorem d_Up_judge_21 : decode Y_Up_judge.2.1 21 = .ok (.iload_n 2, 1) := by decide +kernel
theorem d_Up_judge_22 : decode Y_Up_judge.2.1 22 = .ok (.ifCond .ge 8, 3) := by decide +kernel
theorem d_Up_judge_25 : decode Y_Up_judge.2.1 25 = .ok (.aload_n 0, 1) := by decide +kernel
theorem d_Up_judge_26 : decode Y_Up_judge.2.1 26 = .ok (.iload_n 2, 1) := by decide +kernel
theorem d_Up_judge_27 : decode Y_Up_judge.2.1 27 = .ok (.invokevirtual 35, 3) := by decide +kernel
theorem d_Up_judge_30 : decode Y_Up_judge.2.1 30 = .ok (.return_, 1) := by decide +kernel
theorem g_Up_judge_0 {l : Launch} {D : DD} {d kc ks : Nat} {h : Hp} {Φ : Option AV → Hp → Prop} {x0 : Nat} (hM : GS h) (v : xK h x0 = 7 ∧ (xK h x0 = 7 ∧ (xK h x0 = 7 ∧ (Ev l D Y_G_find d 0 0 0 [some (vr 20), some (vr (xR h x0 4)), some (vi (xI h x0 5)), none] [] h (kr (fun r1 h1 => GS h1 ∧ (Ev l D Y_G_choose d 0 0 0 [some (vr 20), some (vr (xR h x0 4)), some (vr r1), none, none] [] h1 (ki (fun r2 h2 => GS h2 ∧ ((r2 ≥ 0 → (Φ none h2)) ∧ (r2 < 0 → (xK h2 x0 = 7 ∧ Ev l D (mt_Up_fault_Y (xK h2 x0)) d 0 0 0 (enL (mt_Up_fault_Y (xK h2 x0)).2.2.1 [vr x0, vi r2]) [] h2 (kv (fun h3 => GS h3 ∧ (Φ none h3))))))))))))))) : Ev l D Y_Up_judge (d + 1) kc ks 0 [some (vr x0), some (vr 20), none] [] h Φ := by
  refine a_aload_n d_Up_judge_0 rfl ?_
  refine a_aload_n d_Up_judge_1 rfl ?_
  obtain ⟨c1, v⟩ := v
  refine a_getR fl_Up_7 d_Up_judge_2 (beq_iff_eq.mpr c1) ?_
  refine a_aload_n d_Up_judge_5 rfl ?_
  refine a_aload_n d_Up_judge_6 rfl ?_
  obtain ⟨c2, v⟩ := v
  refine a_getR fl_Up_7 d_Up_judge_7 (beq_iff_eq.mpr c2) ?_
  refine a_aload_n d_Up_judge_10 rfl ?_
  obtain ⟨c3, v⟩ := v
  refine a_getI fl_Up_13 d_Up_judge_11 (beq_iff_eq.mpr c3) ?_
  refine b_callN (as := [vr (xR h x0 4), vi (xI h x0 5)]) (b := 20) (st := [vr (xR h x0 4), vr 20]) (kd := 1) (kc1 := 0) (ks1 := 0) (kc2 := kc) (ks2 := ks) (d' := d) ml_Up_17 rfl d_Up_judge_14 rfl rfl (Nat.le_of_ble_eq_true rfl) (by decide) rfl (Nat.le_refl _) (by omega) (by omega) (KNG_20 hM) ?_
  refine Ev.mono v ?_
  intro u h1 v
  obtain ⟨r1, rfl, v⟩ := kr_el v
  obtain ⟨hm1, v⟩ := v
  change Ev l D Y_Up_judge _ _ _ 17 [some (vr x0), some (vr 20), none] [vr r1, vr (xR h x0 4), vr 20] _ _
  refine b_callN (as := [vr (xR h x0 4), vr r1]) (b := 20) (st := []) (kd := 1) (kc1 := 0) (ks1 := 0) (kc2 := kc) (ks2 := ks) (d' := d) ml_Up_23 rfl d_Up_judge_17 rfl rfl (Nat.le_of_ble_eq_true rfl) (by decide) rfl (Nat.le_refl _) (by omega) (by omega) (KNG_20 hm1) ?_
  refine Ev.mono v ?_
  intro u h2 v
  obtain ⟨r2, rfl, v⟩ := ki_el v
  obtain ⟨hm2, v⟩ := v
  change Ev l D Y_Up_judge _ _ _ 20 [some (vr x0), some (vr 20), none] [vi r2] _ _
  refine a_istore_n (L' := [some (vr x0), some (vr 20), some (vi r2)]) d_Up_judge_20 (Nat.le_of_ble_eq_true rfl) rfl rfl ?_
  refine a_iload_n d_Up_judge_21 rfl ?_
  obtain ⟨vt, vf⟩ := v
  refine a_if_ge (tgt := 30) d_Up_judge_22 (by decide) (fun c => ?_) (fun c => ?_)
  · have v := vt (c); clear vt vf
    exact a_vret d_Up_judge_30 rfl v
  · have v := vf (Int.not_le.mp c); clear vt vf
    refine a_aload_n d_Up_judge_25 rfl ?_
    refine a_iload_n d_Up_judge_26 rfl ?_
    obtain ⟨c4, v⟩ := v
    refine b_callU (as := [vi r2]) (b := x0) (st := []) (kc1 := 0) (ks1 := 0) (kc2 := kc) (ks2 := ks) (d' := d) ml_Up_35 mt_Up_fault rfl d_Up_judge_27 rfl rfl (fl1 (Nat.le_of_ble_eq_true rfl)) (Nat.le_refl _) (by omega) (by omega) (beq_iff_eq.mpr c4) ?_
    refine Ev.mono v ?_
    intro u h3 v
    obtain ⟨rfl, v⟩ := kv_el v
    obtain ⟨hm3, v⟩ := v
    change Ev l D Y_Up_judge _ _ _ 30 [some (vr x0), some (vr 20), some (vi r2)] [] _ _
    exact a_vret d_Up_judge_30 rfl v
theorem d_Static_told_0 : decode Y_Static_told.2.1 0 = .ok (.aload_n 1, 1) := by decide +kernel
theorem d_Static_told_1 : decode Y_Static_told.2.1 1 = .ok (.aload_n 0, 1) := by decide +kernel
theorem d_Static_told_2 : decode Y_Static_told.2.1 2 = .ok (.getfield 9, 3) := by decide +kernel
theorem d_Static_told_5 : decode Y_Static_told.2.1 5 = .ok (.aload_n 0, 1) := by decide +kernel
theorem d_Static_told_6 : decode Y_Static_told.2.1 6 = .ok (.getfield 15, 3) := by decide +kernel
theorem d_Static_told_9 : decode Y_Static_told.2.1 9 = .ok (.invokevirtual 19, 3) := by decide +kernel
theorem d_Static_told_12 : decode Y_Static_told.2.1 12 = .ok (.astore_n 2, 1) := by decide +kernel
theorem d_Static_told_13 : decode Y_Static_told.2.1 13 = .ok (.aload_n 2, 1) := by decide +kernel
theorem d_Static_told_14 : decode Y_Static_told.2.1 14 = .ok (.ifnull 17, 3) := by decide +kernel
theorem d_Static_told_17 : decode Y_Static_told.2.1 17 = .ok (.aload_n 2, 1) := by decide +kernel
theorem d_Static_told_18 : decode Y_Static_told.2.1 18 = .ok (.getfield 23, 3) := by decide +kernel
theorem d_Static_told_21 : decode Y_Static_told.2.1 21 = .ok (.getstatic 29, 3) := by decide +kernel
theorem d_Static_told_24 : decode Y_Static_told.2.1 24 = .ok (.if_acmp .ne 7, 3) := by decide +kernel
theorem d_Static_told_27 : decode Y_Static_told.2.1 27 = .ok (.aload_n 2, 1) := by decide +kernel
theorem d_Static_told_28 : decode Y_Static_told.2.1 28 = .ok (.goto 4, 3) := by decide +kernel
theorem d_Static_told_31 : decode Y_Static_told.2.1 31 = .ok (.aconst_null, 1) := by decide +kernel
theorem d_Static_told_32 : decode Y_Static_told.2.1 32 = .ok (.areturn, 1) := by decide +kernel
theorem g_Static_told_0 {l : Launch} {D : DD} {d kc ks : Nat} {h : Hp} {Φ : Option AV → Hp → Prop} {x0 : Nat} (hM : GS h) (v : xK h x0 = 8 ∧ (xK h x0 = 8 ∧ (Ev l D Y_G_find d 0 0 0 [some (vr 20), some (vr (xR h x0 4)), some (vi (xI h x0 5)), none] [] h (kr (fun r1 h1 => GS h1 ∧ ((r1 = 0 → (Φ (some (vr 0)) h1)) ∧ (¬ r1 = 0 → (xK h1 r1 = 4 ∧ ((¬ xR h1 r1 3 = 6 → (Φ (some (vr 0)) h1)) ∧ (xR h1 r1 3 = 6 → (Φ (some (vr r1)) h1))))))))))) : Ev l D Y_Static_told (d + 1) kc ks 0 [some (vr x0), some (vr 20), none] [] h Φ := by
  refine a_aload_n d_Static_told_0 rfl ?_
  refine a_aload_n d_Static_told_1 rfl ?_
  obtain ⟨c1, v⟩ := v
  refine a_getR fl_Static_9 d_Static_told_2 (beq_iff_eq.mpr c1) ?_
  refine a_aload_n d_Static_told_5 rfl ?_
  obtain ⟨c2, v⟩ := v
  refine a_getI fl_Static_15 d_Static_told_6 (beq_iff_eq.mpr c2) ?_
  refine b_callN (as := [vr (xR h x0 4), vi (xI h x0 5)]) (b := 20) (st := []) (kd := 1) (kc1 := 0) (ks1 := 0) (kc2 := kc) (ks2 := ks) (d' := d) ml_Static_19 rfl d_Static_told_9 rfl rfl (Nat.le_of_ble_eq_true rfl) (by decide) rfl (Nat.le_refl _) (by omega) (by omega) (KNG_20 hM) ?_
  refine Ev.mono v ?_
  intro u h1 v
  obtain ⟨r1, rfl, v⟩ := kr_el v
  obtain ⟨hm1, v⟩ := v
  change Ev l D Y_Static_told _ _ _ 12 [some (vr x0), some (vr 20), none] [vr r1] _ _
  refine a_astore_n (L' := [some (vr x0), some (vr 20), some (vr r1)]) d_Static_told_12 (Nat.le_of_ble_eq_true rfl) rfl rfl ?_
  refine a_aload_n d_Static_told_13 rfl ?_
  obtain ⟨vt, vf⟩ := v
  refine a_ifnull (tgt := 31) d_Static_told_14 (by decide) (fun c => ?_) (fun c => ?_)
  · have v := vt (c); clear vt vf
    refine a_null d_Static_told_31 ?_
    exact a_aret d_Static_told_32 rfl (Or.inl ⟨_, rfl⟩) v
  · have v := vf (c); clear vt vf
    refine a_aload_n d_Static_told_17 rfl ?_
    obtain ⟨c3, v⟩ := v
    refine a_getRN fl_Static_23 d_Static_told_18 (beq_iff_eq.mpr c3) ?_
    refine a_gets (k := 6) d_Static_told_21 (by decide +kernel) sl_Static_29 ?_
    obtain ⟨vt, vf⟩ := v
    refine a_acmp_ne (tgt := 31) d_Static_told_24 (by decide) (fun c => ?_) (fun c => ?_)
    · have v := vt (c); clear vt vf
      refine a_null d_Static_told_31 ?_
      exact a_aret d_Static_told_32 rfl (Or.inl ⟨_, rfl⟩) v
    · have v := vf (c); clear vt vf
      refine a_aload_n d_Static_told_27 rfl ?_
      refine a_goto (tgt := 32) d_Static_told_28 (by decide) ?_
      exact a_aret d_Static_told_32 rfl (Or.inl ⟨_, rfl⟩) v
theorem d_Static_spread_0 : decode Y_Static_spread.2.1 0 = .ok (.aload_n 0, 1) := by decide +kernel
theorem d_Static_spread_1 : decode Y_Static_spread.2.1 1 = .ok (.aload_n 1, 1) := by decide +kernel
theorem d_Static_spread_2 : decode Y_Static_spread.2.1 2 = .ok (.invokevirtual 34, 3) := by decide +kernel
theorem d_Static_spread_5 : decode Y_Static_spread.2.1 5 = .ok (.astore_n 2, 1) := by decide +kernel
theorem d_Static_spread_6 : decode Y_Static_spread.2.1 6 = .ok (.aload_n 2, 1) := by decide +kernel
theorem d_Static_spread_7 : decode Y_Static_spread.2.1 7 = .ok (.ifnull 18, 3) := by decide +kernel
theorem d_Static_spread_10 : decode Y_Static_spread.2.1 10 = .ok (.aload_n 0, 1) := by decide +kernel
theorem d_Static_spread_11 : decode Y_Static_spread.2.1 11 = .ok (.aload_n 1, 1) := by decide +kernel
theorem d_Static_spread_12 : decode Y_Static_spread.2.1 12 = .ok (.aload_n 2, 1) := by decide +kernel
theorem d_Static_spread_13 : decode Y_Static_spread.2.1 13 = .ok (.invokevirtual 38, 3) := by decide +kernel
theorem d_Static_spread_16 : decode Y_Static_spread.2.1 16 = .ok (.aload_n 1, 1) := by decide +kernel
theorem d_Static_spread_17 : decode Y_Static_spread.2.1 17 = .ok (.aload_n 0, 1) := by decide +kernel
theorem d_Static_spread_18 : decode Y_Static_spread.2.1 18 = .ok (.aload_n 2, 1) := by decide +kernel
theorem d_Static_spread_19 : decode Y_Static_spread.2.1 19 = .ok (.getfield 42, 3) := by decide +kernel
theorem d_Static_spread_22 : decode Y_Static_spread.2.1 22 = .ok (.invokevirtual 45, 3) := by decide +kernel
theorem d_Static_spread_25 : decode Y_Static_spread.2.1 25 = .ok (.return_, 1) := by decide +kernel
theorem g_Static_spread_0 {l : Launch} {D : DD} {d kc ks : Nat} {h : Hp} {Φ : Option AV → Hp → Prop} {x0 : Nat} (hM : GS h) (v : xK h x0 = 8 ∧ Ev l D Y_Static_told d 0 0 0 [some (vr x0), some (vr 20), none] [] h (kr (fun r1 h1 => GS h1 ∧ ((r1 = 0 → (Φ none h1)) ∧ (¬ r1 = 0 → (xK h1 x0 = 8 ∧ Ev l D (mt_Static_call_Y (xK h1 x0)) d 0 0 0 (enL (mt_Static_call_Y (xK h1 x0)).2.2.1 [vr x0, vr 20, vr r1]) [] h1 (kv (fun h2 => GS h2 ∧ (xK h2 r1 = 4 ∧ (Ev l D Y_G_begin d 0 0 0 [some (vr 20), some (vr x0), some (vr (xR h2 r1 1)), none, none] [] h2 (kv (fun h3 => GS h3 ∧ (Φ none h3))))))))))))) : Ev l D Y_Static_spread (d + 1) kc ks 0 [some (vr x0), some (vr 20), none] [] h Φ := by
  refine a_aload_n d_Static_spread_0 rfl ?_
  refine a_aload_n d_Static_spread_1 rfl ?_
  obtain ⟨c4, v⟩ := v
  refine b_callV (as := [vr 20]) (b := x0) (st := []) (kd := 8) (kc1 := 0) (ks1 := 0) (kc2 := kc) (ks2 := ks) (d' := d) ml_Static_34 rfl d_Static_spread_2 rfl rfl (Nat.le_of_ble_eq_true rfl) (by decide) rfl (Nat.le_refl _) (by omega) (by omega) c4 ?_
  refine Ev.mono v ?_
  intro u h1 v
  obtain ⟨r1, rfl, v⟩ := kr_el v
  obtain ⟨hm1, v⟩ := v
  change Ev l D Y_Static_spread _ _ _ 5 [some (vr x0), some (vr 20), none] [vr r1] _ _
  refine a_astore_n (L' := [some (vr x0), some (vr 20), some (vr r1)]) d_Static_spread_5 (Nat.le_of_ble_eq_true rfl) rfl rfl ?_
  refine a_aload_n d_Static_spread_6 rfl ?_
  obtain ⟨vt, vf⟩ := v
  refine a_ifnull (tgt := 25) d_Static_spread_7 (by decide) (fun c => ?_) (fun c => ?_)
  · have v := vt (c); clear vt vf
    exact a_vret d_Static_spread_25 rfl v
  · have v := vf (c); clear vt vf
    refine a_aload_n d_Static_spread_10 rfl ?_
    refine a_aload_n d_Static_spread_11 rfl ?_
    refine a_aload_n d_Static_spread_12 rfl ?_
    obtain ⟨c3, v⟩ := v
    refine b_callU (as := [vr 20, vr r1]) (b := x0) (st := []) (kc1 := 0) (ks1 := 0) (kc2 := kc) (ks2 := ks) (d' := d) ml_Static_38 mt_Static_call rfl d_Static_spread_13 rfl rfl (fl1 (Nat.le_of_ble_eq_true rfl)) (Nat.le_refl _) (by omega) (by omega) (beq_iff_eq.mpr c3) ?_
    refine Ev.mono v ?_
    intro u h2 v
    obtain ⟨rfl, v⟩ := kv_el v
    obtain ⟨hm2, v⟩ := v
    change Ev l D Y_Static_spread _ _ _ 16 [some (vr x0), some (vr 20), some (vr r1)] [] _ _
    refine a_aload_n d_Static_spread_16 rfl ?_
    refine a_aload_n d_Static_spread_17 rfl ?_
    refine a_aload_n d_Static_spread_18 rfl ?_
    obtain ⟨c1, v⟩ := v
    refine a_getRN fl_Static_42 d_Static_spread_19 (beq_iff_eq.mpr c1) ?_
    refine b_callN (as := [vr x0, vr (xR h2 r1 1)]) (b := 20) (st := []) (kd := 1) (kc1 := 0) (ks1 := 0) (kc2 := kc) (ks2 := ks) (d' := d) ml_Static_45 rfl d_Static_spread_22 rfl rfl (Nat.le_of_ble_eq_true rfl) (by decide) rfl (Nat.le_refl _) (by omega) (by omega) (KNG_20 hm2) ?_
    refine Ev.mono v ?_
    intro u h3 v
    obtain ⟨rfl, v⟩ := kv_el v
    obtain ⟨hm3, v⟩ := v
    change Ev l D Y_Static_spread _ _ _ 25 [some (vr x0), some (vr 20), some (vr r1)] [] _ _
    exact a_vret d_Static_spread_25 rfl v
theorem d_Static_judge_0 : decode Y_Static_judge.2.1 0 = .ok (.aload_n 0, 1) := by decide +kernel
theorem d_Static_judge_1 : decode Y_Static_judge.2.1 1 = .ok (.aload_n 1, 1) := by decide +kernel
theorem d_Static_judge_2 : decode Y_Static_judge.2.1 2 = .ok (.invokevirtual 34, 3) := by decide +kernel
theorem d_Static_judge_5 : decode Y_Static_judge.2.1 5 = .ok (.ifnonnull 29, 3) := by decide +kernel
theorem d_Static_judge_8 : decode Y_Static_judge.2.1 8 = .ok (.aload_n 0, 1) := by decide +kernel
theorem d_Static_judge_9 : decode Y_Static_judge.2.1 9 = .ok (.aload_n 1, 1) := by decide +kernel
theorem d_Static_judge_10 : decode Y_Static_judge.2.1 10 = .ok (.aload_n 0, 1) := by decide +kernel
theorem d_Static_judge_11 : decode Y_Static_judge.2.1 11 = .ok (.getfield 9, 3) := by decide +kernel
theorem d_Static_judge_14 : decode Y_Static_judge.2.1 14 = .ok (.aload_n 0, 1) := by decide +kernel
theorem d_Static_judge_15 : decode Y_Static_judge.2.1 15 = .ok (.getfield 15, 3) := by decide +kernel
theorem d_Static_judge_18 : decode Y_Static_judge.2.1 18 = .ok (.invokevirtual 19, 3) := by decide +kernel
theorem d_Static_judge_21 : decode Y_Static_judge.2.1 21 = .ok (.ifnonnull 8, 3) := by decide +kernel
theorem d_Static_judge_24 : decode Y_Static_judge.2.1 24 = .ok (.bipush (-2), 2) := by decide +kernel
theorem d_Static_judge_26 : decode Y_Static_judge.2.1 26 = .ok (.goto 5, 3) := by decide +kernel
theorem d_Static_judge_29 : decode Y_Static_judge.2.1 29 = .ok (.bipush (-3), 2) := by decide +kernel
theorem d_Static_judge_31 : decode Y_Static_judge.2.1 31 = .ok (.invokevirtual 49, 3) := by decide +kernel
theorem d_Static_judge_34 : decode Y_Static_judge.2.1 34 = .ok (.return_, 1) := by decide +kernel
theorem g_Static_judge_0 {l : Launch} {D : DD} {d kc ks : Nat} {h : Hp} {Φ : Option AV → Hp → Prop} {x0 : Nat} (hM : GS h) (v : xK h x0 = 8 ∧ Ev l D Y_Static_told d 0 0 0 [some (vr x0), some (vr 20), none] [] h (kr (fun r1 h1 => GS h1 ∧ ((¬ r1 = 0 → (Φ none h1)) ∧ (r1 = 0 → (xK h1 x0 = 8 ∧ (xK h1 x0 = 8 ∧ (Ev l D Y_G_find d 0 0 0 [some (vr 20), some (vr (xR h1 x0 4)), some (vi (xI h1 x0 5)), none] [] h1 (kr (fun r2 h2 => GS h2 ∧ ((¬ r2 = 0 → (xK h2 x0 = 8 ∧ Ev l D (mt_Static_fault_Y (xK h2 x0)) d 0 0 0 (enL (mt_Static_fault_Y (xK h2 x0)).2.2.1 [vr x0, vi (-3 : Int)]) [] h2 (kv (fun h3 => GS h3 ∧ (Φ none h3))))) ∧ (r2 = 0 → (xK h2 x0 = 8 ∧ Ev l D (mt_Static_fault_Y (xK h2 x0)) d 0 0 0 (enL (mt_Static_fault_Y (xK h2 x0)).2.2.1 [vr x0, vi (-2 : Int)]) [] h2 (kv (fun h4 => GS h4 ∧ (Φ none h4)))))))))))))))) : Ev l D Y_Static_judge (d + 1) kc ks 0 [some (vr x0), some (vr 20)] [] h Φ := by
  refine a_aload_n d_Static_judge_0 rfl ?_
  refine a_aload_n d_Static_judge_1 rfl ?_
  obtain ⟨c6, v⟩ := v
  refine b_callV (as := [vr 20]) (b := x0) (st := []) (kd := 8) (kc1 := 0) (ks1 := 0) (kc2 := kc) (ks2 := ks) (d' := d) ml_Static_34 rfl d_Static_judge_2 rfl rfl (Nat.le_of_ble_eq_true rfl) (by decide) rfl (Nat.le_refl _) (by omega) (by omega) c6 ?_
  refine Ev.mono v ?_
  intro u h1 v
  obtain ⟨r1, rfl, v⟩ := kr_el v
  obtain ⟨hm1, v⟩ := v
  change Ev l D Y_Static_judge _ _ _ 5 [some (vr x0), some (vr 20)] [vr r1] _ _
  obtain ⟨vt, vf⟩ := v
  refine a_ifnonnull (tgt := 34) d_Static_judge_5 (by decide) (fun c => ?_) (fun c => ?_)
  · have v := vt (c); clear vt vf
    exact a_vret d_Static_judge_34 rfl v
  · have v := vf (c); clear vt vf
    refine a_aload_n d_Static_judge_8 rfl ?_
    refine a_aload_n d_Static_judge_9 rfl ?_
    refine a_aload_n d_Static_judge_10 rfl ?_
    obtain ⟨c1, v⟩ := v
    refine a_getR fl_Static_9 d_Static_judge_11 (beq_iff_eq.mpr c1) ?_
    refine a_aload_n d_Static_judge_14 rfl ?_
    obtain ⟨c2, v⟩ := v
    refine a_getI fl_Static_15 d_Static_judge_15 (beq_iff_eq.mpr c2) ?_
    refine b_callN (as := [vr (xR h1 x0 4), vi (xI h1 x0 5)]) (b := 20) (st := [vr x0]) (kd := 1) (kc1 := 0) (ks1 := 0) (kc2 := kc) (ks2 := ks) (d' := d) ml_Static_19 rfl d_Static_judge_18 rfl rfl (Nat.le_of_ble_eq_true rfl) (by decide) rfl (Nat.le_refl _) (by omega) (by omega) (KNG_20 hm1) ?_
    refine Ev.mono v ?_
    intro u h2 v
    obtain ⟨r2, rfl, v⟩ := kr_el v
    obtain ⟨hm2, v⟩ := v
    change Ev l D Y_Static_judge _ _ _ 21 [some (vr x0), some (vr 20)] [vr r2, vr x0] _ _
    obtain ⟨vt, vf⟩ := v
    refine a_ifnonnull (tgt := 29) d_Static_judge_21 (by decide) (fun c => ?_) (fun c => ?_)
    · have v := vt (c); clear vt vf
      refine a_bipush d_Static_judge_29 ⟨by decide, by decide⟩ (by decide) ?_
      obtain ⟨c3, v⟩ := v
      refine b_callU (as := [vi (-3 : Int)]) (b := x0) (st := []) (kc1 := 0) (ks1 := 0) (kc2 := kc) (ks2 := ks) (d' := d) ml_Static_49 mt_Static_fault rfl d_Static_judge_31 rfl rfl (fl1 (Nat.le_of_ble_eq_true rfl)) (Nat.le_refl _) (by omega) (by omega) (beq_iff_eq.mpr c3) ?_
      refine Ev.mono v ?_
      intro u h3 v
      obtain ⟨rfl, v⟩ := kv_el v
      obtain ⟨hm3, v⟩ := v
      change Ev l D Y_Static_judge _ _ _ 34 [some (vr x0), some (vr 20)] [] _ _
      exact a_vret d_Static_judge_34 rfl v
    · have v := vf (c); clear vt vf
      refine a_bipush d_Static_judge_24 ⟨by decide, by decide⟩ (by decide) ?_
      refine a_goto (tgt := 31) d_Static_judge_26 (by decide) ?_
      obtain ⟨c4, v⟩ := v
      refine b_callU (as := [vi (-2 : Int)]) (b := x0) (st := []) (kc1 := 0) (ks1 := 0) (kc2 := kc) (ks2 := ks) (d' := d) ml_Static_49 mt_Static_fault rfl d_Static_judge_31 rfl rfl (fl1 (Nat.le_of_ble_eq_true rfl)) (Nat.le_refl _) (by omega) (by omega) (beq_iff_eq.mpr c4) ?_
      refine Ev.mono v ?_
      intro u h4 v
      obtain ⟨rfl, v⟩ := kv_el v
      obtain ⟨hm4, v⟩ := v
      change Ev l D Y_Static_judge _ _ _ 34 [some (vr x0), some (vr 20)] [] _ _
      exact a_vret d_Static_judge_34 rfl v
theorem d_Call_spread_0 : decode Y_Call_spread.2.1 0 = .ok (.aload_n 1, 1) := by decide +kernel
theorem d_Call_spread_1 : decode Y_Call_spread.2.1 1 = .ok (.aload_n 0, 1) := by decide +kernel
theorem d_Call_spread_2 : decode Y_Call_spread.2.1 2 = .ok (.getfield 9, 3) := by decide +kernel
theorem d_Call_spread_5 : decode Y_Call_spread.2.1 5 = .ok (.aload_n 0, 1) := by decide +kernel
theorem d_Call_spread_6 : decode Y_Call_spread.2.1 6 = .ok (.getfield 15, 3) := by decide +kernel
theorem d_Call_spread_9 : decode Y_Call_spread.2.1 9 = .ok (.invokevirtual 19, 3) := by decide +kernel
theorem d_Call_spread_12 : decode Y_Call_spread.2.1 12 = .ok (.astore_n 2, 1) := by decide +kernel
theorem d_Call_spread_13 : decode Y_Call_spread.2.1 13 = .ok (.iconst 0, 1) := by decide +kernel
theorem d_Call_spread_14 : decode Y_Call_spread.2.1 14 = .ok (.istore_n 3, 1) := by decide +kernel
theorem d_Call_spread_15 : decode Y_Call_spread.2.1 15 = .ok (.iload_n 3, 1) := by decide +kernel
theorem d_Call_spread_16 : decode Y_Call_spread.2.1 16 = .ok (.aload_n 1, 1) := by decide +kernel
theorem d_Call_spread_17 : decode Y_Call_spread.2.1 17 = .ok (.getfield 23, 3) := by decide +kernel
theorem d_Call_spread_20 : decode Y_Call_spread.2.1 20 = .ok (.if_icmp .ge 72, 3) := by decide +kernel
theorem d_Call_spread_23 : decode Y_Call_spread.2.1 23 = .ok (.aload_n 2, 1) := by decide +kernel
theorem d_Call_spread_24 : decode Y_Call_spread.2.1 24 = .ok (.ifnull 68, 3) := by decide +kernel
theorem d_Call_spread_27 : decode Y_Call_spread.2.1 27 = .ok (.aload_n 1, 1) := by decide +kernel
theorem d_Call_spread_28 : decode Y_Call_spread.2.1 28 = .ok (.getfield 26, 3) := by decide +kernel
theorem d_Call_spread_31 : decode Y_Call_spread.2.1 31 = .ok (.iload_n 3, 1) := by decide +kernel
theorem d_Call_spread_32 : decode Y_Call_spread.2.1 32 = .ok (.baload, 1) := by decide +kernel
theorem d_Call_spread_33 : decode Y_Call_spread.2.1 33 = .ok (.ifCond .eq 33, 3) := by decide +kernel
theorem d_Call_spread_36 : decode Y_Call_spread.2.1 36 = .ok (.aload_n 1, 1) := by decide +kernel
theorem d_Call_spread_37 : decode Y_Call_spread.2.1 37 = .ok (.getfield 30, 3) := by decide +kernel
theorem d_Call_spread_40 : decode Y_Call_spread.2.1 40 = .ok (.iload_n 3, 1) := by decide +kernel
theorem d_Call_spread_41 : decode Y_Call_spread.2.1 41 = .ok (.aaload, 1) := by decide +kernel
theorem d_Call_spread_42 : decode Y_Call_spread.2.1 42 = .ok (.aload_n 0, 1) := by decide +kernel
theorem d_Call_spread_43 : decode Y_Call_spread.2.1 43 = .ok (.getfield 9, 3) := by decide +kernel
theorem d_Call_spread_46 : decode Y_Call_spread.2.1 46 = .ok (.invokevirtual 34, 3) := by decide +kernel
theorem d_Call_spread_49 : decode Y_Call_spread.2.1 49 = .ok (.ifCond .eq 17, 3) := by decide +kernel
theorem d_Call_spread_52 : decode Y_Call_spread.2.1 52 = .ok (.aload_n 1, 1) := by decide +kernel
theorem d_Call_spread_53 : decode Y_Call_spread.2.1 53 = .ok (.aload_n 1, 1) := by decide +kernel
theorem d_Call_spread_54 : decode Y_Call_spread.2.1 54 = .ok (.getfield 30, 3) := by decide +kernel
theorem d_Call_spread_57 : decode Y_Call_spread.2.1 57 = .ok (.iload_n 3, 1) := by decide +kernel
theorem d_Call_spread_58 : decode Y_Call_spread.2.1 58 = .ok (.aaload, 1) := by decide +kernel
theorem d_Call_spread_59 : decode Y_Call_spread.2.1 59 = .ok (.aload_n 2, 1) := by decide +kernel
theorem d_Call_spread_60 : decode Y_Call_spread.2.1 60 = .ok (.invokevirtual 40, 3) := by decide +kernel
theorem d_Call_spread_63 : decode Y_Call_spread.2.1 63 = .ok (.goto 4, 3) := by decide +kernel
theorem d_Call_spread_66 : decode Y_Call_spread.2.1 66 = .ok (.iconst (-1), 1) := by decide +kernel
theorem d_Call_spread_67 : decode Y_Call_spread.2.1 67 = .ok (.istore 4, 2) := by decide +kernel
theorem d_Call_spread_69 : decode Y_Call_spread.2.1 69 = .ok (.iload 4, 2) := by decide +kernel
theorem d_Call_spread_71 : decode Y_Call_spread.2.1 71 = .ok (.ifCond .lt 15, 3) := by decide +kernel
theorem d_Call_spread_74 : decode Y_Call_spread.2.1 74 = .ok (.aload_n 0, 1) := by decide +kernel
theorem d_Call_spread_75 : decode Y_Call_spread.2.1 75 = .ok (.aload_n 1, 1) := by decide +kernel
theorem d_Call_spread_76 : decode Y_Call_spread.2.1 76 = .ok (.aload_n 1, 1) := by decide +kernel
theorem d_Call_spread_77 : decode Y_Call_spread.2.1 77 = .ok (.getfield 44, 3) := by decide +kernel
theorem d_Call_spread_80 : decode Y_Call_spread.2.1 80 = .ok (.iload 4, 2) := by decide +kernel
theorem d_Call_spread_82 : decode Y_Call_spread.2.1 82 = .ok (.aaload, 1) := by decide +kernel
theorem d_Call_spread_83 : decode Y_Call_spread.2.1 83 = .ok (.invokevirtual 48, 3) := by decide +kernel
theorem d_Call_spread_86 : decode Y_Call_spread.2.1 86 = .ok (.iinc 3 1, 3) := by decide +kernel
theorem d_Call_spread_89 : decode Y_Call_spread.2.1 89 = .ok (.goto (-74), 3) := by decide +kernel
theorem d_Call_spread_92 : decode Y_Call_spread.2.1 92 = .ok (.return_, 1) := by decide +kernel
theorem g_Call_spread_0 {l : Launch} {D : DD} {d kc ks : Nat} {h : Hp} {Φ : Option AV → Hp → Prop} {x0 : Nat} (hM : GS h) (v : xK h x0 = 6 ∧ (xK h x0 = 6 ∧ (Ev l D Y_G_find d 0 0 0 [some (vr 20), some (vr (xR h x0 4)), some (vi (xI h x0 5)), none] [] h (kr (fun r1 h1 => GS h1 ∧ (Ev l D Y_Call_spread (d + 1) kc ks 15 [some (vr x0), some (vr 20), some (vr r1), some (vi (0 : Int)), none] [] h1 Φ)))))) : Ev l D Y_Call_spread (d + 1) kc ks 0 [some (vr x0), some (vr 20), none, none, none] [] h Φ := by
  refine a_aload_n d_Call_spread_0 rfl ?_
  refine a_aload_n d_Call_spread_1 rfl ?_
  obtain ⟨c1, v⟩ := v
  refine a_getR fl_Call_9 d_Call_spread_2 (beq_iff_eq.mpr c1) ?_
  refine a_aload_n d_Call_spread_5 rfl ?_
  obtain ⟨c2, v⟩ := v
  refine a_getI fl_Call_15 d_Call_spread_6 (beq_iff_eq.mpr c2) ?_
  refine b_callN (as := [vr (xR h x0 4), vi (xI h x0 5)]) (b := 20) (st := []) (kd := 1) (kc1 := 0) (ks1 := 0) (kc2 := kc) (ks2 := ks) (d' := d) ml_Call_19 rfl d_Call_spread_9 rfl rfl (Nat.le_of_ble_eq_true rfl) (by decide) rfl (Nat.le_refl _) (by omega) (by omega) (KNG_20 hM) ?_
  refine Ev.mono v ?_
  intro u h1 v
  obtain ⟨r1, rfl, v⟩ := kr_el v
  obtain ⟨hm1, v⟩ := v
  change Ev l D Y_Call_spread _ _ _ 12 [some (vr x0), some (vr 20), none, none, none] [vr r1] _ _
  refine a_astore_n (L' := [some (vr x0), some (vr 20), some (vr r1), none, none]) d_Call_spread_12 (Nat.le_of_ble_eq_true rfl) rfl rfl ?_
  refine a_iconst d_Call_spread_13 ⟨by decide, by decide⟩ ?_
  refine a_istore_n (L' := [some (vr x0), some (vr 20), some (vr r1), some (vi (0 : Int)), none]) d_Call_spread_14 (Nat.le_of_ble_eq_true rfl) rfl rfl ?_
  exact v
theorem g_Call_spread_15 {l : Launch} {D : DD} {d kc ks : Nat} {h : Hp} {Φ : Option AV → Hp → Prop} {x0 : Nat} {x2 : Nat} {x3 : Int} (hM : GS h) (v : (x3 ≥ xI h 20 1 → (Φ none h)) ∧ (x3 < xI h 20 1 → ((x2 = 0 → (Φ none h)) ∧ (¬ x2 = 0 → (0 ≤ x3 ∧ x3 < 16 ∧ ((xI h 23 (x3).toNat = 0 → (((-1 : Int) < 0 → (Ev l D Y_Call_spread (d + 1) kc ks 15 [some (vr x0), some (vr 20), some (vr x2), some (vi (wr (x3 + (1 : Int)))), none] [] h Φ)) ∧ ((-1 : Int) ≥ 0 → (0 ≤ (-1 : Int) ∧ (-1 : Int) < 48 ∧ (xK h x0 = 6 ∧ Ev l D (mt_Call_call_Y (xK h x0)) d 0 0 0 (enL (mt_Call_call_Y (xK h x0)).2.2.1 [vr x0, vr 20, vr (xR h 22 ((-1 : Int)).toNat)]) [] h (kv (fun h1 => GS h1 ∧ (Ev l D Y_Call_spread (d + 1) kc ks 15 [some (vr x0), some (vr 20), some (vr x2), some (vi (wr (x3 + (1 : Int)))), none] [] h1 Φ)))))))) ∧ (¬ xI h 23 (x3).toNat = 0 → (0 ≤ x3 ∧ x3 < 16 ∧ (xK h x0 = 6 ∧ (xK h (xR h 21 (x3).toNat) = 3 ∧ Ev l D Y_Type_isUnder d 0 0 0 [some (vr (xR h 21 (x3).toNat)), some (vr (xR h x0 4))] [] h (ki (fun r1 h2 => GS h2 ∧ ((r1 = 0 → (((-1 : Int) < 0 → (Ev l D Y_Call_spread (d + 1) kc ks 15 [some (vr x0), some (vr 20), some (vr x2), some (vi (wr (x3 + (1 : Int)))), none] [] h2 Φ)) ∧ ((-1 : Int) ≥ 0 → (0 ≤ (-1 : Int) ∧ (-1 : Int) < 48 ∧ (xK h2 x0 = 6 ∧ Ev l D (mt_Call_call_Y (xK h2 x0)) d 0 0 0 (enL (mt_Call_call_Y (xK h2 x0)).2.2.1 [vr x0, vr 20, vr (xR h2 22 ((-1 : Int)).toNat)]) [] h2 (kv (fun h3 => GS h3 ∧ (Ev l D Y_Call_spread (d + 1) kc ks 15 [some (vr x0), some (vr 20), some (vr x2), some (vi (wr (x3 + (1 : Int)))), none] [] h3 Φ)))))))) ∧ (¬ r1 = 0 → (0 ≤ x3 ∧ x3 < 16 ∧ (Ev l D Y_G_choose d 0 0 0 [some (vr 20), some (vr (xR h2 21 (x3).toNat)), some (vr x2), none, none] [] h2 (ki (fun r2 h4 => GS h4 ∧ ((r2 < 0 → (Ev l D Y_Call_spread (d + 1) kc ks 15 [some (vr x0), some (vr 20), some (vr x2), some (vi (wr (x3 + (1 : Int)))), none] [] h4 Φ)) ∧ (r2 ≥ 0 → (0 ≤ r2 ∧ r2 < 48 ∧ (xK h4 x0 = 6 ∧ Ev l D (mt_Call_call_Y (xK h4 x0)) d 0 0 0 (enL (mt_Call_call_Y (xK h4 x0)).2.2.1 [vr x0, vr 20, vr (xR h4 22 (r2).toNat)]) [] h4 (kv (fun h5 => GS h5 ∧ (Ev l D Y_Call_spread (d + 1) kc ks 15 [some (vr x0), some (vr 20), some (vr x2), some (vi (wr (x3 + (1 : Int)))), none] [] h5 Φ))))))))))))))))))))))))) : Ev l D Y_Call_spread (d + 1) kc ks 15 [some (vr x0), some (vr 20), some (vr x2), some (vi x3), none] [] h Φ := by
  refine a_iload_n d_Call_spread_15 rfl ?_
  refine a_aload_n d_Call_spread_16 rfl ?_
  refine a_getIN fl_Call_23 d_Call_spread_17 (beq_iff_eq.mpr (KNG_20 hM)) ?_
  obtain ⟨vt, vf⟩ := v
  refine a_icmp_ge (tgt := 92) d_Call_spread_20 (by decide) (fun c => ?_) (fun c => ?_)
  · have v := vt (c); clear vt vf
    exact a_vret d_Call_spread_92 rfl v
  · have v := vf (Int.not_le.mp c); clear vt vf
    refine a_aload_n d_Call_spread_23 rfl ?_
    obtain ⟨vt, vf⟩ := v
    refine a_ifnull (tgt := 92) d_Call_spread_24 (by decide) (fun c => ?_) (fun c => ?_)
    · have v := vt (c); clear vt vf
      exact a_vret d_Call_spread_92 rfl v
    · have v := vf (c); clear vt vf
      refine a_aload_n d_Call_spread_27 rfl ?_
      refine a_getAeN fl_Call_26 d_Call_spread_28 (beq_iff_eq.mpr (KNG_20 hM)) (KRG_20_9 hM) ?_
      refine a_iload_n d_Call_spread_31 rfl ?_
      obtain ⟨c2, c3, v⟩ := v
      refine a_zald d_Call_spread_32 (KNG_23 hM) c2 (lt_len (NNG_23 hM) c3) ?_
      obtain ⟨vt, vf⟩ := v
      refine a_if_eq (tgt := 66) d_Call_spread_33 (by decide) (fun c => ?_) (fun c => ?_)
      · have v := vt (c); clear vt vf
        refine a_iconst d_Call_spread_66 ⟨by decide, by decide⟩ ?_
        refine a_istore (L' := [some (vr x0), some (vr 20), some (vr x2), some (vi x3), some (vi (-1 : Int))]) d_Call_spread_67 (Nat.le_of_ble_eq_true rfl) rfl rfl ?_
        refine a_iload d_Call_spread_69 rfl ?_
        obtain ⟨vt, vf⟩ := v
        refine a_if_lt (tgt := 86) d_Call_spread_71 (by decide) (fun c => ?_) (fun c => ?_)
        · have v := vt (c); clear vt vf
          refine a_iinc (L' := [some (vr x0), some (vr 20), some (vr x2), some (vi (wr (x3 + (1 : Int)))), some (vi (-1 : Int))]) d_Call_spread_86 rfl (Nat.le_of_ble_eq_true rfl) rfl rfl ?_
          refine a_goto (tgt := 15) d_Call_spread_89 (by decide) ?_
          exact Ev.weak v ⟨rfl, rfl, rfl, rfl, trivial⟩
        · have v := vf (Int.not_lt.mp c); clear vt vf
          refine a_aload_n d_Call_spread_74 rfl ?_
          refine a_aload_n d_Call_spread_75 rfl ?_
          refine a_aload_n d_Call_spread_76 rfl ?_
          refine a_getAeN fl_Call_44 d_Call_spread_77 (beq_iff_eq.mpr (KNG_20 hM)) (KRG_20_2 hM) ?_
          refine a_iload d_Call_spread_80 rfl ?_
          obtain ⟨c5, c6, v⟩ := v
          refine a_aald d_Call_spread_82 ⟨by rw [KNG_22 hM]; decide, by rw [KNG_22 hM]; decide⟩ c5 (lt_len (NNG_22 hM) c6) ?_
          obtain ⟨c7, v⟩ := v
          refine b_callU (as := [vr 20, vr (xR h 22 ((-1 : Int)).toNat)]) (b := x0) (st := []) (kc1 := 0) (ks1 := 0) (kc2 := kc) (ks2 := ks) (d' := d) ml_Call_48 mt_Call_call rfl d_Call_spread_83 rfl rfl (fl1 (Nat.le_of_ble_eq_true rfl)) (Nat.le_refl _) (by omega) (by omega) (beq_iff_eq.mpr c7) ?_
          refine Ev.mono v ?_
          intro u h1 v
          obtain ⟨rfl, v⟩ := kv_el v
          obtain ⟨hm1, v⟩ := v
          change Ev l D Y_Call_spread _ _ _ 86 [some (vr x0), some (vr 20), some (vr x2), some (vi x3), some (vi (-1 : Int))] [] _ _
          refine a_iinc (L' := [some (vr x0), some (vr 20), some (vr x2), some (vi (wr (x3 + (1 : Int)))), some (vi (-1 : Int))]) d_Call_spread_86 rfl (Nat.le_of_ble_eq_true rfl) rfl rfl ?_
          refine a_goto (tgt := 15) d_Call_spread_89 (by decide) ?_
          exact Ev.weak v ⟨rfl, rfl, rfl, rfl, trivial⟩
      · have v := vf (c); clear vt vf
        refine a_aload_n d_Call_spread_36 rfl ?_
        refine a_getAeN fl_Call_30 d_Call_spread_37 (beq_iff_eq.mpr (KNG_20 hM)) (KRG_20_0 hM) ?_
        refine a_iload_n d_Call_spread_40 rfl ?_
        obtain ⟨c9, c10, v⟩ := v
        refine a_aald d_Call_spread_41 ⟨by rw [KNG_21 hM]; decide, by rw [KNG_21 hM]; decide⟩ c9 (lt_len (NNG_21 hM) c10) ?_
        refine a_aload_n d_Call_spread_42 rfl ?_
        obtain ⟨c11, v⟩ := v
        refine a_getR fl_Call_9 d_Call_spread_43 (beq_iff_eq.mpr c11) ?_
        obtain ⟨c24, v⟩ := v
        refine b_callV (as := [vr (xR h x0 4)]) (b := (xR h 21 (x3).toNat)) (st := []) (kd := 3) (kc1 := 0) (ks1 := 0) (kc2 := kc) (ks2 := ks) (d' := d) ml_Call_34 rfl d_Call_spread_46 rfl rfl (Nat.le_of_ble_eq_true rfl) (by decide) rfl (Nat.le_refl _) (by omega) (by omega) c24 ?_
        refine Ev.mono v ?_
        intro u h2 v
        obtain ⟨r1, rfl, v⟩ := ki_el v
        obtain ⟨hm2, v⟩ := v
        change Ev l D Y_Call_spread _ _ _ 49 [some (vr x0), some (vr 20), some (vr x2), some (vi x3), none] [vi r1] _ _
        obtain ⟨vt, vf⟩ := v
        refine a_if_eq (tgt := 66) d_Call_spread_49 (by decide) (fun c => ?_) (fun c => ?_)
        · have v := vt (c); clear vt vf
          refine a_iconst d_Call_spread_66 ⟨by decide, by decide⟩ ?_
          refine a_istore (L' := [some (vr x0), some (vr 20), some (vr x2), some (vi x3), some (vi (-1 : Int))]) d_Call_spread_67 (Nat.le_of_ble_eq_true rfl) rfl rfl ?_
          refine a_iload d_Call_spread_69 rfl ?_
          obtain ⟨vt, vf⟩ := v
          refine a_if_lt (tgt := 86) d_Call_spread_71 (by decide) (fun c => ?_) (fun c => ?_)
          · have v := vt (c); clear vt vf
            refine a_iinc (L' := [some (vr x0), some (vr 20), some (vr x2), some (vi (wr (x3 + (1 : Int)))), some (vi (-1 : Int))]) d_Call_spread_86 rfl (Nat.le_of_ble_eq_true rfl) rfl rfl ?_
            refine a_goto (tgt := 15) d_Call_spread_89 (by decide) ?_
            exact Ev.weak v ⟨rfl, rfl, rfl, rfl, trivial⟩
          · have v := vf (Int.not_lt.mp c); clear vt vf
            refine a_aload_n d_Call_spread_74 rfl ?_
            refine a_aload_n d_Call_spread_75 rfl ?_
            refine a_aload_n d_Call_spread_76 rfl ?_
            refine a_getAeN fl_Call_44 d_Call_spread_77 (beq_iff_eq.mpr (KNG_20 hm2)) (KRG_20_2 hm2) ?_
            refine a_iload d_Call_spread_80 rfl ?_
            obtain ⟨c13, c14, v⟩ := v
            refine a_aald d_Call_spread_82 ⟨by rw [KNG_22 hm2]; decide, by rw [KNG_22 hm2]; decide⟩ c13 (lt_len (NNG_22 hm2) c14) ?_
            obtain ⟨c15, v⟩ := v
            refine b_callU (as := [vr 20, vr (xR h2 22 ((-1 : Int)).toNat)]) (b := x0) (st := []) (kc1 := 0) (ks1 := 0) (kc2 := kc) (ks2 := ks) (d' := d) ml_Call_48 mt_Call_call rfl d_Call_spread_83 rfl rfl (fl1 (Nat.le_of_ble_eq_true rfl)) (Nat.le_refl _) (by omega) (by omega) (beq_iff_eq.mpr c15) ?_
            refine Ev.mono v ?_
            intro u h3 v
            obtain ⟨rfl, v⟩ := kv_el v
            obtain ⟨hm3, v⟩ := v
            change Ev l D Y_Call_spread _ _ _ 86 [some (vr x0), some (vr 20), some (vr x2), some (vi x3), some (vi (-1 : Int))] [] _ _
            refine a_iinc (L' := [some (vr x0), some (vr 20), some (vr x2), some (vi (wr (x3 + (1 : Int)))), some (vi (-1 : Int))]) d_Call_spread_86 rfl (Nat.le_of_ble_eq_true rfl) rfl rfl ?_
            refine a_goto (tgt := 15) d_Call_spread_89 (by decide) ?_
            exact Ev.weak v ⟨rfl, rfl, rfl, rfl, trivial⟩
        · have v := vf (c); clear vt vf
          refine a_aload_n d_Call_spread_52 rfl ?_
          refine a_aload_n d_Call_spread_53 rfl ?_
          refine a_getAeN fl_Call_30 d_Call_spread_54 (beq_iff_eq.mpr (KNG_20 hm2)) (KRG_20_0 hm2) ?_
          refine a_iload_n d_Call_spread_57 rfl ?_
          obtain ⟨c17, c18, v⟩ := v
          refine a_aald d_Call_spread_58 ⟨by rw [KNG_21 hm2]; decide, by rw [KNG_21 hm2]; decide⟩ c17 (lt_len (NNG_21 hm2) c18) ?_
          refine a_aload_n d_Call_spread_59 rfl ?_
          refine b_callN (as := [vr (xR h2 21 (x3).toNat), vr x2]) (b := 20) (st := []) (kd := 1) (kc1 := 0) (ks1 := 0) (kc2 := kc) (ks2 := ks) (d' := d) ml_Call_40 rfl d_Call_spread_60 rfl rfl (Nat.le_of_ble_eq_true rfl) (by decide) rfl (Nat.le_refl _) (by omega) (by omega) (KNG_20 hm2) ?_
          refine Ev.mono v ?_
          intro u h4 v
          obtain ⟨r2, rfl, v⟩ := ki_el v
          obtain ⟨hm4, v⟩ := v
          change Ev l D Y_Call_spread _ _ _ 63 [some (vr x0), some (vr 20), some (vr x2), some (vi x3), none] [vi r2] _ _
          refine a_goto (tgt := 67) d_Call_spread_63 (by decide) ?_
          refine a_istore (L' := [some (vr x0), some (vr 20), some (vr x2), some (vi x3), some (vi r2)]) d_Call_spread_67 (Nat.le_of_ble_eq_true rfl) rfl rfl ?_
          refine a_iload d_Call_spread_69 rfl ?_
          obtain ⟨vt, vf⟩ := v
          refine a_if_lt (tgt := 86) d_Call_spread_71 (by decide) (fun c => ?_) (fun c => ?_)
          · have v := vt (c); clear vt vf
            refine a_iinc (L' := [some (vr x0), some (vr 20), some (vr x2), some (vi (wr (x3 + (1 : Int)))), some (vi r2)]) d_Call_spread_86 rfl (Nat.le_of_ble_eq_true rfl) rfl rfl ?_
            refine a_goto (tgt := 15) d_Call_spread_89 (by decide) ?_
            exact Ev.weak v ⟨rfl, rfl, rfl, rfl, trivial⟩
          · have v := vf (Int.not_lt.mp c); clear vt vf
            refine a_aload_n d_Call_spread_74 rfl ?_
            refine a_aload_n d_Call_spread_75 rfl ?_
            refine a_aload_n d_Call_spread_76 rfl ?_
            refine a_getAeN fl_Call_44 d_Call_spread_77 (beq_iff_eq.mpr (KNG_20 hm4)) (KRG_20_2 hm4) ?_
            refine a_iload d_Call_spread_80 rfl ?_
            obtain ⟨c20, c21, v⟩ := v
            refine a_aald d_Call_spread_82 ⟨by rw [KNG_22 hm4]; decide, by rw [KNG_22 hm4]; decide⟩ c20 (lt_len (NNG_22 hm4) c21) ?_
            obtain ⟨c22, v⟩ := v
            refine b_callU (as := [vr 20, vr (xR h4 22 (r2).toNat)]) (b := x0) (st := []) (kc1 := 0) (ks1 := 0) (kc2 := kc) (ks2 := ks) (d' := d) ml_Call_48 mt_Call_call rfl d_Call_spread_83 rfl rfl (fl1 (Nat.le_of_ble_eq_true rfl)) (Nat.le_refl _) (by omega) (by omega) (beq_iff_eq.mpr c22) ?_
            refine Ev.mono v ?_
            intro u h5 v
            obtain ⟨rfl, v⟩ := kv_el v
            obtain ⟨hm5, v⟩ := v
            change Ev l D Y_Call_spread _ _ _ 86 [some (vr x0), some (vr 20), some (vr x2), some (vi x3), some (vi r2)] [] _ _
            refine a_iinc (L' := [some (vr x0), some (vr 20), some (vr x2), some (vi (wr (x3 + (1 : Int)))), some (vi r2)]) d_Call_spread_86 rfl (Nat.le_of_ble_eq_true rfl) rfl rfl ?_
            refine a_goto (tgt := 15) d_Call_spread_89 (by decide) ?_
            exact Ev.weak v ⟨rfl, rfl, rfl, rfl, trivial⟩
theorem d_Call_judge_0 : decode Y_Call_judge.2.1 0 = .ok (.aload_n 1, 1) := by decide +kernel
theorem d_Call_judge_1 : decode Y_Call_judge.2.1 1 = .ok (.aload_n 0, 1) := by decide +kernel
theorem d_Call_judge_2 : decode Y_Call_judge.2.1 2 = .ok (.getfield 9, 3) := by decide +kernel
theorem d_Call_judge_5 : decode Y_Call_judge.2.1 5 = .ok (.aload_n 0, 1) := by decide +kernel
theorem d_Call_judge_6 : decode Y_Call_judge.2.1 6 = .ok (.getfield 15, 3) := by decide +kernel
theorem d_Call_judge_9 : decode Y_Call_judge.2.1 9 = .ok (.invokevirtual 19, 3) := by decide +kernel
theorem d_Call_judge_12 : decode Y_Call_judge.2.1 12 = .ok (.astore_n 2, 1) := by decide +kernel
theorem d_Call_judge_13 : decode Y_Call_judge.2.1 13 = .ok (.iconst 0, 1) := by decide +kernel
theorem d_Call_judge_14 : decode Y_Call_judge.2.1 14 = .ok (.istore_n 3, 1) := by decide +kernel
theorem d_Call_judge_15 : decode Y_Call_judge.2.1 15 = .ok (.iconst 0, 1) := by decide +kernel
theorem d_Call_judge_16 : decode Y_Call_judge.2.1 16 = .ok (.istore 4, 2) := by decide +kernel
theorem d_Call_judge_18 : decode Y_Call_judge.2.1 18 = .ok (.iload 4, 2) := by decide +kernel
theorem d_Call_judge_20 : decode Y_Call_judge.2.1 20 = .ok (.aload_n 1, 1) := by decide +kernel
theorem d_Call_judge_21 : decode Y_Call_judge.2.1 21 = .ok (.getfield 23, 3) := by decide +kernel
theorem d_Call_judge_24 : decode Y_Call_judge.2.1 24 = .ok (.if_icmp .ge 82, 3) := by decide +kernel
theorem d_Call_judge_27 : decode Y_Call_judge.2.1 27 = .ok (.aload_n 1, 1) := by decide +kernel
theorem d_Call_judge_28 : decode Y_Call_judge.2.1 28 = .ok (.getfield 26, 3) := by decide +kernel
theorem d_Call_judge_31 : decode Y_Call_judge.2.1 31 = .ok (.iload 4, 2) := by decide +kernel
theorem d_Call_judge_33 : decode Y_Call_judge.2.1 33 = .ok (.baload, 1) := by decide +kernel
theorem d_Call_judge_34 : decode Y_Call_judge.2.1 34 = .ok (.ifCond .eq 66, 3) := by decide +kernel
theorem d_Call_judge_37 : decode Y_Call_judge.2.1 37 = .ok (.aload_n 1, 1) := by decide +kernel
theorem d_Call_judge_38 : decode Y_Call_judge.2.1 38 = .ok (.getfield 30, 3) := by decide +kernel
theorem d_Call_judge_41 : decode Y_Call_judge.2.1 41 = .ok (.iload 4, 2) := by decide +kernel
theorem d_Call_judge_43 : decode Y_Call_judge.2.1 43 = .ok (.aaload, 1) := by decide +kernel
theorem d_Call_judge_44 : decode Y_Call_judge.2.1 44 = .ok (.aload_n 0, 1) := by decide +kernel
theorem d_Call_judge_45 : decode Y_Call_judge.2.1 45 = .ok (.getfield 9, 3) := by decide +kernel
theorem d_Call_judge_48 : decode Y_Call_judge.2.1 48 = .ok (.invokevirtual 34, 3) := by decide +kernel
theorem d_Call_judge_51 : decode Y_Call_judge.2.1 51 = .ok (.ifCond .eq 49, 3) := by decide +kernel
theorem d_Call_judge_54 : decode Y_Call_judge.2.1 54 = .ok (.aload_n 1, 1) := by decide +kernel
theorem d_Call_judge_55 : decode Y_Call_judge.2.1 55 = .ok (.aload_n 1, 1) := by decide +kernel
theorem d_Call_judge_56 : decode Y_Call_judge.2.1 56 = .ok (.getfield 30, 3) := by decide +kernel
theorem d_Call_judge_59 : decode Y_Call_judge.2.1 59 = .ok (.iload 4, 2) := by decide +kernel
theorem d_Call_judge_61 : decode Y_Call_judge.2.1 61 = .ok (.aaload, 1) := by decide +kernel
theorem d_Call_judge_62 : decode Y_Call_judge.2.1 62 = .ok (.aload_n 2, 1) := by decide +kernel
theorem d_Call_judge_63 : decode Y_Call_judge.2.1 63 = .ok (.invokevirtual 40, 3) := by decide +kernel
theorem d_Call_judge_66 : decode Y_Call_judge.2.1 66 = .ok (.istore 5, 2) := by decide +kernel
theorem d_Call_judge_68 : decode Y_Call_judge.2.1 68 = .ok (.iload 5, 2) := by decide +kernel
theorem d_Call_judge_70 : decode Y_Call_judge.2.1 70 = .ok (.bipush (-4), 2) := by decide +kernel
theorem d_Call_judge_72 : decode Y_Call_judge.2.1 72 = .ok (.if_icmp .eq 20, 3) := by decide +kernel
theorem d_Call_judge_75 : decode Y_Call_judge.2.1 75 = .ok (.iload 5, 2) := by decide +kernel
theorem d_Call_judge_77 : decode Y_Call_judge.2.1 77 = .ok (.bipush (-5), 2) := by decide +kernel
theorem d_Call_judge_79 : decode Y_Call_judge.2.1 79 = .ok (.if_icmp .eq 13, 3) := by decide +kernel
theorem d_Call_judge_82 : decode Y_Call_judge.2.1 82 = .ok (.iload 5, 2) := by decide +kernel
theorem d_Call_judge_84 : decode Y_Call_judge.2.1 84 = .ok (.iconst (-1), 1) := by decide +kernel
theorem d_Call_judge_85 : decode Y_Call_judge.2.1 85 = .ok (.if_icmp .ge 13, 3) := by decide +kernel
theorem d_Call_judge_88 : decode Y_Call_judge.2.1 88 = .ok (.iload_n 3, 1) := by decide +kernel
theorem d_Call_judge_89 : decode Y_Call_judge.2.1 89 = .ok (.ifCond .ne 9, 3) := by decide +kernel
theorem d_Call_judge_92 : decode Y_Call_judge.2.1 92 = .ok (.aload_n 0, 1) := by decide +kernel
theorem d_Call_judge_93 : decode Y_Call_judge.2.1 93 = .ok (.iload 5, 2) := by decide +kernel
theorem d_Call_judge_95 : decode Y_Call_judge.2.1 95 = .ok (.invokevirtual 52, 3) := by decide +kernel
theorem d_Call_judge_98 : decode Y_Call_judge.2.1 98 = .ok (.iconst 1, 1) := by decide +kernel
theorem d_Call_judge_99 : decode Y_Call_judge.2.1 99 = .ok (.istore_n 3, 1) := by decide +kernel
theorem d_Call_judge_100 : decode Y_Call_judge.2.1 100 = .ok (.iinc 4 1, 3) := by decide +kernel
theorem d_Call_judge_103 : decode Y_Call_judge.2.1 103 = .ok (.goto (-85), 3) := by decide +kernel
theorem d_Call_judge_106 : decode Y_Call_judge.2.1 106 = .ok (.return_, 1) := by decide +kernel
theorem g_Call_judge_0 {l : Launch} {D : DD} {d kc ks : Nat} {h : Hp} {Φ : Option AV → Hp → Prop} {x0 : Nat} (hM : GS h) (v : xK h x0 = 6 ∧ (xK h x0 = 6 ∧ (Ev l D Y_G_find d 0 0 0 [some (vr 20), some (vr (xR h x0 4)), some (vi (xI h x0 5)), none] [] h (kr (fun r1 h1 => GS h1 ∧ (Ev l D Y_Call_judge (d + 1) kc ks 18 [some (vr x0), some (vr 20), some (vr r1), some (vi (0 : Int)), some (vi (0 : Int)), none] [] h1 Φ)))))) : Ev l D Y_Call_judge (d + 1) kc ks 0 [some (vr x0), some (vr 20), none, none, none, none] [] h Φ := by
  refine a_aload_n d_Call_judge_0 rfl ?_
  refine a_aload_n d_Call_judge_1 rfl ?_
  obtain ⟨c1, v⟩ := v
  refine a_getR fl_Call_9 d_Call_judge_2 (beq_iff_eq.mpr c1) ?_
  refine a_aload_n d_Call_judge_5 rfl ?_
  obtain ⟨c2, v⟩ := v
  refine a_getI fl_Call_15 d_Call_judge_6 (beq_iff_eq.mpr c2) ?_
  refine b_callN (as := [vr (xR h x0 4), vi (xI h x0 5)]) (b := 20) (st := []) (kd := 1) (kc1 := 0) (ks1 := 0) (kc2 := kc) (ks2 := ks) (d' := d) ml_Call_19 rfl d_Call_judge_9 rfl rfl (Nat.le_of_ble_eq_true rfl) (by decide) rfl (Nat.le_refl _) (by omega) (by omega) (KNG_20 hM) ?_
  refine Ev.mono v ?_
  intro u h1 v
  obtain ⟨r1, rfl, v⟩ := kr_el v
  obtain ⟨hm1, v⟩ := v
  change Ev l D Y_Call_judge _ _ _ 12 [some (vr x0), some (vr 20), none, none, none, none] [vr r1] _ _
  refine a_astore_n (L' := [some (vr x0), some (vr 20), some (vr r1), none, none, none]) d_Call_judge_12 (Nat.le_of_ble_eq_true rfl) rfl rfl ?_
  refine a_iconst d_Call_judge_13 ⟨by decide, by decide⟩ ?_
  refine a_istore_n (L' := [some (vr x0), some (vr 20), some (vr r1), some (vi (0 : Int)), none, none]) d_Call_judge_14 (Nat.le_of_ble_eq_true rfl) rfl rfl ?_
  refine a_iconst d_Call_judge_15 ⟨by decide, by decide⟩ ?_
  refine a_istore (L' := [some (vr x0), some (vr 20), some (vr r1), some (vi (0 : Int)), some (vi (0 : Int)), none]) d_Call_judge_16 (Nat.le_of_ble_eq_true rfl) rfl rfl ?_
  exact v
theorem g_Call_judge_18 {l : Launch} {D : DD} {d kc ks : Nat} {h : Hp} {Φ : Option AV → Hp → Prop} {x0 : Nat} {x2 : Nat} {x3 : Int} {x4 : Int} (hM : GS h) (v : (x4 ≥ xI h 20 1 → (Φ none h)) ∧ (x4 < xI h 20 1 → (0 ≤ x4 ∧ x4 < 16 ∧ ((xI h 23 (x4).toNat = 0 → (Ev l D Y_Call_judge (d + 1) kc ks 18 [some (vr x0), some (vr 20), some (vr x2), some (vi x3), some (vi (wr (x4 + (1 : Int)))), none] [] h Φ)) ∧ (¬ xI h 23 (x4).toNat = 0 → (0 ≤ x4 ∧ x4 < 16 ∧ (xK h x0 = 6 ∧ (xK h (xR h 21 (x4).toNat) = 3 ∧ Ev l D Y_Type_isUnder d 0 0 0 [some (vr (xR h 21 (x4).toNat)), some (vr (xR h x0 4))] [] h (ki (fun r1 h1 => GS h1 ∧ ((r1 = 0 → (Ev l D Y_Call_judge (d + 1) kc ks 18 [some (vr x0), some (vr 20), some (vr x2), some (vi x3), some (vi (wr (x4 + (1 : Int)))), none] [] h1 Φ)) ∧ (¬ r1 = 0 → (0 ≤ x4 ∧ x4 < 16 ∧ (Ev l D Y_G_choose d 0 0 0 [some (vr 20), some (vr (xR h1 21 (x4).toNat)), some (vr x2), none, none] [] h1 (ki (fun r2 h2 => GS h2 ∧ ((r2 = (-4 : Int) → (xK h2 x0 = 6 ∧ Ev l D (mt_Call_fault_Y (xK h2 x0)) d 0 0 0 (enL (mt_Call_fault_Y (xK h2 x0)).2.2.1 [vr x0, vi r2]) [] h2 (kv (fun h3 => GS h3 ∧ (Ev l D Y_Call_judge (d + 1) kc ks 18 [some (vr x0), some (vr 20), some (vr x2), some (vi (1 : Int)), some (vi (wr (x4 + (1 : Int)))), none] [] h3 Φ))))) ∧ (¬ r2 = (-4 : Int) → ((r2 = (-5 : Int) → (xK h2 x0 = 6 ∧ Ev l D (mt_Call_fault_Y (xK h2 x0)) d 0 0 0 (enL (mt_Call_fault_Y (xK h2 x0)).2.2.1 [vr x0, vi r2]) [] h2 (kv (fun h4 => GS h4 ∧ (Ev l D Y_Call_judge (d + 1) kc ks 18 [some (vr x0), some (vr 20), some (vr x2), some (vi (1 : Int)), some (vi (wr (x4 + (1 : Int)))), none] [] h4 Φ))))) ∧ (¬ r2 = (-5 : Int) → ((r2 ≥ (-1 : Int) → (Ev l D Y_Call_judge (d + 1) kc ks 18 [some (vr x0), some (vr 20), some (vr x2), some (vi (1 : Int)), some (vi (wr (x4 + (1 : Int)))), none] [] h2 Φ)) ∧ (r2 < (-1 : Int) → ((¬ x3 = 0 → (Ev l D Y_Call_judge (d + 1) kc ks 18 [some (vr x0), some (vr 20), some (vr x2), some (vi (1 : Int)), some (vi (wr (x4 + (1 : Int)))), none] [] h2 Φ)) ∧ (x3 = 0 → (xK h2 x0 = 6 ∧ Ev l D (mt_Call_fault_Y (xK h2 x0)) d 0 0 0 (enL (mt_Call_fault_Y (xK h2 x0)).2.2.1 [vr x0, vi r2]) [] h2 (kv (fun h5 => GS h5 ∧ (Ev l D Y_Call_judge (d + 1) kc ks 18 [some (vr x0), some (vr 20), some (vr x2), some (vi (1 : Int)), some (vi (wr (x4 + (1 : Int)))), none] [] h5 Φ)))))))))))))))))))))))))))) : Ev l D Y_Call_judge (d + 1) kc ks 18 [some (vr x0), some (vr 20), some (vr x2), some (vi x3), some (vi x4), none] [] h Φ := by
  refine a_iload d_Call_judge_18 rfl ?_
  refine a_aload_n d_Call_judge_20 rfl ?_
  refine a_getIN fl_Call_23 d_Call_judge_21 (beq_iff_eq.mpr (KNG_20 hM)) ?_
  obtain ⟨vt, vf⟩ := v
  refine a_icmp_ge (tgt := 106) d_Call_judge_24 (by decide) (fun c => ?_) (fun c => ?_)
  · have v := vt (c); clear vt vf
    exact a_vret d_Call_judge_106 rfl v
  · have v := vf (Int.not_le.mp c); clear vt vf
    refine a_aload_n d_Call_judge_27 rfl ?_
    refine a_getAeN fl_Call_26 d_Call_judge_28 (beq_iff_eq.mpr (KNG_20 hM)) (KRG_20_9 hM) ?_
    refine a_iload d_Call_judge_31 rfl ?_
    obtain ⟨c2, c3, v⟩ := v
    refine a_zald d_Call_judge_33 (KNG_23 hM) c2 (lt_len (NNG_23 hM) c3) ?_
    obtain ⟨vt, vf⟩ := v
    refine a_if_eq (tgt := 100) d_Call_judge_34 (by decide) (fun c => ?_) (fun c => ?_)
    · have v := vt (c); clear vt vf
      refine a_iinc (L' := [some (vr x0), some (vr 20), some (vr x2), some (vi x3), some (vi (wr (x4 + (1 : Int)))), none]) d_Call_judge_100 rfl (Nat.le_of_ble_eq_true rfl) rfl rfl ?_
      refine a_goto (tgt := 18) d_Call_judge_103 (by decide) ?_
      exact v
    · have v := vf (c); clear vt vf
      refine a_aload_n d_Call_judge_37 rfl ?_
      refine a_getAeN fl_Call_30 d_Call_judge_38 (beq_iff_eq.mpr (KNG_20 hM)) (KRG_20_0 hM) ?_
      refine a_iload d_Call_judge_41 rfl ?_
      obtain ⟨c5, c6, v⟩ := v
      refine a_aald d_Call_judge_43 ⟨by rw [KNG_21 hM]; decide, by rw [KNG_21 hM]; decide⟩ c5 (lt_len (NNG_21 hM) c6) ?_
      refine a_aload_n d_Call_judge_44 rfl ?_
      obtain ⟨c7, v⟩ := v
      refine a_getR fl_Call_9 d_Call_judge_45 (beq_iff_eq.mpr c7) ?_
      obtain ⟨c15, v⟩ := v
      refine b_callV (as := [vr (xR h x0 4)]) (b := (xR h 21 (x4).toNat)) (st := []) (kd := 3) (kc1 := 0) (ks1 := 0) (kc2 := kc) (ks2 := ks) (d' := d) ml_Call_34 rfl d_Call_judge_48 rfl rfl (Nat.le_of_ble_eq_true rfl) (by decide) rfl (Nat.le_refl _) (by omega) (by omega) c15 ?_
      refine Ev.mono v ?_
      intro u h1 v
      obtain ⟨r1, rfl, v⟩ := ki_el v
      obtain ⟨hm1, v⟩ := v
      change Ev l D Y_Call_judge _ _ _ 51 [some (vr x0), some (vr 20), some (vr x2), some (vi x3), some (vi x4), none] [vi r1] _ _
      obtain ⟨vt, vf⟩ := v
      refine a_if_eq (tgt := 100) d_Call_judge_51 (by decide) (fun c => ?_) (fun c => ?_)
      · have v := vt (c); clear vt vf
        refine a_iinc (L' := [some (vr x0), some (vr 20), some (vr x2), some (vi x3), some (vi (wr (x4 + (1 : Int)))), none]) d_Call_judge_100 rfl (Nat.le_of_ble_eq_true rfl) rfl rfl ?_
        refine a_goto (tgt := 18) d_Call_judge_103 (by decide) ?_
        exact v
      · have v := vf (c); clear vt vf
        refine a_aload_n d_Call_judge_54 rfl ?_
        refine a_aload_n d_Call_judge_55 rfl ?_
        refine a_getAeN fl_Call_30 d_Call_judge_56 (beq_iff_eq.mpr (KNG_20 hm1)) (KRG_20_0 hm1) ?_
        refine a_iload d_Call_judge_59 rfl ?_
        obtain ⟨c9, c10, v⟩ := v
        refine a_aald d_Call_judge_61 ⟨by rw [KNG_21 hm1]; decide, by rw [KNG_21 hm1]; decide⟩ c9 (lt_len (NNG_21 hm1) c10) ?_
        refine a_aload_n d_Call_judge_62 rfl ?_
        refine b_callN (as := [vr (xR h1 21 (x4).toNat), vr x2]) (b := 20) (st := []) (kd := 1) (kc1 := 0) (ks1 := 0) (kc2 := kc) (ks2 := ks) (d' := d) ml_Call_40 rfl d_Call_judge_63 rfl rfl (Nat.le_of_ble_eq_true rfl) (by decide) rfl (Nat.le_refl _) (by omega) (by omega) (KNG_20 hm1) ?_
        refine Ev.mono v ?_
        intro u h2 v
        obtain ⟨r2, rfl, v⟩ := ki_el v
        obtain ⟨hm2, v⟩ := v
        change Ev l D Y_Call_judge _ _ _ 66 [some (vr x0), some (vr 20), some (vr x2), some (vi x3), some (vi x4), none] [vi r2] _ _
        refine a_istore (L' := [some (vr x0), some (vr 20), some (vr x2), some (vi x3), some (vi x4), some (vi r2)]) d_Call_judge_66 (Nat.le_of_ble_eq_true rfl) rfl rfl ?_
        refine a_iload d_Call_judge_68 rfl ?_
        refine a_bipush d_Call_judge_70 ⟨by decide, by decide⟩ (by decide) ?_
        obtain ⟨vt, vf⟩ := v
        refine a_icmp_eq (tgt := 92) d_Call_judge_72 (by decide) (fun c => ?_) (fun c => ?_)
        · have v := vt (c); clear vt vf
          refine a_aload_n d_Call_judge_92 rfl ?_
          refine a_iload d_Call_judge_93 rfl ?_
          obtain ⟨c11, v⟩ := v
          refine b_callU (as := [vi r2]) (b := x0) (st := []) (kc1 := 0) (ks1 := 0) (kc2 := kc) (ks2 := ks) (d' := d) ml_Call_52 mt_Call_fault rfl d_Call_judge_95 rfl rfl (fl1 (Nat.le_of_ble_eq_true rfl)) (Nat.le_refl _) (by omega) (by omega) (beq_iff_eq.mpr c11) ?_
          refine Ev.mono v ?_
          intro u h3 v
          obtain ⟨rfl, v⟩ := kv_el v
          obtain ⟨hm3, v⟩ := v
          change Ev l D Y_Call_judge _ _ _ 98 [some (vr x0), some (vr 20), some (vr x2), some (vi x3), some (vi x4), some (vi r2)] [] _ _
          refine a_iconst d_Call_judge_98 ⟨by decide, by decide⟩ ?_
          refine a_istore_n (L' := [some (vr x0), some (vr 20), some (vr x2), some (vi (1 : Int)), some (vi x4), some (vi r2)]) d_Call_judge_99 (Nat.le_of_ble_eq_true rfl) rfl rfl ?_
          refine a_iinc (L' := [some (vr x0), some (vr 20), some (vr x2), some (vi (1 : Int)), some (vi (wr (x4 + (1 : Int)))), some (vi r2)]) d_Call_judge_100 rfl (Nat.le_of_ble_eq_true rfl) rfl rfl ?_
          refine a_goto (tgt := 18) d_Call_judge_103 (by decide) ?_
          exact Ev.weak v ⟨rfl, rfl, rfl, rfl, rfl, trivial⟩
        · have v := vf (c); clear vt vf
          refine a_iload d_Call_judge_75 rfl ?_
          refine a_bipush d_Call_judge_77 ⟨by decide, by decide⟩ (by decide) ?_
          obtain ⟨vt, vf⟩ := v
          refine a_icmp_eq (tgt := 92) d_Call_judge_79 (by decide) (fun c => ?_) (fun c => ?_)
          · have v := vt (c); clear vt vf
            refine a_aload_n d_Call_judge_92 rfl ?_
            refine a_iload d_Call_judge_93 rfl ?_
            obtain ⟨c12, v⟩ := v
            refine b_callU (as := [vi r2]) (b := x0) (st := []) (kc1 := 0) (ks1 := 0) (kc2 := kc) (ks2 := ks) (d' := d) ml_Call_52 mt_Call_fault rfl d_Call_judge_95 rfl rfl (fl1 (Nat.le_of_ble_eq_true rfl)) (Nat.le_refl _) (by omega) (by omega) (beq_iff_eq.mpr c12) ?_
            refine Ev.mono v ?_
            intro u h4 v
            obtain ⟨rfl, v⟩ := kv_el v
            obtain ⟨hm4, v⟩ := v
            change Ev l D Y_Call_judge _ _ _ 98 [some (vr x0), some (vr 20), some (vr x2), some (vi x3), some (vi x4), some (vi r2)] [] _ _
            refine a_iconst d_Call_judge_98 ⟨by decide, by decide⟩ ?_
            refine a_istore_n (L' := [some (vr x0), some (vr 20), some (vr x2), some (vi (1 : Int)), some (vi x4), some (vi r2)]) d_Call_judge_99 (Nat.le_of_ble_eq_true rfl) rfl rfl ?_
            refine a_iinc (L' := [some (vr x0), some (vr 20), some (vr x2), some (vi (1 : Int)), some (vi (wr (x4 + (1 : Int)))), some (vi r2)]) d_Call_judge_100 rfl (Nat.le_of_ble_eq_true rfl) rfl rfl ?_
            refine a_goto (tgt := 18) d_Call_judge_103 (by decide) ?_
            exact Ev.weak v ⟨rfl, rfl, rfl, rfl, rfl, trivial⟩
          · have v := vf (c); clear vt vf
            refine a_iload d_Call_judge_82 rfl ?_
            refine a_iconst d_Call_judge_84 ⟨by decide, by decide⟩ ?_
            obtain ⟨vt, vf⟩ := v
            refine a_icmp_ge (tgt := 98) d_Call_judge_85 (by decide) (fun c => ?_) (fun c => ?_)
            · have v := vt (c); clear vt vf
              refine a_iconst d_Call_judge_98 ⟨by decide, by decide⟩ ?_
              refine a_istore_n (L' := [some (vr x0), some (vr 20), some (vr x2), some (vi (1 : Int)), some (vi x4), some (vi r2)]) d_Call_judge_99 (Nat.le_of_ble_eq_true rfl) rfl rfl ?_
              refine a_iinc (L' := [some (vr x0), some (vr 20), some (vr x2), some (vi (1 : Int)), some (vi (wr (x4 + (1 : Int)))), some (vi r2)]) d_Call_judge_100 rfl (Nat.le_of_ble_eq_true rfl) rfl rfl ?_
              refine a_goto (tgt := 18) d_Call_judge_103 (by decide) ?_
              exact Ev.weak v ⟨rfl, rfl, rfl, rfl, rfl, trivial⟩
            · have v := vf (Int.not_le.mp c); clear vt vf
              refine a_iload_n d_Call_judge_88 rfl ?_
              obtain ⟨vt, vf⟩ := v
              refine a_if_ne (tgt := 98) d_Call_judge_89 (by decide) (fun c => ?_) (fun c => ?_)
              · have v := vt (c); clear vt vf
                refine a_iconst d_Call_judge_98 ⟨by decide, by decide⟩ ?_
                refine a_istore_n (L' := [some (vr x0), some (vr 20), some (vr x2), some (vi (1 : Int)), some (vi x4), some (vi r2)]) d_Call_judge_99 (Nat.le_of_ble_eq_true rfl) rfl rfl ?_
                refine a_iinc (L' := [some (vr x0), some (vr 20), some (vr x2), some (vi (1 : Int)), some (vi (wr (x4 + (1 : Int)))), some (vi r2)]) d_Call_judge_100 rfl (Nat.le_of_ble_eq_true rfl) rfl rfl ?_
                refine a_goto (tgt := 18) d_Call_judge_103 (by decide) ?_
                exact Ev.weak v ⟨rfl, rfl, rfl, rfl, rfl, trivial⟩
              · have v := vf (Classical.not_not.mp c); clear vt vf
                refine a_aload_n d_Call_judge_92 rfl ?_
                refine a_iload d_Call_judge_93 rfl ?_
                obtain ⟨c13, v⟩ := v
                refine b_callU (as := [vi r2]) (b := x0) (st := []) (kc1 := 0) (ks1 := 0) (kc2 := kc) (ks2 := ks) (d' := d) ml_Call_52 mt_Call_fault rfl d_Call_judge_95 rfl rfl (fl1 (Nat.le_of_ble_eq_true rfl)) (Nat.le_refl _) (by omega) (by omega) (beq_iff_eq.mpr c13) ?_
                refine Ev.mono v ?_
                intro u h5 v
                obtain ⟨rfl, v⟩ := kv_el v
                obtain ⟨hm5, v⟩ := v
                change Ev l D Y_Call_judge _ _ _ 98 [some (vr x0), some (vr 20), some (vr x2), some (vi x3), some (vi x4), some (vi r2)] [] _ _
                refine a_iconst d_Call_judge_98 ⟨by decide, by decide⟩ ?_
                refine a_istore_n (L' := [some (vr x0), some (vr 20), some (vr x2), some (vi (1 : Int)), some (vi x4), some (vi r2)]) d_Call_judge_99 (Nat.le_of_ble_eq_true rfl) rfl rfl ?_
                refine a_iinc (L' := [some (vr x0), some (vr 20), some (vr x2), some (vi (1 : Int)), some (vi (wr (x4 + (1 : Int)))), some (vi r2)]) d_Call_judge_100 rfl (Nat.le_of_ble_eq_true rfl) rfl rfl ?_
                refine a_goto (tgt := 18) d_Call_judge_103 (by decide) ?_
                exact Ev.weak v ⟨rfl, rfl, rfl, rfl, rfl, trivial⟩
