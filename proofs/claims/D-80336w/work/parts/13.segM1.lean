theorem d_M_in_0 : decode Y_M_in.2.1 0 = .ok (.iload_n 0, 1) := by decide +kernel
theorem d_M_in_1 : decode Y_M_in.2.1 1 = .ok (.iload_n 1, 1) := by decide +kernel
theorem d_M_in_2 : decode Y_M_in.2.1 2 = .ok (.if_icmp .lt 12, 3) := by decide +kernel
theorem d_M_in_5 : decode Y_M_in.2.1 5 = .ok (.iload_n 0, 1) := by decide +kernel
theorem d_M_in_6 : decode Y_M_in.2.1 6 = .ok (.iload_n 2, 1) := by decide +kernel
theorem d_M_in_7 : decode Y_M_in.2.1 7 = .ok (.if_icmp .gt 7, 3) := by decide +kernel
theorem d_M_in_10 : decode Y_M_in.2.1 10 = .ok (.iconst 1, 1) := by decide +kernel
theorem d_M_in_11 : decode Y_M_in.2.1 11 = .ok (.goto 4, 3) := by decide +kernel
theorem d_M_in_14 : decode Y_M_in.2.1 14 = .ok (.iconst 0, 1) := by decide +kernel
theorem d_M_in_15 : decode Y_M_in.2.1 15 = .ok (.ireturn, 1) := by decide +kernel
theorem m_M_in_0 {l : Launch} {D : DD} {d kc ks : Nat} {h : Hp} {Φ : Option AV → Hp → Prop} {x0 : Int} {x1 : Int} {x2 : Int} (hM : MS h) (v : (x0 < x1 → (Φ (some (vi (0 : Int))) h)) ∧ (x0 ≥ x1 → ((x0 > x2 → (Φ (some (vi (0 : Int))) h)) ∧ (x0 ≤ x2 → (Φ (some (vi (1 : Int))) h))))) : Ev l D Y_M_in d kc ks 0 [some (vi x0), some (vi x1), some (vi x2)] [] h Φ := by
  refine a_iload_n d_M_in_0 rfl ?_
  refine a_iload_n d_M_in_1 rfl ?_
  obtain ⟨vt, vf⟩ := v
  refine a_icmp_lt (tgt := 14) d_M_in_2 (by decide) (fun c => ?_) (fun c => ?_)
  · have v := vt (c); clear vt vf
    refine a_iconst d_M_in_14 ⟨by decide, by decide⟩ ?_
    exact a_zret d_M_in_15 rfl (Or.inl rfl) v
  · have v := vf (Int.not_lt.mp c); clear vt vf
    refine a_iload_n d_M_in_5 rfl ?_
    refine a_iload_n d_M_in_6 rfl ?_
    obtain ⟨vt, vf⟩ := v
    refine a_icmp_gt (tgt := 14) d_M_in_7 (by decide) (fun c => ?_) (fun c => ?_)
    · have v := vt (c); clear vt vf
      refine a_iconst d_M_in_14 ⟨by decide, by decide⟩ ?_
      exact a_zret d_M_in_15 rfl (Or.inl rfl) v
    · have v := vf (Int.not_lt.mp c); clear vt vf
      refine a_iconst d_M_in_10 ⟨by decide, by decide⟩ ?_
      refine a_goto (tgt := 15) d_M_in_11 (by decide) ?_
      exact a_zret d_M_in_15 rfl (Or.inr rfl) v
theorem d_M_isType_0 : decode Y_M_isType.2.1 0 = .ok (.iload_n 1, 1) := by decide +kernel
theorem d_M_isType_1 : decode Y_M_isType.2.1 1 = .ok (.iconst 0, 1) := by decide +kernel
theorem d_M_isType_2 : decode Y_M_isType.2.1 2 = .ok (.aload_n 0, 1) := by decide +kernel
theorem d_M_isType_3 : decode Y_M_isType.2.1 3 = .ok (.getfield 123, 3) := by decide +kernel
theorem d_M_isType_6 : decode Y_M_isType.2.1 6 = .ok (.iconst 1, 1) := by decide +kernel
theorem d_M_isType_7 : decode Y_M_isType.2.1 7 = .ok (.isub, 1) := by decide +kernel
theorem d_M_isType_8 : decode Y_M_isType.2.1 8 = .ok (.invokestatic 127, 3) := by decide +kernel
theorem d_M_isType_11 : decode Y_M_isType.2.1 11 = .ok (.ireturn, 1) := by decide +kernel
theorem m_M_isType_0 {l : Launch} {D : DD} {d kc ks : Nat} {h : Hp} {Φ : Option AV → Hp → Prop} {x1 : Int} (hM : MS h) (v : Ev l D Y_M_in d 0 0 0 [some (vi x1), some (vi (0 : Int)), some (vi (wr ((xI h 100 0) - (1 : Int))))] [] h (ki (fun r1 h1 => MS h1 ∧ ((r1 = 0 ∨ r1 = 1) ∧ Φ (some (vi r1)) h1)))) : Ev l D Y_M_isType (d + 1) kc ks 0 [some (vr 100), some (vi x1)] [] h Φ := by
  refine a_iload_n d_M_isType_0 rfl ?_
  refine a_iconst d_M_isType_1 ⟨by decide, by decide⟩ ?_
  refine a_aload_n d_M_isType_2 rfl ?_
  refine a_getI fl_M_123 d_M_isType_3 (beq_iff_eq.mpr (KNM_100 hM)) ?_
  refine a_iconst d_M_isType_6 ⟨by decide, by decide⟩ ?_
  refine a_isub d_M_isType_7 ?_
  refine b_callS (as := [vi x1, vi (0 : Int), vi (wr ((xI h 100 0) - (1 : Int)))]) (st := []) (kc1 := 0) (ks1 := 0) (kc2 := kc) (ks2 := ks) (d' := d) ml_M_127 rfl d_M_isType_8 rfl rfl (Nat.le_of_ble_eq_true rfl) rfl (Nat.le_refl _) (by omega) (by omega) ?_
  refine Ev.mono v ?_
  intro u h1 v
  obtain ⟨r1, rfl, v⟩ := ki_el v
  obtain ⟨hm1, v⟩ := v
  change Ev l D Y_M_isType _ _ _ 11 [some (vr 100), some (vi x1)] [vi r1] _ _
  exact a_zret d_M_isType_11 rfl v.1 v.2
theorem d_M_isMember_0 : decode Y_M_isMember.2.1 0 = .ok (.iload_n 1, 1) := by decide +kernel
theorem d_M_isMember_1 : decode Y_M_isMember.2.1 1 = .ok (.iconst 0, 1) := by decide +kernel
theorem d_M_isMember_2 : decode Y_M_isMember.2.1 2 = .ok (.aload_n 0, 1) := by decide +kernel
theorem d_M_isMember_3 : decode Y_M_isMember.2.1 3 = .ok (.getfield 131, 3) := by decide +kernel
theorem d_M_isMember_6 : decode Y_M_isMember.2.1 6 = .ok (.iconst 1, 1) := by decide +kernel
theorem d_M_isMember_7 : decode Y_M_isMember.2.1 7 = .ok (.isub, 1) := by decide +kernel
theorem d_M_isMember_8 : decode Y_M_isMember.2.1 8 = .ok (.invokestatic 127, 3) := by decide +kernel
theorem d_M_isMember_11 : decode Y_M_isMember.2.1 11 = .ok (.ireturn, 1) := by decide +kernel
theorem m_M_isMember_0 {l : Launch} {D : DD} {d kc ks : Nat} {h : Hp} {Φ : Option AV → Hp → Prop} {x1 : Int} (hM : MS h) (v : Ev l D Y_M_in d 0 0 0 [some (vi x1), some (vi (0 : Int)), some (vi (wr ((xI h 100 5) - (1 : Int))))] [] h (ki (fun r1 h1 => MS h1 ∧ ((r1 = 0 ∨ r1 = 1) ∧ Φ (some (vi r1)) h1)))) : Ev l D Y_M_isMember (d + 1) kc ks 0 [some (vr 100), some (vi x1)] [] h Φ := by
  refine a_iload_n d_M_isMember_0 rfl ?_
  refine a_iconst d_M_isMember_1 ⟨by decide, by decide⟩ ?_
  refine a_aload_n d_M_isMember_2 rfl ?_
  refine a_getI fl_M_131 d_M_isMember_3 (beq_iff_eq.mpr (KNM_100 hM)) ?_
  refine a_iconst d_M_isMember_6 ⟨by decide, by decide⟩ ?_
  refine a_isub d_M_isMember_7 ?_
  refine b_callS (as := [vi x1, vi (0 : Int), vi (wr ((xI h 100 5) - (1 : Int)))]) (st := []) (kc1 := 0) (ks1 := 0) (kc2 := kc) (ks2 := ks) (d' := d) ml_M_127 rfl d_M_isMember_8 rfl rfl (Nat.le_of_ble_eq_true rfl) rfl (Nat.le_refl _) (by omega) (by omega) ?_
  refine Ev.mono v ?_
  intro u h1 v
  obtain ⟨r1, rfl, v⟩ := ki_el v
  obtain ⟨hm1, v⟩ := v
  change Ev l D Y_M_isMember _ _ _ 11 [some (vr 100), some (vi x1)] [vi r1] _ _
  exact a_zret d_M_isMember_11 rfl v.1 v.2
theorem d_M_lookUp_0 : decode Y_M_lookUp.2.1 0 = .ok (.iconst 0, 1) := by decide +kernel
theorem d_M_lookUp_1 : decode Y_M_lookUp.2.1 1 = .ok (.istore_n 2, 1) := by decide +kernel
theorem d_M_lookUp_2 : decode Y_M_lookUp.2.1 2 = .ok (.iload_n 2, 1) := by decide +kernel
theorem d_M_lookUp_3 : decode Y_M_lookUp.2.1 3 = .ok (.bipush 16, 2) := by decide +kernel
theorem d_M_lookUp_5 : decode Y_M_lookUp.2.1 5 = .ok (.if_icmp .ge 25, 3) := by decide +kernel
theorem d_M_lookUp_8 : decode Y_M_lookUp.2.1 8 = .ok (.aload_n 0, 1) := by decide +kernel
theorem d_M_lookUp_9 : decode Y_M_lookUp.2.1 9 = .ok (.getfield 68, 3) := by decide +kernel
theorem d_M_lookUp_12 : decode Y_M_lookUp.2.1 12 = .ok (.iload_n 2, 1) := by decide +kernel
theorem d_M_lookUp_13 : decode Y_M_lookUp.2.1 13 = .ok (.iload_n 2, 1) := by decide +kernel
theorem d_M_lookUp_14 : decode Y_M_lookUp.2.1 14 = .ok (.iload_n 1, 1) := by decide +kernel
theorem d_M_lookUp_15 : decode Y_M_lookUp.2.1 15 = .ok (.if_icmp .ne 7, 3) := by decide +kernel
theorem d_M_lookUp_18 : decode Y_M_lookUp.2.1 18 = .ok (.iconst 1, 1) := by decide +kernel
theorem d_M_lookUp_19 : decode Y_M_lookUp.2.1 19 = .ok (.goto 4, 3) := by decide +kernel
theorem d_M_lookUp_22 : decode Y_M_lookUp.2.1 22 = .ok (.iconst 0, 1) := by decide +kernel
theorem d_M_lookUp_23 : decode Y_M_lookUp.2.1 23 = .ok (.bastore, 1) := by decide +kernel
theorem d_M_lookUp_24 : decode Y_M_lookUp.2.1 24 = .ok (.iinc 2 1, 3) := by decide +kernel
theorem d_M_lookUp_27 : decode Y_M_lookUp.2.1 27 = .ok (.goto (-25), 3) := by decide +kernel
theorem d_M_lookUp_30 : decode Y_M_lookUp.2.1 30 = .ok (.iload_n 1, 1) := by decide +kernel
theorem d_M_lookUp_31 : decode Y_M_lookUp.2.1 31 = .ok (.istore_n 2, 1) := by decide +kernel
theorem d_M_lookUp_32 : decode Y_M_lookUp.2.1 32 = .ok (.iload_n 2, 1) := by decide +kernel
theorem d_M_lookUp_33 : decode Y_M_lookUp.2.1 33 = .ok (.ifCond .lt 83, 3) := by decide +kernel
theorem d_M_lookUp_36 : decode Y_M_lookUp.2.1 36 = .ok (.aload_n 0, 1) := by decide +kernel
theorem d_M_lookUp_37 : decode Y_M_lookUp.2.1 37 = .ok (.getfield 68, 3) := by decide +kernel
theorem d_M_lookUp_40 : decode Y_M_lookUp.2.1 40 = .ok (.iload_n 2, 1) := by decide +kernel
theorem d_M_lookUp_41 : decode Y_M_lookUp.2.1 41 = .ok (.baload, 1) := by decide +kernel
theorem d_M_lookUp_42 : decode Y_M_lookUp.2.1 42 = .ok (.ifCond .eq 25, 3) := by decide +kernel
theorem d_M_lookUp_45 : decode Y_M_lookUp.2.1 45 = .ok (.aload_n 0, 1) := by decide +kernel
theorem d_M_lookUp_46 : decode Y_M_lookUp.2.1 46 = .ok (.getfield 13, 3) := by decide +kernel
theorem d_M_lookUp_49 : decode Y_M_lookUp.2.1 49 = .ok (.iload_n 2, 1) := by decide +kernel
theorem d_M_lookUp_50 : decode Y_M_lookUp.2.1 50 = .ok (.iaload, 1) := by decide +kernel
theorem d_M_lookUp_51 : decode Y_M_lookUp.2.1 51 = .ok (.iconst (-1), 1) := by decide +kernel
theorem d_M_lookUp_52 : decode Y_M_lookUp.2.1 52 = .ok (.if_icmp .eq 15, 3) := by decide +kernel
theorem d_M_lookUp_55 : decode Y_M_lookUp.2.1 55 = .ok (.aload_n 0, 1) := by decide +kernel
theorem d_M_lookUp_56 : decode Y_M_lookUp.2.1 56 = .ok (.getfield 68, 3) := by decide +kernel
theorem d_M_lookUp_59 : decode Y_M_lookUp.2.1 59 = .ok (.aload_n 0, 1) := by decide +kernel
theorem d_M_lookUp_60 : decode Y_M_lookUp.2.1 60 = .ok (.getfield 13, 3) := by decide +kernel
theorem d_M_lookUp_63 : decode Y_M_lookUp.2.1 63 = .ok (.iload_n 2, 1) := by decide +kernel
theorem d_M_lookUp_64 : decode Y_M_lookUp.2.1 64 = .ok (.iaload, 1) := by decide +kernel
theorem d_M_lookUp_65 : decode Y_M_lookUp.2.1 65 = .ok (.iconst 1, 1) := by decide +kernel
theorem d_M_lookUp_66 : decode Y_M_lookUp.2.1 66 = .ok (.bastore, 1) := by decide +kernel
theorem d_M_lookUp_67 : decode Y_M_lookUp.2.1 67 = .ok (.iconst 0, 1) := by decide +kernel
theorem d_M_lookUp_68 : decode Y_M_lookUp.2.1 68 = .ok (.istore_n 3, 1) := by decide +kernel
theorem d_M_lookUp_69 : decode Y_M_lookUp.2.1 69 = .ok (.iload_n 3, 1) := by decide +kernel
theorem d_M_lookUp_70 : decode Y_M_lookUp.2.1 70 = .ok (.aload_n 0, 1) := by decide +kernel
theorem d_M_lookUp_71 : decode Y_M_lookUp.2.1 71 = .ok (.getfield 16, 3) := by decide +kernel
theorem d_M_lookUp_74 : decode Y_M_lookUp.2.1 74 = .ok (.iload_n 2, 1) := by decide +kernel
theorem d_M_lookUp_75 : decode Y_M_lookUp.2.1 75 = .ok (.iaload, 1) := by decide +kernel
theorem d_M_lookUp_76 : decode Y_M_lookUp.2.1 76 = .ok (.if_icmp .ge 34, 3) := by decide +kernel
theorem d_M_lookUp_79 : decode Y_M_lookUp.2.1 79 = .ok (.aload_n 0, 1) := by decide +kernel
theorem d_M_lookUp_80 : decode Y_M_lookUp.2.1 80 = .ok (.getfield 68, 3) := by decide +kernel
theorem d_M_lookUp_83 : decode Y_M_lookUp.2.1 83 = .ok (.iload_n 2, 1) := by decide +kernel
theorem d_M_lookUp_84 : decode Y_M_lookUp.2.1 84 = .ok (.baload, 1) := by decide +kernel
theorem d_M_lookUp_85 : decode Y_M_lookUp.2.1 85 = .ok (.ifCond .eq 25, 3) := by decide +kernel
theorem d_M_lookUp_88 : decode Y_M_lookUp.2.1 88 = .ok (.aload_n 0, 1) := by decide +kernel
theorem d_M_lookUp_89 : decode Y_M_lookUp.2.1 89 = .ok (.getfield 68, 3) := by decide +kernel
theorem d_M_lookUp_92 : decode Y_M_lookUp.2.1 92 = .ok (.aload_n 0, 1) := by decide +kernel
theorem d_M_lookUp_93 : decode Y_M_lookUp.2.1 93 = .ok (.getfield 19, 3) := by decide +kernel
theorem d_M_lookUp_96 : decode Y_M_lookUp.2.1 96 = .ok (.iconst 3, 1) := by decide +kernel
theorem d_M_lookUp_97 : decode Y_M_lookUp.2.1 97 = .ok (.iload_n 2, 1) := by decide +kernel
theorem d_M_lookUp_98 : decode Y_M_lookUp.2.1 98 = .ok (.imul, 1) := by decide +kernel
theorem d_M_lookUp_99 : decode Y_M_lookUp.2.1 99 = .ok (.iload_n 3, 1) := by decide +kernel
theorem d_M_lookUp_100 : decode Y_M_lookUp.2.1 100 = .ok (.iadd, 1) := by decide +kernel
theorem d_M_lookUp_101 : decode Y_M_lookUp.2.1 101 = .ok (.iaload, 1) := by decide +kernel
theorem d_M_lookUp_102 : decode Y_M_lookUp.2.1 102 = .ok (.iconst 1, 1) := by decide +kernel
theorem d_M_lookUp_103 : decode Y_M_lookUp.2.1 103 = .ok (.bastore, 1) := by decide +kernel
theorem d_M_lookUp_104 : decode Y_M_lookUp.2.1 104 = .ok (.iinc 3 1, 3) := by decide +kernel
theorem d_M_lookUp_107 : decode Y_M_lookUp.2.1 107 = .ok (.goto (-38), 3) := by decide +kernel
theorem d_M_lookUp_110 : decode Y_M_lookUp.2.1 110 = .ok (.iinc 2 (-1), 3) := by decide +kernel
theorem d_M_lookUp_113 : decode Y_M_lookUp.2.1 113 = .ok (.goto (-81), 3) := by decide +kernel
theorem d_M_lookUp_116 : decode Y_M_lookUp.2.1 116 = .ok (.return_, 1) := by decide +kernel
theorem m_M_lookUp_0 {l : Launch} {D : DD} {d kc ks : Nat} {h : Hp} {Φ : Option AV → Hp → Prop} {x1 : Int} (hM : MS h) (v : Ev l D Y_M_lookUp d kc ks 2 [some (vr 100), some (vi x1), some (vi (0 : Int)), none] [] h Φ) : Ev l D Y_M_lookUp d kc ks 0 [some (vr 100), some (vi x1), none, none] [] h Φ := by
  refine a_iconst d_M_lookUp_0 ⟨by decide, by decide⟩ ?_
  refine a_istore_n (L' := [some (vr 100), some (vi x1), some (vi (0 : Int)), none]) d_M_lookUp_1 (Nat.le_of_ble_eq_true rfl) rfl rfl ?_
  exact v
theorem m_M_lookUp_2 {l : Launch} {D : DD} {d kc ks : Nat} {h : Hp} {Φ : Option AV → Hp → Prop} {x1 : Int} {x2 : Int} (hM : MS h) (v : (x2 ≥ (16 : Int) → (Ev l D Y_M_lookUp d kc ks 32 [some (vr 100), some (vi x1), some (vi x1), none] [] h Φ)) ∧ (x2 < (16 : Int) → ((¬ x2 = x1 → (0 ≤ x2 ∧ x2 < 16 ∧ (∀ h1 : Hp, h1 = sI h 125 (x2).toNat (0 : Int) → (Ev l D Y_M_lookUp d kc ks 2 [some (vr 100), some (vi x1), some (vi (wr (x2 + (1 : Int)))), none] [] h1 Φ)))) ∧ (x2 = x1 → (0 ≤ x2 ∧ x2 < 16 ∧ (∀ h2 : Hp, h2 = sI h 125 (x2).toNat (1 : Int) → (Ev l D Y_M_lookUp d kc ks 2 [some (vr 100), some (vi x1), some (vi (wr (x2 + (1 : Int)))), none] [] h2 Φ))))))) : Ev l D Y_M_lookUp d kc ks 2 [some (vr 100), some (vi x1), some (vi x2), none] [] h Φ := by
  refine a_iload_n d_M_lookUp_2 rfl ?_
  refine a_bipush d_M_lookUp_3 ⟨by decide, by decide⟩ (by decide) ?_
  obtain ⟨vt, vf⟩ := v
  refine a_icmp_ge (tgt := 30) d_M_lookUp_5 (by decide) (fun c => ?_) (fun c => ?_)
  · have v := vt (c); clear vt vf
    refine a_iload_n d_M_lookUp_30 rfl ?_
    refine a_istore_n (L' := [some (vr 100), some (vi x1), some (vi x1), none]) d_M_lookUp_31 (Nat.le_of_ble_eq_true rfl) rfl rfl ?_
    exact v
  · have v := vf (Int.not_le.mp c); clear vt vf
    refine a_aload_n d_M_lookUp_8 rfl ?_
    refine a_getAe fl_M_68 d_M_lookUp_9 (beq_iff_eq.mpr (KNM_100 hM)) (KRM_100_24 hM) ?_
    refine a_iload_n d_M_lookUp_12 rfl ?_
    refine a_iload_n d_M_lookUp_13 rfl ?_
    refine a_iload_n d_M_lookUp_14 rfl ?_
    obtain ⟨vt, vf⟩ := v
    refine a_icmp_ne (tgt := 22) d_M_lookUp_15 (by decide) (fun c => ?_) (fun c => ?_)
    · have v := vt (c); clear vt vf
      refine a_iconst d_M_lookUp_22 ⟨by decide, by decide⟩ ?_
      obtain ⟨c3, c4, v⟩ := v
      have v := v _ rfl
      refine a_zast d_M_lookUp_23 (KNM_125 hM) (by decide) c3 (lt_len (NNM_125 hM) c4) (Or.inl rfl) ?_
      refine a_iinc (L' := [some (vr 100), some (vi x1), some (vi (wr (x2 + (1 : Int)))), none]) d_M_lookUp_24 rfl (Nat.le_of_ble_eq_true rfl) rfl rfl ?_
      refine a_goto (tgt := 2) d_M_lookUp_27 (by decide) ?_
      exact v
    · have v := vf (Classical.not_not.mp c); clear vt vf
      refine a_iconst d_M_lookUp_18 ⟨by decide, by decide⟩ ?_
      refine a_goto (tgt := 23) d_M_lookUp_19 (by decide) ?_
      obtain ⟨c7, c8, v⟩ := v
      have v := v _ rfl
      refine a_zast d_M_lookUp_23 (KNM_125 hM) (by decide) c7 (lt_len (NNM_125 hM) c8) (Or.inr rfl) ?_
      refine a_iinc (L' := [some (vr 100), some (vi x1), some (vi (wr (x2 + (1 : Int)))), none]) d_M_lookUp_24 rfl (Nat.le_of_ble_eq_true rfl) rfl rfl ?_
      refine a_goto (tgt := 2) d_M_lookUp_27 (by decide) ?_
      exact v
theorem m_M_lookUp_32 {l : Launch} {D : DD} {d kc ks : Nat} {h : Hp} {Φ : Option AV → Hp → Prop} {x1 : Int} {x2 : Int} (hM : MS h) (v : (x2 < 0 → (Φ none h)) ∧ (x2 ≥ 0 → (0 ≤ x2 ∧ x2 < 16 ∧ ((xI h 125 (x2).toNat = 0 → (Ev l D Y_M_lookUp d kc ks 69 [some (vr 100), some (vi x1), some (vi x2), some (vi (0 : Int))] [] h Φ)) ∧ (¬ xI h 125 (x2).toNat = 0 → (0 ≤ x2 ∧ x2 < 16 ∧ ((xI h 103 (x2).toNat = (-1 : Int) → (Ev l D Y_M_lookUp d kc ks 69 [some (vr 100), some (vi x1), some (vi x2), some (vi (0 : Int))] [] h Φ)) ∧ (¬ xI h 103 (x2).toNat = (-1 : Int) → (0 ≤ x2 ∧ x2 < 16 ∧ (0 ≤ xI h 103 (x2).toNat ∧ xI h 103 (x2).toNat < 16 ∧ (∀ h1 : Hp, h1 = sI h 125 (xI h 103 (x2).toNat).toNat (1 : Int) → (Ev l D Y_M_lookUp d kc ks 69 [some (vr 100), some (vi x1), some (vi x2), some (vi (0 : Int))] [] h1 Φ)))))))))))) : Ev l D Y_M_lookUp d kc ks 32 [some (vr 100), some (vi x1), some (vi x2), none] [] h Φ := by
  refine a_iload_n d_M_lookUp_32 rfl ?_
  obtain ⟨vt, vf⟩ := v
  refine a_if_lt (tgt := 116) d_M_lookUp_33 (by decide) (fun c => ?_) (fun c => ?_)
  · have v := vt (c); clear vt vf
    exact a_vret d_M_lookUp_116 rfl v
  · have v := vf (Int.not_lt.mp c); clear vt vf
    refine a_aload_n d_M_lookUp_36 rfl ?_
    refine a_getAe fl_M_68 d_M_lookUp_37 (beq_iff_eq.mpr (KNM_100 hM)) (KRM_100_24 hM) ?_
    refine a_iload_n d_M_lookUp_40 rfl ?_
    obtain ⟨c2, c3, v⟩ := v
    refine a_zald d_M_lookUp_41 (KNM_125 hM) c2 (lt_len (NNM_125 hM) c3) ?_
    obtain ⟨vt, vf⟩ := v
    refine a_if_eq (tgt := 67) d_M_lookUp_42 (by decide) (fun c => ?_) (fun c => ?_)
    · have v := vt (c); clear vt vf
      refine a_iconst d_M_lookUp_67 ⟨by decide, by decide⟩ ?_
      refine a_istore_n (L' := [some (vr 100), some (vi x1), some (vi x2), some (vi (0 : Int))]) d_M_lookUp_68 (Nat.le_of_ble_eq_true rfl) rfl rfl ?_
      exact v
    · have v := vf (c); clear vt vf
      refine a_aload_n d_M_lookUp_45 rfl ?_
      refine a_getAe fl_M_13 d_M_lookUp_46 (beq_iff_eq.mpr (KNM_100 hM)) (KRM_100_2 hM) ?_
      refine a_iload_n d_M_lookUp_49 rfl ?_
      obtain ⟨c5, c6, v⟩ := v
      refine a_iald d_M_lookUp_50 (Or.inl (KNM_103 hM)) c5 (lt_len (NNM_103 hM) c6) ?_
      refine a_iconst d_M_lookUp_51 ⟨by decide, by decide⟩ ?_
      obtain ⟨vt, vf⟩ := v
      refine a_icmp_eq (tgt := 67) d_M_lookUp_52 (by decide) (fun c => ?_) (fun c => ?_)
      · have v := vt (c); clear vt vf
        refine a_iconst d_M_lookUp_67 ⟨by decide, by decide⟩ ?_
        refine a_istore_n (L' := [some (vr 100), some (vi x1), some (vi x2), some (vi (0 : Int))]) d_M_lookUp_68 (Nat.le_of_ble_eq_true rfl) rfl rfl ?_
        exact v
      · have v := vf (c); clear vt vf
        refine a_aload_n d_M_lookUp_55 rfl ?_
        refine a_getAe fl_M_68 d_M_lookUp_56 (beq_iff_eq.mpr (KNM_100 hM)) (KRM_100_24 hM) ?_
        refine a_aload_n d_M_lookUp_59 rfl ?_
        refine a_getAe fl_M_13 d_M_lookUp_60 (beq_iff_eq.mpr (KNM_100 hM)) (KRM_100_2 hM) ?_
        refine a_iload_n d_M_lookUp_63 rfl ?_
        obtain ⟨c8, c9, v⟩ := v
        refine a_iald d_M_lookUp_64 (Or.inl (KNM_103 hM)) c8 (lt_len (NNM_103 hM) c9) ?_
        refine a_iconst d_M_lookUp_65 ⟨by decide, by decide⟩ ?_
        obtain ⟨c12, c13, v⟩ := v
        have v := v _ rfl
        refine a_zast d_M_lookUp_66 (KNM_125 hM) (by decide) c12 (lt_len (NNM_125 hM) c13) (Or.inr rfl) ?_
        refine a_iconst d_M_lookUp_67 ⟨by decide, by decide⟩ ?_
        refine a_istore_n (L' := [some (vr 100), some (vi x1), some (vi x2), some (vi (0 : Int))]) d_M_lookUp_68 (Nat.le_of_ble_eq_true rfl) rfl rfl ?_
        exact v
theorem m_M_lookUp_69 {l : Launch} {D : DD} {d kc ks : Nat} {h : Hp} {Φ : Option AV → Hp → Prop} {x1 : Int} {x2 : Int} {x3 : Int} (hM : MS h) (v : 0 ≤ x2 ∧ x2 < 16 ∧ ((x3 ≥ xI h 104 (x2).toNat → (Ev l D Y_M_lookUp d kc ks 32 [some (vr 100), some (vi x1), some (vi (wr (x2 + (-1 : Int)))), none] [] h Φ)) ∧ (x3 < xI h 104 (x2).toNat → (0 ≤ x2 ∧ x2 < 16 ∧ ((xI h 125 (x2).toNat = 0 → (Ev l D Y_M_lookUp d kc ks 32 [some (vr 100), some (vi x1), some (vi (wr (x2 + (-1 : Int)))), none] [] h Φ)) ∧ (¬ xI h 125 (x2).toNat = 0 → (0 ≤ wr ((wr ((3 : Int) * x2)) + x3) ∧ wr ((wr ((3 : Int) * x2)) + x3) < 48 ∧ (0 ≤ xI h 105 (wr ((wr ((3 : Int) * x2)) + x3)).toNat ∧ xI h 105 (wr ((wr ((3 : Int) * x2)) + x3)).toNat < 16 ∧ (∀ h1 : Hp, h1 = sI h 125 (xI h 105 (wr ((wr ((3 : Int) * x2)) + x3)).toNat).toNat (1 : Int) → (Ev l D Y_M_lookUp d kc ks 69 [some (vr 100), some (vi x1), some (vi x2), some (vi (wr (x3 + (1 : Int))))] [] h1 Φ)))))))))) : Ev l D Y_M_lookUp d kc ks 69 [some (vr 100), some (vi x1), some (vi x2), some (vi x3)] [] h Φ := by
  refine a_iload_n d_M_lookUp_69 rfl ?_
  refine a_aload_n d_M_lookUp_70 rfl ?_
  refine a_getAe fl_M_16 d_M_lookUp_71 (beq_iff_eq.mpr (KNM_100 hM)) (KRM_100_3 hM) ?_
  refine a_iload_n d_M_lookUp_74 rfl ?_
  obtain ⟨c2, c3, v⟩ := v
  refine a_iald d_M_lookUp_75 (Or.inl (KNM_104 hM)) c2 (lt_len (NNM_104 hM) c3) ?_
  obtain ⟨vt, vf⟩ := v
  refine a_icmp_ge (tgt := 110) d_M_lookUp_76 (by decide) (fun c => ?_) (fun c => ?_)
  · have v := vt (c); clear vt vf
    refine a_iinc (L' := [some (vr 100), some (vi x1), some (vi (wr (x2 + (-1 : Int)))), some (vi x3)]) d_M_lookUp_110 rfl (Nat.le_of_ble_eq_true rfl) rfl rfl ?_
    refine a_goto (tgt := 32) d_M_lookUp_113 (by decide) ?_
    exact Ev.weak v ⟨rfl, rfl, rfl, trivial⟩
  · have v := vf (Int.not_le.mp c); clear vt vf
    refine a_aload_n d_M_lookUp_79 rfl ?_
    refine a_getAe fl_M_68 d_M_lookUp_80 (beq_iff_eq.mpr (KNM_100 hM)) (KRM_100_24 hM) ?_
    refine a_iload_n d_M_lookUp_83 rfl ?_
    obtain ⟨c5, c6, v⟩ := v
    refine a_zald d_M_lookUp_84 (KNM_125 hM) c5 (lt_len (NNM_125 hM) c6) ?_
    obtain ⟨vt, vf⟩ := v
    refine a_if_eq (tgt := 110) d_M_lookUp_85 (by decide) (fun c => ?_) (fun c => ?_)
    · have v := vt (c); clear vt vf
      refine a_iinc (L' := [some (vr 100), some (vi x1), some (vi (wr (x2 + (-1 : Int)))), some (vi x3)]) d_M_lookUp_110 rfl (Nat.le_of_ble_eq_true rfl) rfl rfl ?_
      refine a_goto (tgt := 32) d_M_lookUp_113 (by decide) ?_
      exact Ev.weak v ⟨rfl, rfl, rfl, trivial⟩
    · have v := vf (c); clear vt vf
      refine a_aload_n d_M_lookUp_88 rfl ?_
      refine a_getAe fl_M_68 d_M_lookUp_89 (beq_iff_eq.mpr (KNM_100 hM)) (KRM_100_24 hM) ?_
      refine a_aload_n d_M_lookUp_92 rfl ?_
      refine a_getAe fl_M_19 d_M_lookUp_93 (beq_iff_eq.mpr (KNM_100 hM)) (KRM_100_4 hM) ?_
      refine a_iconst d_M_lookUp_96 ⟨by decide, by decide⟩ ?_
      refine a_iload_n d_M_lookUp_97 rfl ?_
      refine a_imul d_M_lookUp_98 ?_
      refine a_iload_n d_M_lookUp_99 rfl ?_
      refine a_iadd d_M_lookUp_100 ?_
      obtain ⟨c8, c9, v⟩ := v
      refine a_iald d_M_lookUp_101 (Or.inl (KNM_105 hM)) c8 (lt_len (NNM_105 hM) c9) ?_
      refine a_iconst d_M_lookUp_102 ⟨by decide, by decide⟩ ?_
      obtain ⟨c12, c13, v⟩ := v
      have v := v _ rfl
      refine a_zast d_M_lookUp_103 (KNM_125 hM) (by decide) c12 (lt_len (NNM_125 hM) c13) (Or.inr rfl) ?_
      refine a_iinc (L' := [some (vr 100), some (vi x1), some (vi x2), some (vi (wr (x3 + (1 : Int))))]) d_M_lookUp_104 rfl (Nat.le_of_ble_eq_true rfl) rfl rfl ?_
      refine a_goto (tgt := 69) d_M_lookUp_107 (by decide) ?_
      exact v
theorem d_M_isUnder_0 : decode Y_M_isUnder.2.1 0 = .ok (.aload_n 0, 1) := by decide +kernel
theorem d_M_isUnder_1 : decode Y_M_isUnder.2.1 1 = .ok (.getfield 134, 3) := by decide +kernel
theorem d_M_isUnder_4 : decode Y_M_isUnder.2.1 4 = .ok (.ifCond .ne 64, 3) := by decide +kernel
theorem d_M_isUnder_7 : decode Y_M_isUnder.2.1 7 = .ok (.aload_n 0, 1) := by decide +kernel
theorem d_M_isUnder_8 : decode Y_M_isUnder.2.1 8 = .ok (.iconst 1, 1) := by decide +kernel
theorem d_M_isUnder_9 : decode Y_M_isUnder.2.1 9 = .ok (.putfield 134, 3) := by decide +kernel
theorem d_M_isUnder_12 : decode Y_M_isUnder.2.1 12 = .ok (.iconst 0, 1) := by decide +kernel
theorem d_M_isUnder_13 : decode Y_M_isUnder.2.1 13 = .ok (.istore_n 3, 1) := by decide +kernel
theorem d_M_isUnder_14 : decode Y_M_isUnder.2.1 14 = .ok (.iload_n 3, 1) := by decide +kernel
theorem d_M_isUnder_15 : decode Y_M_isUnder.2.1 15 = .ok (.aload_n 0, 1) := by decide +kernel
theorem d_M_isUnder_16 : decode Y_M_isUnder.2.1 16 = .ok (.getfield 123, 3) := by decide +kernel
theorem d_M_isUnder_19 : decode Y_M_isUnder.2.1 19 = .ok (.if_icmp .ge 49, 3) := by decide +kernel
theorem d_M_isUnder_22 : decode Y_M_isUnder.2.1 22 = .ok (.aload_n 0, 1) := by decide +kernel
theorem d_M_isUnder_23 : decode Y_M_isUnder.2.1 23 = .ok (.iload_n 3, 1) := by decide +kernel
theorem d_M_isUnder_24 : decode Y_M_isUnder.2.1 24 = .ok (.invokevirtual 137, 3) := by decide +kernel
theorem d_M_isUnder_27 : decode Y_M_isUnder.2.1 27 = .ok (.iconst 0, 1) := by decide +kernel
theorem d_M_isUnder_28 : decode Y_M_isUnder.2.1 28 = .ok (.istore 4, 2) := by decide +kernel
theorem d_M_isUnder_30 : decode Y_M_isUnder.2.1 30 = .ok (.iload 4, 2) := by decide +kernel
theorem d_M_isUnder_32 : decode Y_M_isUnder.2.1 32 = .ok (.bipush 16, 2) := by decide +kernel
theorem d_M_isUnder_34 : decode Y_M_isUnder.2.1 34 = .ok (.if_icmp .ge 28, 3) := by decide +kernel
theorem d_M_isUnder_37 : decode Y_M_isUnder.2.1 37 = .ok (.aload_n 0, 1) := by decide +kernel
theorem d_M_isUnder_38 : decode Y_M_isUnder.2.1 38 = .ok (.getfield 71, 3) := by decide +kernel
theorem d_M_isUnder_41 : decode Y_M_isUnder.2.1 41 = .ok (.bipush 16, 2) := by decide +kernel
theorem d_M_isUnder_43 : decode Y_M_isUnder.2.1 43 = .ok (.iload_n 3, 1) := by decide +kernel
theorem d_M_isUnder_44 : decode Y_M_isUnder.2.1 44 = .ok (.imul, 1) := by decide +kernel
theorem d_M_isUnder_45 : decode Y_M_isUnder.2.1 45 = .ok (.iload 4, 2) := by decide +kernel
theorem d_M_isUnder_47 : decode Y_M_isUnder.2.1 47 = .ok (.iadd, 1) := by decide +kernel
theorem d_M_isUnder_48 : decode Y_M_isUnder.2.1 48 = .ok (.aload_n 0, 1) := by decide +kernel
theorem d_M_isUnder_49 : decode Y_M_isUnder.2.1 49 = .ok (.getfield 68, 3) := by decide +kernel
theorem d_M_isUnder_52 : decode Y_M_isUnder.2.1 52 = .ok (.iload 4, 2) := by decide +kernel
theorem d_M_isUnder_54 : decode Y_M_isUnder.2.1 54 = .ok (.baload, 1) := by decide +kernel
theorem d_M_isUnder_55 : decode Y_M_isUnder.2.1 55 = .ok (.bastore, 1) := by decide +kernel
theorem d_M_isUnder_56 : decode Y_M_isUnder.2.1 56 = .ok (.iinc 4 1, 3) := by decide +kernel
theorem d_M_isUnder_59 : decode Y_M_isUnder.2.1 59 = .ok (.goto (-29), 3) := by decide +kernel
theorem d_M_isUnder_62 : decode Y_M_isUnder.2.1 62 = .ok (.iinc 3 1, 3) := by decide +kernel
theorem d_M_isUnder_65 : decode Y_M_isUnder.2.1 65 = .ok (.goto (-51), 3) := by decide +kernel
theorem d_M_isUnder_68 : decode Y_M_isUnder.2.1 68 = .ok (.aload_n 0, 1) := by decide +kernel
theorem d_M_isUnder_69 : decode Y_M_isUnder.2.1 69 = .ok (.getfield 71, 3) := by decide +kernel
theorem d_M_isUnder_72 : decode Y_M_isUnder.2.1 72 = .ok (.bipush 16, 2) := by decide +kernel
theorem d_M_isUnder_74 : decode Y_M_isUnder.2.1 74 = .ok (.iload_n 1, 1) := by decide +kernel
theorem d_M_isUnder_75 : decode Y_M_isUnder.2.1 75 = .ok (.imul, 1) := by decide +kernel
theorem d_M_isUnder_76 : decode Y_M_isUnder.2.1 76 = .ok (.iload_n 2, 1) := by decide +kernel
theorem d_M_isUnder_77 : decode Y_M_isUnder.2.1 77 = .ok (.iadd, 1) := by decide +kernel
theorem d_M_isUnder_78 : decode Y_M_isUnder.2.1 78 = .ok (.baload, 1) := by decide +kernel
theorem d_M_isUnder_79 : decode Y_M_isUnder.2.1 79 = .ok (.ireturn, 1) := by decide +kernel
theorem m_M_isUnder_0 {l : Launch} {D : DD} {d kc ks : Nat} {h : Hp} {Φ : Option AV → Hp → Prop} {x1 : Int} {x2 : Int} (hM : MS h) (v : (¬ xI h 100 26 = 0 → (0 ≤ wr ((wr ((16 : Int) * x1)) + x2) ∧ wr ((wr ((16 : Int) * x1)) + x2) < 256 ∧ ((xI h 126 (wr ((wr ((16 : Int) * x1)) + x2)).toNat = 0 ∨ xI h 126 (wr ((wr ((16 : Int) * x1)) + x2)).toNat = 1) ∧ Φ (some (vi (xI h 126 (wr ((wr ((16 : Int) * x1)) + x2)).toNat))) h))) ∧ (xI h 100 26 = 0 → (∀ h1 : Hp, h1 = sI h 100 26 (1 : Int) → (Ev l D Y_M_isUnder (d + 1) kc ks 14 [some (vr 100), some (vi x1), some (vi x2), some (vi (0 : Int)), none] [] h1 Φ)))) : Ev l D Y_M_isUnder (d + 1) kc ks 0 [some (vr 100), some (vi x1), some (vi x2), none, none] [] h Φ := by
  refine a_aload_n d_M_isUnder_0 rfl ?_
  refine a_getZ fl_M_134 d_M_isUnder_1 (beq_iff_eq.mpr (KNM_100 hM)) ?_
  obtain ⟨vt, vf⟩ := v
  refine a_if_ne (tgt := 68) d_M_isUnder_4 (by decide) (fun c => ?_) (fun c => ?_)
  · have v := vt (c); clear vt vf
    refine a_aload_n d_M_isUnder_68 rfl ?_
    refine a_getAe fl_M_71 d_M_isUnder_69 (beq_iff_eq.mpr (KNM_100 hM)) (KRM_100_25 hM) ?_
    refine a_bipush d_M_isUnder_72 ⟨by decide, by decide⟩ (by decide) ?_
    refine a_iload_n d_M_isUnder_74 rfl ?_
    refine a_imul d_M_isUnder_75 ?_
    refine a_iload_n d_M_isUnder_76 rfl ?_
    refine a_iadd d_M_isUnder_77 ?_
    obtain ⟨c2, c3, v⟩ := v
    refine a_zald d_M_isUnder_78 (KNM_126 hM) c2 (lt_len (NNM_126 hM) c3) ?_
    exact a_zret d_M_isUnder_79 rfl v.1 v.2
  · have v := vf (Classical.not_not.mp c); clear vt vf
    refine a_aload_n d_M_isUnder_7 rfl ?_
    refine a_iconst d_M_isUnder_8 ⟨by decide, by decide⟩ ?_
    have v := v _ rfl
    refine a_putZ fl_M_134 d_M_isUnder_9 (beq_iff_eq.mpr (KNM_100 hM)) (by decide) (Or.inr rfl) ?_
    refine a_iconst d_M_isUnder_12 ⟨by decide, by decide⟩ ?_
    refine a_istore_n (L' := [some (vr 100), some (vi x1), some (vi x2), some (vi (0 : Int)), none]) d_M_isUnder_13 (Nat.le_of_ble_eq_true rfl) rfl rfl ?_
    exact v
theorem m_M_isUnder_14 {l : Launch} {D : DD} {d kc ks : Nat} {h : Hp} {Φ : Option AV → Hp → Prop} {x1 : Int} {x2 : Int} {x3 : Int} (hM : MS h) (v : (x3 ≥ xI h 100 0 → (0 ≤ wr ((wr ((16 : Int) * x1)) + x2) ∧ wr ((wr ((16 : Int) * x1)) + x2) < 256 ∧ ((xI h 126 (wr ((wr ((16 : Int) * x1)) + x2)).toNat = 0 ∨ xI h 126 (wr ((wr ((16 : Int) * x1)) + x2)).toNat = 1) ∧ Φ (some (vi (xI h 126 (wr ((wr ((16 : Int) * x1)) + x2)).toNat))) h))) ∧ (x3 < xI h 100 0 → (Ev l D Y_M_lookUp d 0 0 0 [some (vr 100), some (vi x3), none, none] [] h (kv (fun h1 => MS h1 ∧ (Ev l D Y_M_isUnder (d + 1) kc ks 30 [some (vr 100), some (vi x1), some (vi x2), some (vi x3), some (vi (0 : Int))] [] h1 Φ)))))) : Ev l D Y_M_isUnder (d + 1) kc ks 14 [some (vr 100), some (vi x1), some (vi x2), some (vi x3), none] [] h Φ := by
  refine a_iload_n d_M_isUnder_14 rfl ?_
  refine a_aload_n d_M_isUnder_15 rfl ?_
  refine a_getI fl_M_123 d_M_isUnder_16 (beq_iff_eq.mpr (KNM_100 hM)) ?_
  obtain ⟨vt, vf⟩ := v
  refine a_icmp_ge (tgt := 68) d_M_isUnder_19 (by decide) (fun c => ?_) (fun c => ?_)
  · have v := vt (c); clear vt vf
    refine a_aload_n d_M_isUnder_68 rfl ?_
    refine a_getAe fl_M_71 d_M_isUnder_69 (beq_iff_eq.mpr (KNM_100 hM)) (KRM_100_25 hM) ?_
    refine a_bipush d_M_isUnder_72 ⟨by decide, by decide⟩ (by decide) ?_
    refine a_iload_n d_M_isUnder_74 rfl ?_
    refine a_imul d_M_isUnder_75 ?_
    refine a_iload_n d_M_isUnder_76 rfl ?_
    refine a_iadd d_M_isUnder_77 ?_
    obtain ⟨c2, c3, v⟩ := v
    refine a_zald d_M_isUnder_78 (KNM_126 hM) c2 (lt_len (NNM_126 hM) c3) ?_
    exact a_zret d_M_isUnder_79 rfl v.1 v.2
  · have v := vf (Int.not_le.mp c); clear vt vf
    refine a_aload_n d_M_isUnder_22 rfl ?_
    refine a_iload_n d_M_isUnder_23 rfl ?_
    refine b_callV (as := [vi x3]) (b := 100) (st := []) (kd := 12) (kc1 := 0) (ks1 := 0) (kc2 := kc) (ks2 := ks) (d' := d) ml_M_137 rfl d_M_isUnder_24 rfl rfl (Nat.le_of_ble_eq_true rfl) (by decide) rfl (Nat.le_refl _) (by omega) (by omega) (KNM_100 hM) ?_
    refine Ev.mono v ?_
    intro u h1 v
    obtain ⟨rfl, v⟩ := kv_el v
    obtain ⟨hm1, v⟩ := v
    change Ev l D Y_M_isUnder _ _ _ 27 [some (vr 100), some (vi x1), some (vi x2), some (vi x3), none] [] _ _
    refine a_iconst d_M_isUnder_27 ⟨by decide, by decide⟩ ?_
    refine a_istore (L' := [some (vr 100), some (vi x1), some (vi x2), some (vi x3), some (vi (0 : Int))]) d_M_isUnder_28 (Nat.le_of_ble_eq_true rfl) rfl rfl ?_
    exact v
theorem m_M_isUnder_30 {l : Launch} {D : DD} {d kc ks : Nat} {h : Hp} {Φ : Option AV → Hp → Prop} {x1 : Int} {x2 : Int} {x3 : Int} {x4 : Int} (hM : MS h) (v : (x4 ≥ (16 : Int) → (Ev l D Y_M_isUnder (d + 1) kc ks 14 [some (vr 100), some (vi x1), some (vi x2), some (vi (wr (x3 + (1 : Int)))), none] [] h Φ)) ∧ (x4 < (16 : Int) → (0 ≤ x4 ∧ x4 < 16 ∧ (0 ≤ wr ((wr ((16 : Int) * x3)) + x4) ∧ wr ((wr ((16 : Int) * x3)) + x4) < 256 ∧ (xI h 125 (x4).toNat = 0 ∨ xI h 125 (x4).toNat = 1) ∧ (∀ h1 : Hp, h1 = sI h 126 (wr ((wr ((16 : Int) * x3)) + x4)).toNat (xI h 125 (x4).toNat) → (Ev l D Y_M_isUnder (d + 1) kc ks 30 [some (vr 100), some (vi x1), some (vi x2), some (vi x3), some (vi (wr (x4 + (1 : Int))))] [] h1 Φ)))))) : Ev l D Y_M_isUnder (d + 1) kc ks 30 [some (vr 100), some (vi x1), some (vi x2), some (vi x3), some (vi x4)] [] h Φ := by
  refine a_iload d_M_isUnder_30 rfl ?_
  refine a_bipush d_M_isUnder_32 ⟨by decide, by decide⟩ (by decide) ?_
  obtain ⟨vt, vf⟩ := v
  refine a_icmp_ge (tgt := 62) d_M_isUnder_34 (by decide) (fun c => ?_) (fun c => ?_)
  · have v := vt (c); clear vt vf
    refine a_iinc (L' := [some (vr 100), some (vi x1), some (vi x2), some (vi (wr (x3 + (1 : Int)))), some (vi x4)]) d_M_isUnder_62 rfl (Nat.le_of_ble_eq_true rfl) rfl rfl ?_
    refine a_goto (tgt := 14) d_M_isUnder_65 (by decide) ?_
    exact Ev.weak v ⟨rfl, rfl, rfl, rfl, trivial⟩
  · have v := vf (Int.not_le.mp c); clear vt vf
    refine a_aload_n d_M_isUnder_37 rfl ?_
    refine a_getAe fl_M_71 d_M_isUnder_38 (beq_iff_eq.mpr (KNM_100 hM)) (KRM_100_25 hM) ?_
    refine a_bipush d_M_isUnder_41 ⟨by decide, by decide⟩ (by decide) ?_
    refine a_iload_n d_M_isUnder_43 rfl ?_
    refine a_imul d_M_isUnder_44 ?_
    refine a_iload d_M_isUnder_45 rfl ?_
    refine a_iadd d_M_isUnder_47 ?_
    refine a_aload_n d_M_isUnder_48 rfl ?_
    refine a_getAe fl_M_68 d_M_isUnder_49 (beq_iff_eq.mpr (KNM_100 hM)) (KRM_100_24 hM) ?_
    refine a_iload d_M_isUnder_52 rfl ?_
    obtain ⟨c2, c3, v⟩ := v
    refine a_zald d_M_isUnder_54 (KNM_125 hM) c2 (lt_len (NNM_125 hM) c3) ?_
    obtain ⟨c6, c7, c8, v⟩ := v
    have v := v _ rfl
    refine a_zast d_M_isUnder_55 (KNM_126 hM) (by decide) c6 (lt_len (NNM_126 hM) c7) c8 ?_
    refine a_iinc (L' := [some (vr 100), some (vi x1), some (vi x2), some (vi x3), some (vi (wr (x4 + (1 : Int))))]) d_M_isUnder_56 rfl (Nat.le_of_ble_eq_true rfl) rfl rfl ?_
    refine a_goto (tgt := 30) d_M_isUnder_59 (by decide) ?_
    exact v
theorem d_M_type_0 : decode Y_M_type.2.1 0 = .ok (.iload_n 2, 1) := by decide +kernel
theorem d_M_type_1 : decode Y_M_type.2.1 1 = .ok (.iconst (-1), 1) := by decide +kernel
theorem d_M_type_2 : decode Y_M_type.2.1 2 = .ok (.if_icmp .eq 14, 3) := by decide +kernel
theorem d_M_type_5 : decode Y_M_type.2.1 5 = .ok (.aload_n 0, 1) := by decide +kernel
theorem d_M_type_6 : decode Y_M_type.2.1 6 = .ok (.iload_n 2, 1) := by decide +kernel
theorem d_M_type_7 : decode Y_M_type.2.1 7 = .ok (.invokevirtual 141, 3) := by decide +kernel
theorem d_M_type_10 : decode Y_M_type.2.1 10 = .ok (.ifCond .ne 6, 3) := by decide +kernel
theorem d_M_type_13 : decode Y_M_type.2.1 13 = .ok (.bipush (-101), 2) := by decide +kernel
theorem d_M_type_15 : decode Y_M_type.2.1 15 = .ok (.ireturn, 1) := by decide +kernel
theorem d_M_type_16 : decode Y_M_type.2.1 16 = .ok (.iload_n 1, 1) := by decide +kernel
theorem d_M_type_17 : decode Y_M_type.2.1 17 = .ok (.iconst 0, 1) := by decide +kernel
theorem d_M_type_18 : decode Y_M_type.2.1 18 = .ok (.iconst 2, 1) := by decide +kernel
theorem d_M_type_19 : decode Y_M_type.2.1 19 = .ok (.invokestatic 127, 3) := by decide +kernel
theorem d_M_type_22 : decode Y_M_type.2.1 22 = .ok (.ifCond .eq 23, 3) := by decide +kernel
theorem d_M_type_25 : decode Y_M_type.2.1 25 = .ok (.iload_n 2, 1) := by decide +kernel
theorem d_M_type_26 : decode Y_M_type.2.1 26 = .ok (.iconst (-1), 1) := by decide +kernel
theorem d_M_type_27 : decode Y_M_type.2.1 27 = .ok (.if_icmp .eq 21, 3) := by decide +kernel
theorem d_M_type_30 : decode Y_M_type.2.1 30 = .ok (.iload_n 1, 1) := by decide +kernel
theorem d_M_type_31 : decode Y_M_type.2.1 31 = .ok (.iconst 2, 1) := by decide +kernel
theorem d_M_type_32 : decode Y_M_type.2.1 32 = .ok (.if_icmp .eq 13, 3) := by decide +kernel
theorem d_M_type_35 : decode Y_M_type.2.1 35 = .ok (.aload_n 0, 1) := by decide +kernel
theorem d_M_type_36 : decode Y_M_type.2.1 36 = .ok (.getfield 7, 3) := by decide +kernel
theorem d_M_type_39 : decode Y_M_type.2.1 39 = .ok (.iload_n 2, 1) := by decide +kernel
theorem d_M_type_40 : decode Y_M_type.2.1 40 = .ok (.iaload, 1) := by decide +kernel
theorem d_M_type_41 : decode Y_M_type.2.1 41 = .ok (.iconst 2, 1) := by decide +kernel
theorem d_M_type_42 : decode Y_M_type.2.1 42 = .ok (.if_icmp .ne 6, 3) := by decide +kernel
theorem d_M_type_45 : decode Y_M_type.2.1 45 = .ok (.bipush (-102), 2) := by decide +kernel
theorem d_M_type_47 : decode Y_M_type.2.1 47 = .ok (.ireturn, 1) := by decide +kernel
theorem d_M_type_48 : decode Y_M_type.2.1 48 = .ok (.aload_n 0, 1) := by decide +kernel
theorem d_M_type_49 : decode Y_M_type.2.1 49 = .ok (.getfield 123, 3) := by decide +kernel
theorem d_M_type_52 : decode Y_M_type.2.1 52 = .ok (.bipush 16, 2) := by decide +kernel
theorem d_M_type_54 : decode Y_M_type.2.1 54 = .ok (.if_icmp .ne 6, 3) := by decide +kernel
theorem d_M_type_57 : decode Y_M_type.2.1 57 = .ok (.bipush (-104), 2) := by decide +kernel
theorem d_M_type_59 : decode Y_M_type.2.1 59 = .ok (.ireturn, 1) := by decide +kernel
theorem d_M_type_60 : decode Y_M_type.2.1 60 = .ok (.aload_n 0, 1) := by decide +kernel
theorem d_M_type_61 : decode Y_M_type.2.1 61 = .ok (.getfield 7, 3) := by decide +kernel
theorem d_M_type_64 : decode Y_M_type.2.1 64 = .ok (.aload_n 0, 1) := by decide +kernel
theorem d_M_type_65 : decode Y_M_type.2.1 65 = .ok (.getfield 123, 3) := by decide +kernel
theorem d_M_type_68 : decode Y_M_type.2.1 68 = .ok (.iload_n 1, 1) := by decide +kernel
theorem d_M_type_69 : decode Y_M_type.2.1 69 = .ok (.iastore, 1) := by decide +kernel
theorem d_M_type_70 : decode Y_M_type.2.1 70 = .ok (.aload_n 0, 1) := by decide +kernel
theorem d_M_type_71 : decode Y_M_type.2.1 71 = .ok (.getfield 13, 3) := by decide +kernel
theorem d_M_type_74 : decode Y_M_type.2.1 74 = .ok (.aload_n 0, 1) := by decide +kernel
theorem d_M_type_75 : decode Y_M_type.2.1 75 = .ok (.getfield 123, 3) := by decide +kernel
theorem d_M_type_78 : decode Y_M_type.2.1 78 = .ok (.iload_n 2, 1) := by decide +kernel
theorem d_M_type_79 : decode Y_M_type.2.1 79 = .ok (.iastore, 1) := by decide +kernel
theorem d_M_type_80 : decode Y_M_type.2.1 80 = .ok (.aload_n 0, 1) := by decide +kernel
theorem d_M_type_81 : decode Y_M_type.2.1 81 = .ok (.getfield 16, 3) := by decide +kernel
theorem d_M_type_84 : decode Y_M_type.2.1 84 = .ok (.aload_n 0, 1) := by decide +kernel
theorem d_M_type_85 : decode Y_M_type.2.1 85 = .ok (.getfield 123, 3) := by decide +kernel
theorem d_M_type_88 : decode Y_M_type.2.1 88 = .ok (.iconst 0, 1) := by decide +kernel
theorem d_M_type_89 : decode Y_M_type.2.1 89 = .ok (.iastore, 1) := by decide +kernel
theorem d_M_type_90 : decode Y_M_type.2.1 90 = .ok (.aload_n 0, 1) := by decide +kernel
theorem d_M_type_91 : decode Y_M_type.2.1 91 = .ok (.dup, 1) := by decide +kernel
theorem d_M_type_92 : decode Y_M_type.2.1 92 = .ok (.getfield 123, 3) := by decide +kernel
theorem d_M_type_95 : decode Y_M_type.2.1 95 = .ok (.iconst 1, 1) := by decide +kernel
theorem d_M_type_96 : decode Y_M_type.2.1 96 = .ok (.iadd, 1) := by decide +kernel
theorem d_M_type_97 : decode Y_M_type.2.1 97 = .ok (.putfield 123, 3) := by decide +kernel
theorem d_M_type_100 : decode Y_M_type.2.1 100 = .ok (.aload_n 0, 1) := by decide +kernel
theorem d_M_type_101 : decode Y_M_type.2.1 101 = .ok (.iconst 0, 1) := by decide +kernel
theorem d_M_type_102 : decode Y_M_type.2.1 102 = .ok (.putfield 119, 3) := by decide +kernel
theorem d_M_type_105 : decode Y_M_type.2.1 105 = .ok (.aload_n 0, 1) := by decide +kernel
theorem d_M_type_106 : decode Y_M_type.2.1 106 = .ok (.iconst 0, 1) := by decide +kernel
theorem d_M_type_107 : decode Y_M_type.2.1 107 = .ok (.putfield 134, 3) := by decide +kernel
theorem d_M_type_110 : decode Y_M_type.2.1 110 = .ok (.aload_n 0, 1) := by decide +kernel
theorem d_M_type_111 : decode Y_M_type.2.1 111 = .ok (.getfield 123, 3) := by decide +kernel
theorem d_M_type_114 : decode Y_M_type.2.1 114 = .ok (.iconst 1, 1) := by decide +kernel
theorem d_M_type_115 : decode Y_M_type.2.1 115 = .ok (.isub, 1) := by decide +kernel
theorem d_M_type_116 : decode Y_M_type.2.1 116 = .ok (.ireturn, 1) := by decide +kernel
theorem m_M_type_0 {l : Launch} {D : DD} {d kc ks : Nat} {h : Hp} {Φ : Option AV → Hp → Prop} {x1 : Int} {x2 : Int} (hM : MS h) (v : (x2 = (-1 : Int) → (Ev l D Y_M_in d 0 0 0 [some (vi x1), some (vi (0 : Int)), some (vi (2 : Int))] [] h (ki (fun r1 h1 => MS h1 ∧ ((r1 = 0 → (Φ (some (vi (-102 : Int))) h1)) ∧ (¬ r1 = 0 → ((x2 = (-1 : Int) → (Ev l D Y_M_type (d + 1) kc ks 48 [some (vr 100), some (vi x1), some (vi x2)] [] h1 Φ)) ∧ (¬ x2 = (-1 : Int) → ((x1 = (2 : Int) → (Φ (some (vi (-102 : Int))) h1)) ∧ (¬ x1 = (2 : Int) → (0 ≤ x2 ∧ x2 < 16 ∧ ((¬ xI h1 102 (x2).toNat = (2 : Int) → (Ev l D Y_M_type (d + 1) kc ks 48 [some (vr 100), some (vi x1), some (vi x2)] [] h1 Φ)) ∧ (xI h1 102 (x2).toNat = (2 : Int) → (Φ (some (vi (-102 : Int))) h1)))))))))))))) ∧ (¬ x2 = (-1 : Int) → (Ev l D Y_M_isType d 0 0 0 [some (vr 100), some (vi x2)] [] h (ki (fun r2 h2 => MS h2 ∧ ((¬ r2 = 0 → (Ev l D Y_M_in d 0 0 0 [some (vi x1), some (vi (0 : Int)), some (vi (2 : Int))] [] h2 (ki (fun r3 h3 => MS h3 ∧ ((r3 = 0 → (Φ (some (vi (-102 : Int))) h3)) ∧ (¬ r3 = 0 → ((x2 = (-1 : Int) → (Ev l D Y_M_type (d + 1) kc ks 48 [some (vr 100), some (vi x1), some (vi x2)] [] h3 Φ)) ∧ (¬ x2 = (-1 : Int) → ((x1 = (2 : Int) → (Φ (some (vi (-102 : Int))) h3)) ∧ (¬ x1 = (2 : Int) → (0 ≤ x2 ∧ x2 < 16 ∧ ((¬ xI h3 102 (x2).toNat = (2 : Int) → (Ev l D Y_M_type (d + 1) kc ks 48 [some (vr 100), some (vi x1), some (vi x2)] [] h3 Φ)) ∧ (xI h3 102 (x2).toNat = (2 : Int) → (Φ (some (vi (-102 : Int))) h3)))))))))))))) ∧ (r2 = 0 → (Φ (some (vi (-101 : Int))) h2)))))))) : Ev l D Y_M_type (d + 1) kc ks 0 [some (vr 100), some (vi x1), some (vi x2)] [] h Φ := by
  refine a_iload_n d_M_type_0 rfl ?_
  refine a_iconst d_M_type_1 ⟨by decide, by decide⟩ ?_
  obtain ⟨vt, vf⟩ := v
  refine a_icmp_eq (tgt := 16) d_M_type_2 (by decide) (fun c => ?_) (fun c => ?_)
  · have v := vt (c); clear vt vf
    refine a_iload_n d_M_type_16 rfl ?_
    refine a_iconst d_M_type_17 ⟨by decide, by decide⟩ ?_
    refine a_iconst d_M_type_18 ⟨by decide, by decide⟩ ?_
    refine b_callS (as := [vi x1, vi (0 : Int), vi (2 : Int)]) (st := []) (kc1 := 0) (ks1 := 0) (kc2 := kc) (ks2 := ks) (d' := d) ml_M_127 rfl d_M_type_19 rfl rfl (Nat.le_of_ble_eq_true rfl) rfl (Nat.le_refl _) (by omega) (by omega) ?_
    refine Ev.mono v ?_
    intro u h1 v
    obtain ⟨r1, rfl, v⟩ := ki_el v
    obtain ⟨hm1, v⟩ := v
    change Ev l D Y_M_type _ _ _ 22 [some (vr 100), some (vi x1), some (vi x2)] [vi r1] _ _
    obtain ⟨vt, vf⟩ := v
    refine a_if_eq (tgt := 45) d_M_type_22 (by decide) (fun c => ?_) (fun c => ?_)
    · have v := vt (c); clear vt vf
      refine a_bipush d_M_type_45 ⟨by decide, by decide⟩ (by decide) ?_
      exact a_iret d_M_type_47 rfl v
    · have v := vf (c); clear vt vf
      refine a_iload_n d_M_type_25 rfl ?_
      refine a_iconst d_M_type_26 ⟨by decide, by decide⟩ ?_
      obtain ⟨vt, vf⟩ := v
      refine a_icmp_eq (tgt := 48) d_M_type_27 (by decide) (fun c => ?_) (fun c => ?_)
      · have v := vt (c); clear vt vf
        exact v
      · have v := vf (c); clear vt vf
        refine a_iload_n d_M_type_30 rfl ?_
        refine a_iconst d_M_type_31 ⟨by decide, by decide⟩ ?_
        obtain ⟨vt, vf⟩ := v
        refine a_icmp_eq (tgt := 45) d_M_type_32 (by decide) (fun c => ?_) (fun c => ?_)
        · have v := vt (c); clear vt vf
          refine a_bipush d_M_type_45 ⟨by decide, by decide⟩ (by decide) ?_
          exact a_iret d_M_type_47 rfl v
        · have v := vf (c); clear vt vf
          refine a_aload_n d_M_type_35 rfl ?_
          refine a_getAe fl_M_7 d_M_type_36 (beq_iff_eq.mpr (KNM_100 hm1)) (KRM_100_1 hm1) ?_
          refine a_iload_n d_M_type_39 rfl ?_
          obtain ⟨c2, c3, v⟩ := v
          refine a_iald d_M_type_40 (Or.inl (KNM_102 hm1)) c2 (lt_len (NNM_102 hm1) c3) ?_
          refine a_iconst d_M_type_41 ⟨by decide, by decide⟩ ?_
          obtain ⟨vt, vf⟩ := v
          refine a_icmp_ne (tgt := 48) d_M_type_42 (by decide) (fun c => ?_) (fun c => ?_)
          · have v := vt (c); clear vt vf
            exact v
          · have v := vf (Classical.not_not.mp c); clear vt vf
            refine a_bipush d_M_type_45 ⟨by decide, by decide⟩ (by decide) ?_
            exact a_iret d_M_type_47 rfl v
  · have v := vf (c); clear vt vf
    refine a_aload_n d_M_type_5 rfl ?_
    refine a_iload_n d_M_type_6 rfl ?_
    refine b_callV (as := [vi x2]) (b := 100) (st := []) (kd := 12) (kc1 := 0) (ks1 := 0) (kc2 := kc) (ks2 := ks) (d' := d) ml_M_141 rfl d_M_type_7 rfl rfl (Nat.le_of_ble_eq_true rfl) (by decide) rfl (Nat.le_refl _) (by omega) (by omega) (KNM_100 hM) ?_
    refine Ev.mono v ?_
    intro u h2 v
    obtain ⟨r2, rfl, v⟩ := ki_el v
    obtain ⟨hm2, v⟩ := v
    change Ev l D Y_M_type _ _ _ 10 [some (vr 100), some (vi x1), some (vi x2)] [vi r2] _ _
    obtain ⟨vt, vf⟩ := v
    refine a_if_ne (tgt := 16) d_M_type_10 (by decide) (fun c => ?_) (fun c => ?_)
    · have v := vt (c); clear vt vf
      refine a_iload_n d_M_type_16 rfl ?_
      refine a_iconst d_M_type_17 ⟨by decide, by decide⟩ ?_
      refine a_iconst d_M_type_18 ⟨by decide, by decide⟩ ?_
      refine b_callS (as := [vi x1, vi (0 : Int), vi (2 : Int)]) (st := []) (kc1 := 0) (ks1 := 0) (kc2 := kc) (ks2 := ks) (d' := d) ml_M_127 rfl d_M_type_19 rfl rfl (Nat.le_of_ble_eq_true rfl) rfl (Nat.le_refl _) (by omega) (by omega) ?_
      refine Ev.mono v ?_
      intro u h3 v
      obtain ⟨r3, rfl, v⟩ := ki_el v
      obtain ⟨hm3, v⟩ := v
      change Ev l D Y_M_type _ _ _ 22 [some (vr 100), some (vi x1), some (vi x2)] [vi r3] _ _
      obtain ⟨vt, vf⟩ := v
      refine a_if_eq (tgt := 45) d_M_type_22 (by decide) (fun c => ?_) (fun c => ?_)
      · have v := vt (c); clear vt vf
        refine a_bipush d_M_type_45 ⟨by decide, by decide⟩ (by decide) ?_
        exact a_iret d_M_type_47 rfl v
      · have v := vf (c); clear vt vf
        refine a_iload_n d_M_type_25 rfl ?_
        refine a_iconst d_M_type_26 ⟨by decide, by decide⟩ ?_
        obtain ⟨vt, vf⟩ := v
        refine a_icmp_eq (tgt := 48) d_M_type_27 (by decide) (fun c => ?_) (fun c => ?_)
        · have v := vt (c); clear vt vf
          exact v
        · have v := vf (c); clear vt vf
          refine a_iload_n d_M_type_30 rfl ?_
          refine a_iconst d_M_type_31 ⟨by decide, by decide⟩ ?_
          obtain ⟨vt, vf⟩ := v
          refine a_icmp_eq (tgt := 45) d_M_type_32 (by decide) (fun c => ?_) (fun c => ?_)
          · have v := vt (c); clear vt vf
            refine a_bipush d_M_type_45 ⟨by decide, by decide⟩ (by decide) ?_
            exact a_iret d_M_type_47 rfl v
          · have v := vf (c); clear vt vf
            refine a_aload_n d_M_type_35 rfl ?_
            refine a_getAe fl_M_7 d_M_type_36 (beq_iff_eq.mpr (KNM_100 hm3)) (KRM_100_1 hm3) ?_
            refine a_iload_n d_M_type_39 rfl ?_
            obtain ⟨c5, c6, v⟩ := v
            refine a_iald d_M_type_40 (Or.inl (KNM_102 hm3)) c5 (lt_len (NNM_102 hm3) c6) ?_
            refine a_iconst d_M_type_41 ⟨by decide, by decide⟩ ?_
            obtain ⟨vt, vf⟩ := v
            refine a_icmp_ne (tgt := 48) d_M_type_42 (by decide) (fun c => ?_) (fun c => ?_)
            · have v := vt (c); clear vt vf
              exact v
            · have v := vf (Classical.not_not.mp c); clear vt vf
              refine a_bipush d_M_type_45 ⟨by decide, by decide⟩ (by decide) ?_
              exact a_iret d_M_type_47 rfl v
    · have v := vf (Classical.not_not.mp c); clear vt vf
      refine a_bipush d_M_type_13 ⟨by decide, by decide⟩ (by decide) ?_
      exact a_iret d_M_type_15 rfl v
theorem m_M_type_48 {l : Launch} {D : DD} {d kc ks : Nat} {h : Hp} {Φ : Option AV → Hp → Prop} {x1 : Int} {x2 : Int} (hM : MS h) (v : (¬ xI h 100 0 = (16 : Int) → (0 ≤ xI h 100 0 ∧ xI h 100 0 < 16 ∧ (∀ h1 : Hp, h1 = sI h 102 (xI h 100 0).toNat x1 → (0 ≤ xI h1 100 0 ∧ xI h1 100 0 < 16 ∧ (∀ h2 : Hp, h2 = sI h1 103 (xI h1 100 0).toNat x2 → (0 ≤ xI h2 100 0 ∧ xI h2 100 0 < 16 ∧ (∀ h3 : Hp, h3 = sI h2 104 (xI h2 100 0).toNat (0 : Int) → (∀ h4 : Hp, h4 = sI h3 100 0 (wr ((xI h3 100 0) + (1 : Int))) → (∀ h5 : Hp, h5 = sI h4 100 16 (0 : Int) → (∀ h6 : Hp, h6 = sI h5 100 26 (0 : Int) → (Φ (some (vi (wr ((xI h6 100 0) - (1 : Int))))) h6))))))))))) ∧ (xI h 100 0 = (16 : Int) → (Φ (some (vi (-104 : Int))) h))) : Ev l D Y_M_type (d + 1) kc ks 48 [some (vr 100), some (vi x1), some (vi x2)] [] h Φ := by
  refine a_aload_n d_M_type_48 rfl ?_
  refine a_getI fl_M_123 d_M_type_49 (beq_iff_eq.mpr (KNM_100 hM)) ?_
  refine a_bipush d_M_type_52 ⟨by decide, by decide⟩ (by decide) ?_
  obtain ⟨vt, vf⟩ := v
  refine a_icmp_ne (tgt := 60) d_M_type_54 (by decide) (fun c => ?_) (fun c => ?_)
  · have v := vt (c); clear vt vf
    refine a_aload_n d_M_type_60 rfl ?_
    refine a_getAe fl_M_7 d_M_type_61 (beq_iff_eq.mpr (KNM_100 hM)) (KRM_100_1 hM) ?_
    refine a_aload_n d_M_type_64 rfl ?_
    refine a_getI fl_M_123 d_M_type_65 (beq_iff_eq.mpr (KNM_100 hM)) ?_
    refine a_iload_n d_M_type_68 rfl ?_
    obtain ⟨c3, c4, v⟩ := v
    have v := v _ rfl
    refine a_iast d_M_type_69 (KNM_102 hM) (by decide) c3 (lt_len (NNM_102 hM) c4) ?_
    refine a_aload_n d_M_type_70 rfl ?_
    refine a_getAe fl_M_13 d_M_type_71 (beq_iff_eq.mpr (KNM_100 hM)) (KRM_100_2 hM) ?_
    refine a_aload_n d_M_type_74 rfl ?_
    refine a_getI fl_M_123 d_M_type_75 (beq_iff_eq.mpr (KNM_100 hM)) ?_
    refine a_iload_n d_M_type_78 rfl ?_
    obtain ⟨c7, c8, v⟩ := v
    have v := v _ rfl
    refine a_iast d_M_type_79 (KNM_103 hM) (by decide) c7 (lt_len (NNM_103 hM) c8) ?_
    refine a_aload_n d_M_type_80 rfl ?_
    refine a_getAe fl_M_16 d_M_type_81 (beq_iff_eq.mpr (KNM_100 hM)) (KRM_100_3 hM) ?_
    refine a_aload_n d_M_type_84 rfl ?_
    refine a_getI fl_M_123 d_M_type_85 (beq_iff_eq.mpr (KNM_100 hM)) ?_
    refine a_iconst d_M_type_88 ⟨by decide, by decide⟩ ?_
    obtain ⟨c11, c12, v⟩ := v
    have v := v _ rfl
    refine a_iast d_M_type_89 (KNM_104 hM) (by decide) c11 (lt_len (NNM_104 hM) c12) ?_
    refine a_aload_n d_M_type_90 rfl ?_
    refine a_dup d_M_type_91 rfl ?_
    refine a_getI fl_M_123 d_M_type_92 (beq_iff_eq.mpr (KNM_100 hM)) ?_
    refine a_iconst d_M_type_95 ⟨by decide, by decide⟩ ?_
    refine a_iadd d_M_type_96 ?_
    have v := v _ rfl
    refine a_putI fl_M_123 d_M_type_97 (beq_iff_eq.mpr (KNM_100 hM)) (by decide) ?_
    refine a_aload_n d_M_type_100 rfl ?_
    refine a_iconst d_M_type_101 ⟨by decide, by decide⟩ ?_
    have v := v _ rfl
    refine a_putZ fl_M_119 d_M_type_102 (beq_iff_eq.mpr (KNM_100 hM)) (by decide) (Or.inl rfl) ?_
    refine a_aload_n d_M_type_105 rfl ?_
    refine a_iconst d_M_type_106 ⟨by decide, by decide⟩ ?_
    have v := v _ rfl
    refine a_putZ fl_M_134 d_M_type_107 (beq_iff_eq.mpr (KNM_100 hM)) (by decide) (Or.inl rfl) ?_
    refine a_aload_n d_M_type_110 rfl ?_
    refine a_getI fl_M_123 d_M_type_111 (beq_iff_eq.mpr (KNM_100 hM)) ?_
    refine a_iconst d_M_type_114 ⟨by decide, by decide⟩ ?_
    refine a_isub d_M_type_115 ?_
    exact a_iret d_M_type_116 rfl v
  · have v := vf (Classical.not_not.mp c); clear vt vf
    refine a_bipush d_M_type_57 ⟨by decide, by decide⟩ (by decide) ?_
    exact a_iret d_M_type_59 rfl v
theorem d_M_face_0 : decode Y_M_face.2.1 0 = .ok (.aload_n 0, 1) := by decide +kernel
theorem d_M_face_1 : decode Y_M_face.2.1 1 = .ok (.iload_n 1, 1) := by decide +kernel
theorem d_M_face_2 : decode Y_M_face.2.1 2 = .ok (.invokevirtual 141, 3) := by decide +kernel
theorem d_M_face_5 : decode Y_M_face.2.1 5 = .ok (.ifCond .eq 11, 3) := by decide +kernel
theorem d_M_face_8 : decode Y_M_face.2.1 8 = .ok (.aload_n 0, 1) := by decide +kernel
theorem d_M_face_9 : decode Y_M_face.2.1 9 = .ok (.iload_n 2, 1) := by decide +kernel
theorem d_M_face_10 : decode Y_M_face.2.1 10 = .ok (.invokevirtual 141, 3) := by decide +kernel
theorem d_M_face_13 : decode Y_M_face.2.1 13 = .ok (.ifCond .ne 6, 3) := by decide +kernel
theorem d_M_face_16 : decode Y_M_face.2.1 16 = .ok (.bipush (-101), 2) := by decide +kernel
theorem d_M_face_18 : decode Y_M_face.2.1 18 = .ok (.ireturn, 1) := by decide +kernel
theorem d_M_face_19 : decode Y_M_face.2.1 19 = .ok (.aload_n 0, 1) := by decide +kernel
theorem d_M_face_20 : decode Y_M_face.2.1 20 = .ok (.getfield 7, 3) := by decide +kernel
theorem d_M_face_23 : decode Y_M_face.2.1 23 = .ok (.iload_n 2, 1) := by decide +kernel
theorem d_M_face_24 : decode Y_M_face.2.1 24 = .ok (.iaload, 1) := by decide +kernel
theorem d_M_face_25 : decode Y_M_face.2.1 25 = .ok (.iconst 2, 1) := by decide +kernel
theorem d_M_face_26 : decode Y_M_face.2.1 26 = .ok (.if_icmp .ne 8, 3) := by decide +kernel
theorem d_M_face_29 : decode Y_M_face.2.1 29 = .ok (.iload_n 2, 1) := by decide +kernel
theorem d_M_face_30 : decode Y_M_face.2.1 30 = .ok (.iload_n 1, 1) := by decide +kernel
theorem d_M_face_31 : decode Y_M_face.2.1 31 = .ok (.if_icmp .lt 6, 3) := by decide +kernel
theorem d_M_face_34 : decode Y_M_face.2.1 34 = .ok (.bipush (-102), 2) := by decide +kernel
theorem d_M_face_36 : decode Y_M_face.2.1 36 = .ok (.ireturn, 1) := by decide +kernel
theorem d_M_face_37 : decode Y_M_face.2.1 37 = .ok (.iconst 0, 1) := by decide +kernel
theorem d_M_face_38 : decode Y_M_face.2.1 38 = .ok (.istore_n 3, 1) := by decide +kernel
theorem d_M_face_39 : decode Y_M_face.2.1 39 = .ok (.iload_n 3, 1) := by decide +kernel
theorem d_M_face_40 : decode Y_M_face.2.1 40 = .ok (.aload_n 0, 1) := by decide +kernel
theorem d_M_face_41 : decode Y_M_face.2.1 41 = .ok (.getfield 16, 3) := by decide +kernel
theorem d_M_face_44 : decode Y_M_face.2.1 44 = .ok (.iload_n 1, 1) := by decide +kernel
theorem d_M_face_45 : decode Y_M_face.2.1 45 = .ok (.iaload, 1) := by decide +kernel
theorem d_M_face_46 : decode Y_M_face.2.1 46 = .ok (.if_icmp .ge 26, 3) := by decide +kernel
theorem d_M_face_49 : decode Y_M_face.2.1 49 = .ok (.aload_n 0, 1) := by decide +kernel
theorem d_M_face_50 : decode Y_M_face.2.1 50 = .ok (.getfield 19, 3) := by decide +kernel
theorem d_M_face_53 : decode Y_M_face.2.1 53 = .ok (.iconst 3, 1) := by decide +kernel
theorem d_M_face_54 : decode Y_M_face.2.1 54 = .ok (.iload_n 1, 1) := by decide +kernel
theorem d_M_face_55 : decode Y_M_face.2.1 55 = .ok (.imul, 1) := by decide +kernel
theorem d_M_face_56 : decode Y_M_face.2.1 56 = .ok (.iload_n 3, 1) := by decide +kernel
theorem d_M_face_57 : decode Y_M_face.2.1 57 = .ok (.iadd, 1) := by decide +kernel
theorem d_M_face_58 : decode Y_M_face.2.1 58 = .ok (.iaload, 1) := by decide +kernel
theorem d_M_face_59 : decode Y_M_face.2.1 59 = .ok (.iload_n 2, 1) := by decide +kernel
theorem d_M_face_60 : decode Y_M_face.2.1 60 = .ok (.if_icmp .ne 6, 3) := by decide +kernel
theorem d_M_face_63 : decode Y_M_face.2.1 63 = .ok (.bipush (-103), 2) := by decide +kernel
theorem d_M_face_65 : decode Y_M_face.2.1 65 = .ok (.ireturn, 1) := by decide +kernel
theorem d_M_face_66 : decode Y_M_face.2.1 66 = .ok (.iinc 3 1, 3) := by decide +kernel
theorem d_M_face_69 : decode Y_M_face.2.1 69 = .ok (.goto (-30), 3) := by decide +kernel
theorem d_M_face_72 : decode Y_M_face.2.1 72 = .ok (.aload_n 0, 1) := by decide +kernel
theorem d_M_face_73 : decode Y_M_face.2.1 73 = .ok (.getfield 16, 3) := by decide +kernel
theorem d_M_face_76 : decode Y_M_face.2.1 76 = .ok (.iload_n 1, 1) := by decide +kernel
theorem d_M_face_77 : decode Y_M_face.2.1 77 = .ok (.iaload, 1) := by decide +kernel
theorem d_M_face_78 : decode Y_M_face.2.1 78 = .ok (.iconst 3, 1) := by decide +kernel
theorem d_M_face_79 : decode Y_M_face.2.1 79 = .ok (.if_icmp .ne 6, 3) := by decide +kernel
theorem d_M_face_82 : decode Y_M_face.2.1 82 = .ok (.bipush (-104), 2) := by decide +kernel
theorem d_M_face_84 : decode Y_M_face.2.1 84 = .ok (.ireturn, 1) := by decide +kernel
theorem d_M_face_85 : decode Y_M_face.2.1 85 = .ok (.aload_n 0, 1) := by decide +kernel
theorem d_M_face_86 : decode Y_M_face.2.1 86 = .ok (.getfield 19, 3) := by decide +kernel
theorem d_M_face_89 : decode Y_M_face.2.1 89 = .ok (.iconst 3, 1) := by decide +kernel
theorem d_M_face_90 : decode Y_M_face.2.1 90 = .ok (.iload_n 1, 1) := by decide +kernel
theorem d_M_face_91 : decode Y_M_face.2.1 91 = .ok (.imul, 1) := by decide +kernel
theorem d_M_face_92 : decode Y_M_face.2.1 92 = .ok (.aload_n 0, 1) := by decide +kernel
theorem d_M_face_93 : decode Y_M_face.2.1 93 = .ok (.getfield 16, 3) := by decide +kernel
theorem d_M_face_96 : decode Y_M_face.2.1 96 = .ok (.iload_n 1, 1) := by decide +kernel
theorem d_M_face_97 : decode Y_M_face.2.1 97 = .ok (.iaload, 1) := by decide +kernel
theorem d_M_face_98 : decode Y_M_face.2.1 98 = .ok (.iadd, 1) := by decide +kernel
theorem d_M_face_99 : decode Y_M_face.2.1 99 = .ok (.iload_n 2, 1) := by decide +kernel
theorem d_M_face_100 : decode Y_M_face.2.1 100 = .ok (.iastore, 1) := by decide +kernel
theorem d_M_face_101 : decode Y_M_face.2.1 101 = .ok (.aload_n 0, 1) := by decide +kernel
theorem d_M_face_102 : decode Y_M_face.2.1 102 = .ok (.getfield 16, 3) := by decide +kernel
theorem d_M_face_105 : decode Y_M_face.2.1 105 = .ok (.iload_n 1, 1) := by decide +kernel
theorem d_M_face_106 : decode Y_M_face.2.1 106 = .ok (.dup2, 1) := by decide +kernel
theorem d_M_face_107 : decode Y_M_face.2.1 107 = .ok (.iaload, 1) := by decide +kernel
theorem d_M_face_108 : decode Y_M_face.2.1 108 = .ok (.iconst 1, 1) := by decide +kernel
theorem d_M_face_109 : decode Y_M_face.2.1 109 = .ok (.iadd, 1) := by decide +kernel
theorem d_M_face_110 : decode Y_M_face.2.1 110 = .ok (.iastore, 1) := by decide +kernel
theorem d_M_face_111 : decode Y_M_face.2.1 111 = .ok (.aload_n 0, 1) := by decide +kernel
theorem d_M_face_112 : decode Y_M_face.2.1 112 = .ok (.iconst 0, 1) := by decide +kernel
theorem d_M_face_113 : decode Y_M_face.2.1 113 = .ok (.putfield 119, 3) := by decide +kernel
theorem d_M_face_116 : decode Y_M_face.2.1 116 = .ok (.aload_n 0, 1) := by decide +kernel
theorem d_M_face_117 : decode Y_M_face.2.1 117 = .ok (.iconst 0, 1) := by decide +kernel
theorem d_M_face_118 : decode Y_M_face.2.1 118 = .ok (.putfield 134, 3) := by decide +kernel
theorem d_M_face_121 : decode Y_M_face.2.1 121 = .ok (.aload_n 0, 1) := by decide +kernel
theorem d_M_face_122 : decode Y_M_face.2.1 122 = .ok (.getfield 16, 3) := by decide +kernel
theorem d_M_face_125 : decode Y_M_face.2.1 125 = .ok (.iload_n 1, 1) := by decide +kernel
theorem d_M_face_126 : decode Y_M_face.2.1 126 = .ok (.iaload, 1) := by decide +kernel
theorem d_M_face_127 : decode Y_M_face.2.1 127 = .ok (.ireturn, 1) := by decide +kernel
theorem m_M_face_0 {l : Launch} {D : DD} {d kc ks : Nat} {h : Hp} {Φ : Option AV → Hp → Prop} {x1 : Int} {x2 : Int} (hM : MS h) (v : Ev l D Y_M_isType d 0 0 0 [some (vr 100), some (vi x1)] [] h (ki (fun r1 h1 => MS h1 ∧ ((r1 = 0 → (Φ (some (vi (-101 : Int))) h1)) ∧ (¬ r1 = 0 → (Ev l D Y_M_isType d 0 0 0 [some (vr 100), some (vi x2)] [] h1 (ki (fun r2 h2 => MS h2 ∧ ((¬ r2 = 0 → (0 ≤ x2 ∧ x2 < 16 ∧ ((¬ xI h2 102 (x2).toNat = (2 : Int) → (Φ (some (vi (-102 : Int))) h2)) ∧ (xI h2 102 (x2).toNat = (2 : Int) → ((x2 < x1 → (Ev l D Y_M_face (d + 1) kc ks 39 [some (vr 100), some (vi x1), some (vi x2), some (vi (0 : Int))] [] h2 Φ)) ∧ (x2 ≥ x1 → (Φ (some (vi (-102 : Int))) h2))))))) ∧ (r2 = 0 → (Φ (some (vi (-101 : Int))) h2))))))))))) : Ev l D Y_M_face (d + 1) kc ks 0 [some (vr 100), some (vi x1), some (vi x2), none] [] h Φ := by
  refine a_aload_n d_M_face_0 rfl ?_
  refine a_iload_n d_M_face_1 rfl ?_
  refine b_callV (as := [vi x1]) (b := 100) (st := []) (kd := 12) (kc1 := 0) (ks1 := 0) (kc2 := kc) (ks2 := ks) (d' := d) ml_M_141 rfl d_M_face_2 rfl rfl (Nat.le_of_ble_eq_true rfl) (by decide) rfl (Nat.le_refl _) (by omega) (by omega) (KNM_100 hM) ?_
  refine Ev.mono v ?_
  intro u h1 v
  obtain ⟨r1, rfl, v⟩ := ki_el v
  obtain ⟨hm1, v⟩ := v
  change Ev l D Y_M_face _ _ _ 5 [some (vr 100), some (vi x1), some (vi x2), none] [vi r1] _ _
  obtain ⟨vt, vf⟩ := v
  refine a_if_eq (tgt := 16) d_M_face_5 (by decide) (fun c => ?_) (fun c => ?_)
  · have v := vt (c); clear vt vf
    refine a_bipush d_M_face_16 ⟨by decide, by decide⟩ (by decide) ?_
    exact a_iret d_M_face_18 rfl v
  · have v := vf (c); clear vt vf
    refine a_aload_n d_M_face_8 rfl ?_
    refine a_iload_n d_M_face_9 rfl ?_
    refine b_callV (as := [vi x2]) (b := 100) (st := []) (kd := 12) (kc1 := 0) (ks1 := 0) (kc2 := kc) (ks2 := ks) (d' := d) ml_M_141 rfl d_M_face_10 rfl rfl (Nat.le_of_ble_eq_true rfl) (by decide) rfl (Nat.le_refl _) (by omega) (by omega) (KNM_100 hm1) ?_
    refine Ev.mono v ?_
    intro u h2 v
    obtain ⟨r2, rfl, v⟩ := ki_el v
    obtain ⟨hm2, v⟩ := v
    change Ev l D Y_M_face _ _ _ 13 [some (vr 100), some (vi x1), some (vi x2), none] [vi r2] _ _
    obtain ⟨vt, vf⟩ := v
    refine a_if_ne (tgt := 19) d_M_face_13 (by decide) (fun c => ?_) (fun c => ?_)
    · have v := vt (c); clear vt vf
      refine a_aload_n d_M_face_19 rfl ?_
      refine a_getAe fl_M_7 d_M_face_20 (beq_iff_eq.mpr (KNM_100 hm2)) (KRM_100_1 hm2) ?_
      refine a_iload_n d_M_face_23 rfl ?_
      obtain ⟨c2, c3, v⟩ := v
      refine a_iald d_M_face_24 (Or.inl (KNM_102 hm2)) c2 (lt_len (NNM_102 hm2) c3) ?_
      refine a_iconst d_M_face_25 ⟨by decide, by decide⟩ ?_
      obtain ⟨vt, vf⟩ := v
      refine a_icmp_ne (tgt := 34) d_M_face_26 (by decide) (fun c => ?_) (fun c => ?_)
      · have v := vt (c); clear vt vf
        refine a_bipush d_M_face_34 ⟨by decide, by decide⟩ (by decide) ?_
        exact a_iret d_M_face_36 rfl v
      · have v := vf (Classical.not_not.mp c); clear vt vf
        refine a_iload_n d_M_face_29 rfl ?_
        refine a_iload_n d_M_face_30 rfl ?_
        obtain ⟨vt, vf⟩ := v
        refine a_icmp_lt (tgt := 37) d_M_face_31 (by decide) (fun c => ?_) (fun c => ?_)
        · have v := vt (c); clear vt vf
          refine a_iconst d_M_face_37 ⟨by decide, by decide⟩ ?_
          refine a_istore_n (L' := [some (vr 100), some (vi x1), some (vi x2), some (vi (0 : Int))]) d_M_face_38 (Nat.le_of_ble_eq_true rfl) rfl rfl ?_
          exact v
        · have v := vf (Int.not_lt.mp c); clear vt vf
          refine a_bipush d_M_face_34 ⟨by decide, by decide⟩ (by decide) ?_
          exact a_iret d_M_face_36 rfl v
    · have v := vf (Classical.not_not.mp c); clear vt vf
      refine a_bipush d_M_face_16 ⟨by decide, by decide⟩ (by decide) ?_
      exact a_iret d_M_face_18 rfl v
theorem m_M_face_39 {l : Launch} {D : DD} {d kc ks : Nat} {h : Hp} {Φ : Option AV → Hp → Prop} {x1 : Int} {x2 : Int} {x3 : Int} (hM : MS h) (v : 0 ≤ x1 ∧ x1 < 16 ∧ ((x3 ≥ xI h 104 (x1).toNat → (0 ≤ x1 ∧ x1 < 16 ∧ ((¬ xI h 104 (x1).toNat = (3 : Int) → (0 ≤ x1 ∧ x1 < 16 ∧ (0 ≤ wr ((wr ((3 : Int) * x1)) + (xI h 104 (x1).toNat)) ∧ wr ((wr ((3 : Int) * x1)) + (xI h 104 (x1).toNat)) < 48 ∧ (∀ h1 : Hp, h1 = sI h 105 (wr ((wr ((3 : Int) * x1)) + (xI h 104 (x1).toNat))).toNat x2 → (0 ≤ x1 ∧ x1 < 16 ∧ (0 ≤ x1 ∧ x1 < 16 ∧ (∀ h2 : Hp, h2 = sI h1 104 (x1).toNat (wr ((xI h1 104 (x1).toNat) + (1 : Int))) → (∀ h3 : Hp, h3 = sI h2 100 16 (0 : Int) → (∀ h4 : Hp, h4 = sI h3 100 26 (0 : Int) → (0 ≤ x1 ∧ x1 < 16 ∧ (Φ (some (vi (xI h4 104 (x1).toNat))) h4))))))))))) ∧ (xI h 104 (x1).toNat = (3 : Int) → (Φ (some (vi (-104 : Int))) h))))) ∧ (x3 < xI h 104 (x1).toNat → (0 ≤ wr ((wr ((3 : Int) * x1)) + x3) ∧ wr ((wr ((3 : Int) * x1)) + x3) < 48 ∧ ((¬ xI h 105 (wr ((wr ((3 : Int) * x1)) + x3)).toNat = x2 → (Ev l D Y_M_face (d + 1) kc ks 39 [some (vr 100), some (vi x1), some (vi x2), some (vi (wr (x3 + (1 : Int))))] [] h Φ)) ∧ (xI h 105 (wr ((wr ((3 : Int) * x1)) + x3)).toNat = x2 → (Φ (some (vi (-103 : Int))) h))))))) : Ev l D Y_M_face (d + 1) kc ks 39 [some (vr 100), some (vi x1), some (vi x2), some (vi x3)] [] h Φ := by
  refine a_iload_n d_M_face_39 rfl ?_
  refine a_aload_n d_M_face_40 rfl ?_
  refine a_getAe fl_M_16 d_M_face_41 (beq_iff_eq.mpr (KNM_100 hM)) (KRM_100_3 hM) ?_
  refine a_iload_n d_M_face_44 rfl ?_
  obtain ⟨c2, c3, v⟩ := v
  refine a_iald d_M_face_45 (Or.inl (KNM_104 hM)) c2 (lt_len (NNM_104 hM) c3) ?_
  obtain ⟨vt, vf⟩ := v
  refine a_icmp_ge (tgt := 72) d_M_face_46 (by decide) (fun c => ?_) (fun c => ?_)
  · have v := vt (c); clear vt vf
    refine a_aload_n d_M_face_72 rfl ?_
    refine a_getAe fl_M_16 d_M_face_73 (beq_iff_eq.mpr (KNM_100 hM)) (KRM_100_3 hM) ?_
    refine a_iload_n d_M_face_76 rfl ?_
    obtain ⟨c5, c6, v⟩ := v
    refine a_iald d_M_face_77 (Or.inl (KNM_104 hM)) c5 (lt_len (NNM_104 hM) c6) ?_
    refine a_iconst d_M_face_78 ⟨by decide, by decide⟩ ?_
    obtain ⟨vt, vf⟩ := v
    refine a_icmp_ne (tgt := 85) d_M_face_79 (by decide) (fun c => ?_) (fun c => ?_)
    · have v := vt (c); clear vt vf
      refine a_aload_n d_M_face_85 rfl ?_
      refine a_getAe fl_M_19 d_M_face_86 (beq_iff_eq.mpr (KNM_100 hM)) (KRM_100_4 hM) ?_
      refine a_iconst d_M_face_89 ⟨by decide, by decide⟩ ?_
      refine a_iload_n d_M_face_90 rfl ?_
      refine a_imul d_M_face_91 ?_
      refine a_aload_n d_M_face_92 rfl ?_
      refine a_getAe fl_M_16 d_M_face_93 (beq_iff_eq.mpr (KNM_100 hM)) (KRM_100_3 hM) ?_
      refine a_iload_n d_M_face_96 rfl ?_
      obtain ⟨c8, c9, v⟩ := v
      refine a_iald d_M_face_97 (Or.inl (KNM_104 hM)) c8 (lt_len (NNM_104 hM) c9) ?_
      refine a_iadd d_M_face_98 ?_
      refine a_iload_n d_M_face_99 rfl ?_
      obtain ⟨c12, c13, v⟩ := v
      have v := v _ rfl
      refine a_iast d_M_face_100 (KNM_105 hM) (by decide) c12 (lt_len (NNM_105 hM) c13) ?_
      refine a_aload_n d_M_face_101 rfl ?_
      refine a_getAe fl_M_16 d_M_face_102 (beq_iff_eq.mpr (KNM_100 hM)) (KRM_100_3 hM) ?_
      refine a_iload_n d_M_face_105 rfl ?_
      refine a_dup2 d_M_face_106 rfl rfl ?_
      obtain ⟨c15, c16, v⟩ := v
      refine a_iald d_M_face_107 (Or.inl (KNM_104 hM)) c15 (lt_len (NNM_104 hM) c16) ?_
      refine a_iconst d_M_face_108 ⟨by decide, by decide⟩ ?_
      refine a_iadd d_M_face_109 ?_
      obtain ⟨c19, c20, v⟩ := v
      have v := v _ rfl
      refine a_iast d_M_face_110 (KNM_104 hM) (by decide) c19 (lt_len (NNM_104 hM) c20) ?_
      refine a_aload_n d_M_face_111 rfl ?_
      refine a_iconst d_M_face_112 ⟨by decide, by decide⟩ ?_
      have v := v _ rfl
      refine a_putZ fl_M_119 d_M_face_113 (beq_iff_eq.mpr (KNM_100 hM)) (by decide) (Or.inl rfl) ?_
      refine a_aload_n d_M_face_116 rfl ?_
      refine a_iconst d_M_face_117 ⟨by decide, by decide⟩ ?_
      have v := v _ rfl
      refine a_putZ fl_M_134 d_M_face_118 (beq_iff_eq.mpr (KNM_100 hM)) (by decide) (Or.inl rfl) ?_
      refine a_aload_n d_M_face_121 rfl ?_
      refine a_getAe fl_M_16 d_M_face_122 (beq_iff_eq.mpr (KNM_100 hM)) (KRM_100_3 hM) ?_
      refine a_iload_n d_M_face_125 rfl ?_
      obtain ⟨c26, c27, v⟩ := v
      refine a_iald d_M_face_126 (Or.inl (KNM_104 hM)) c26 (lt_len (NNM_104 hM) c27) ?_
      exact a_iret d_M_face_127 rfl v
    · have v := vf (Classical.not_not.mp c); clear vt vf
      refine a_bipush d_M_face_82 ⟨by decide, by decide⟩ (by decide) ?_
      exact a_iret d_M_face_84 rfl v
  · have v := vf (Int.not_le.mp c); clear vt vf
    refine a_aload_n d_M_face_49 rfl ?_
    refine a_getAe fl_M_19 d_M_face_50 (beq_iff_eq.mpr (KNM_100 hM)) (KRM_100_4 hM) ?_
    refine a_iconst d_M_face_53 ⟨by decide, by decide⟩ ?_
    refine a_iload_n d_M_face_54 rfl ?_
    refine a_imul d_M_face_55 ?_
    refine a_iload_n d_M_face_56 rfl ?_
    refine a_iadd d_M_face_57 ?_
    obtain ⟨c29, c30, v⟩ := v
    refine a_iald d_M_face_58 (Or.inl (KNM_105 hM)) c29 (lt_len (NNM_105 hM) c30) ?_
    refine a_iload_n d_M_face_59 rfl ?_
    obtain ⟨vt, vf⟩ := v
    refine a_icmp_ne (tgt := 66) d_M_face_60 (by decide) (fun c => ?_) (fun c => ?_)
    · have v := vt (c); clear vt vf
      refine a_iinc (L' := [some (vr 100), some (vi x1), some (vi x2), some (vi (wr (x3 + (1 : Int))))]) d_M_face_66 rfl (Nat.le_of_ble_eq_true rfl) rfl rfl ?_
      refine a_goto (tgt := 39) d_M_face_69 (by decide) ?_
      exact v
    · have v := vf (Classical.not_not.mp c); clear vt vf
      refine a_bipush d_M_face_63 ⟨by decide, by decide⟩ (by decide) ?_
      exact a_iret d_M_face_65 rfl v
theorem d_M_ownOf_0 : decode Y_M_ownOf.2.1 0 = .ok (.iconst 0, 1) := by decide +kernel
theorem d_M_ownOf_1 : decode Y_M_ownOf.2.1 1 = .ok (.istore_n 3, 1) := by decide +kernel
theorem d_M_ownOf_2 : decode Y_M_ownOf.2.1 2 = .ok (.iload_n 3, 1) := by decide +kernel
theorem d_M_ownOf_3 : decode Y_M_ownOf.2.1 3 = .ok (.aload_n 0, 1) := by decide +kernel
theorem d_M_ownOf_4 : decode Y_M_ownOf.2.1 4 = .ok (.getfield 131, 3) := by decide +kernel
theorem d_M_ownOf_7 : decode Y_M_ownOf.2.1 7 = .ok (.if_icmp .ge 31, 3) := by decide +kernel
theorem d_M_ownOf_10 : decode Y_M_ownOf.2.1 10 = .ok (.aload_n 0, 1) := by decide +kernel
theorem d_M_ownOf_11 : decode Y_M_ownOf.2.1 11 = .ok (.getfield 22, 3) := by decide +kernel
theorem d_M_ownOf_14 : decode Y_M_ownOf.2.1 14 = .ok (.iload_n 3, 1) := by decide +kernel
theorem d_M_ownOf_15 : decode Y_M_ownOf.2.1 15 = .ok (.iaload, 1) := by decide +kernel
theorem d_M_ownOf_16 : decode Y_M_ownOf.2.1 16 = .ok (.iload_n 1, 1) := by decide +kernel
theorem d_M_ownOf_17 : decode Y_M_ownOf.2.1 17 = .ok (.if_icmp .ne 15, 3) := by decide +kernel
theorem d_M_ownOf_20 : decode Y_M_ownOf.2.1 20 = .ok (.aload_n 0, 1) := by decide +kernel
theorem d_M_ownOf_21 : decode Y_M_ownOf.2.1 21 = .ok (.getfield 25, 3) := by decide +kernel
theorem d_M_ownOf_24 : decode Y_M_ownOf.2.1 24 = .ok (.iload_n 3, 1) := by decide +kernel
theorem d_M_ownOf_25 : decode Y_M_ownOf.2.1 25 = .ok (.iaload, 1) := by decide +kernel
theorem d_M_ownOf_26 : decode Y_M_ownOf.2.1 26 = .ok (.iload_n 2, 1) := by decide +kernel
theorem d_M_ownOf_27 : decode Y_M_ownOf.2.1 27 = .ok (.if_icmp .ne 5, 3) := by decide +kernel
theorem d_M_ownOf_30 : decode Y_M_ownOf.2.1 30 = .ok (.iload_n 3, 1) := by decide +kernel
theorem d_M_ownOf_31 : decode Y_M_ownOf.2.1 31 = .ok (.ireturn, 1) := by decide +kernel
theorem d_M_ownOf_32 : decode Y_M_ownOf.2.1 32 = .ok (.iinc 3 1, 3) := by decide +kernel
theorem d_M_ownOf_35 : decode Y_M_ownOf.2.1 35 = .ok (.goto (-33), 3) := by decide +kernel
theorem d_M_ownOf_38 : decode Y_M_ownOf.2.1 38 = .ok (.iconst (-1), 1) := by decide +kernel
theorem d_M_ownOf_39 : decode Y_M_ownOf.2.1 39 = .ok (.ireturn, 1) := by decide +kernel
theorem m_M_ownOf_0 {l : Launch} {D : DD} {d kc ks : Nat} {h : Hp} {Φ : Option AV → Hp → Prop} {x1 : Int} {x2 : Int} (hM : MS h) (v : Ev l D Y_M_ownOf d kc ks 2 [some (vr 100), some (vi x1), some (vi x2), some (vi (0 : Int))] [] h Φ) : Ev l D Y_M_ownOf d kc ks 0 [some (vr 100), some (vi x1), some (vi x2), none] [] h Φ := by
  refine a_iconst d_M_ownOf_0 ⟨by decide, by decide⟩ ?_
  refine a_istore_n (L' := [some (vr 100), some (vi x1), some (vi x2), some (vi (0 : Int))]) d_M_ownOf_1 (Nat.le_of_ble_eq_true rfl) rfl rfl ?_
  exact v
theorem m_M_ownOf_2 {l : Launch} {D : DD} {d kc ks : Nat} {h : Hp} {Φ : Option AV → Hp → Prop} {x1 : Int} {x2 : Int} {x3 : Int} (hM : MS h) (v : (x3 ≥ xI h 100 5 → (Φ (some (vi (-1 : Int))) h)) ∧ (x3 < xI h 100 5 → (0 ≤ x3 ∧ x3 < 48 ∧ ((¬ xI h 107 (x3).toNat = x1 → (Ev l D Y_M_ownOf d kc ks 2 [some (vr 100), some (vi x1), some (vi x2), some (vi (wr (x3 + (1 : Int))))] [] h Φ)) ∧ (xI h 107 (x3).toNat = x1 → (0 ≤ x3 ∧ x3 < 48 ∧ ((¬ xI h 108 (x3).toNat = x2 → (Ev l D Y_M_ownOf d kc ks 2 [some (vr 100), some (vi x1), some (vi x2), some (vi (wr (x3 + (1 : Int))))] [] h Φ)) ∧ (xI h 108 (x3).toNat = x2 → (Φ (some (vi x3)) h))))))))) : Ev l D Y_M_ownOf d kc ks 2 [some (vr 100), some (vi x1), some (vi x2), some (vi x3)] [] h Φ := by
  refine a_iload_n d_M_ownOf_2 rfl ?_
  refine a_aload_n d_M_ownOf_3 rfl ?_
  refine a_getI fl_M_131 d_M_ownOf_4 (beq_iff_eq.mpr (KNM_100 hM)) ?_
  obtain ⟨vt, vf⟩ := v
  refine a_icmp_ge (tgt := 38) d_M_ownOf_7 (by decide) (fun c => ?_) (fun c => ?_)
  · have v := vt (c); clear vt vf
    refine a_iconst d_M_ownOf_38 ⟨by decide, by decide⟩ ?_
    exact a_iret d_M_ownOf_39 rfl v
  · have v := vf (Int.not_le.mp c); clear vt vf
    refine a_aload_n d_M_ownOf_10 rfl ?_
    refine a_getAe fl_M_22 d_M_ownOf_11 (beq_iff_eq.mpr (KNM_100 hM)) (KRM_100_6 hM) ?_
    refine a_iload_n d_M_ownOf_14 rfl ?_
    obtain ⟨c2, c3, v⟩ := v
    refine a_iald d_M_ownOf_15 (Or.inl (KNM_107 hM)) c2 (lt_len (NNM_107 hM) c3) ?_
    refine a_iload_n d_M_ownOf_16 rfl ?_
    obtain ⟨vt, vf⟩ := v
    refine a_icmp_ne (tgt := 32) d_M_ownOf_17 (by decide) (fun c => ?_) (fun c => ?_)
    · have v := vt (c); clear vt vf
      refine a_iinc (L' := [some (vr 100), some (vi x1), some (vi x2), some (vi (wr (x3 + (1 : Int))))]) d_M_ownOf_32 rfl (Nat.le_of_ble_eq_true rfl) rfl rfl ?_
      refine a_goto (tgt := 2) d_M_ownOf_35 (by decide) ?_
      exact v
    · have v := vf (Classical.not_not.mp c); clear vt vf
      refine a_aload_n d_M_ownOf_20 rfl ?_
      refine a_getAe fl_M_25 d_M_ownOf_21 (beq_iff_eq.mpr (KNM_100 hM)) (KRM_100_7 hM) ?_
      refine a_iload_n d_M_ownOf_24 rfl ?_
      obtain ⟨c5, c6, v⟩ := v
      refine a_iald d_M_ownOf_25 (Or.inl (KNM_108 hM)) c5 (lt_len (NNM_108 hM) c6) ?_
      refine a_iload_n d_M_ownOf_26 rfl ?_
      obtain ⟨vt, vf⟩ := v
      refine a_icmp_ne (tgt := 32) d_M_ownOf_27 (by decide) (fun c => ?_) (fun c => ?_)
      · have v := vt (c); clear vt vf
        refine a_iinc (L' := [some (vr 100), some (vi x1), some (vi x2), some (vi (wr (x3 + (1 : Int))))]) d_M_ownOf_32 rfl (Nat.le_of_ble_eq_true rfl) rfl rfl ?_
        refine a_goto (tgt := 2) d_M_ownOf_35 (by decide) ?_
        exact v
      · have v := vf (Classical.not_not.mp c); clear vt vf
        refine a_iload_n d_M_ownOf_30 rfl ?_
        exact a_iret d_M_ownOf_31 rfl v
theorem d_M_member_0 : decode Y_M_member.2.1 0 = .ok (.aload_n 0, 1) := by decide +kernel
theorem d_M_member_1 : decode Y_M_member.2.1 1 = .ok (.iload_n 1, 1) := by decide +kernel
theorem d_M_member_2 : decode Y_M_member.2.1 2 = .ok (.invokevirtual 141, 3) := by decide +kernel
theorem d_M_member_5 : decode Y_M_member.2.1 5 = .ok (.ifCond .ne 6, 3) := by decide +kernel
theorem d_M_member_8 : decode Y_M_member.2.1 8 = .ok (.bipush (-101), 2) := by decide +kernel
theorem d_M_member_10 : decode Y_M_member.2.1 10 = .ok (.ireturn, 1) := by decide +kernel
theorem d_M_member_11 : decode Y_M_member.2.1 11 = .ok (.iload_n 3, 1) := by decide +kernel
theorem d_M_member_12 : decode Y_M_member.2.1 12 = .ok (.iconst 0, 1) := by decide +kernel
theorem d_M_member_13 : decode Y_M_member.2.1 13 = .ok (.iconst 4, 1) := by decide +kernel
theorem d_M_member_14 : decode Y_M_member.2.1 14 = .ok (.invokestatic 127, 3) := by decide +kernel
theorem d_M_member_17 : decode Y_M_member.2.1 17 = .ok (.ifCond .eq 32, 3) := by decide +kernel
theorem d_M_member_20 : decode Y_M_member.2.1 20 = .ok (.iload_n 3, 1) := by decide +kernel
theorem d_M_member_21 : decode Y_M_member.2.1 21 = .ok (.iconst 4, 1) := by decide +kernel
theorem d_M_member_22 : decode Y_M_member.2.1 22 = .ok (.if_icmp .eq 13, 3) := by decide +kernel
theorem d_M_member_25 : decode Y_M_member.2.1 25 = .ok (.iload_n 2, 1) := by decide +kernel
theorem d_M_member_26 : decode Y_M_member.2.1 26 = .ok (.iconst 0, 1) := by decide +kernel
theorem d_M_member_27 : decode Y_M_member.2.1 27 = .ok (.bipush 9, 2) := by decide +kernel
theorem d_M_member_29 : decode Y_M_member.2.1 29 = .ok (.invokestatic 127, 3) := by decide +kernel
theorem d_M_member_32 : decode Y_M_member.2.1 32 = .ok (.ifCond .eq 17, 3) := by decide +kernel
theorem d_M_member_35 : decode Y_M_member.2.1 35 = .ok (.iload_n 3, 1) := by decide +kernel
theorem d_M_member_36 : decode Y_M_member.2.1 36 = .ok (.iconst 1, 1) := by decide +kernel
theorem d_M_member_37 : decode Y_M_member.2.1 37 = .ok (.if_icmp .ne 15, 3) := by decide +kernel
theorem d_M_member_40 : decode Y_M_member.2.1 40 = .ok (.aload_n 0, 1) := by decide +kernel
theorem d_M_member_41 : decode Y_M_member.2.1 41 = .ok (.getfield 7, 3) := by decide +kernel
theorem d_M_member_44 : decode Y_M_member.2.1 44 = .ok (.iload_n 1, 1) := by decide +kernel
theorem d_M_member_45 : decode Y_M_member.2.1 45 = .ok (.iaload, 1) := by decide +kernel
theorem d_M_member_46 : decode Y_M_member.2.1 46 = .ok (.ifCond .ne 6, 3) := by decide +kernel
theorem d_M_member_49 : decode Y_M_member.2.1 49 = .ok (.bipush (-102), 2) := by decide +kernel
theorem d_M_member_51 : decode Y_M_member.2.1 51 = .ok (.ireturn, 1) := by decide +kernel
theorem d_M_member_52 : decode Y_M_member.2.1 52 = .ok (.iload_n 3, 1) := by decide +kernel
theorem d_M_member_53 : decode Y_M_member.2.1 53 = .ok (.iconst 4, 1) := by decide +kernel
theorem d_M_member_54 : decode Y_M_member.2.1 54 = .ok (.if_icmp .ne 7, 3) := by decide +kernel
theorem d_M_member_57 : decode Y_M_member.2.1 57 = .ok (.iconst (-1), 1) := by decide +kernel
theorem d_M_member_58 : decode Y_M_member.2.1 58 = .ok (.goto 4, 3) := by decide +kernel
theorem d_M_member_61 : decode Y_M_member.2.1 61 = .ok (.iload_n 2, 1) := by decide +kernel
theorem d_M_member_62 : decode Y_M_member.2.1 62 = .ok (.istore 4, 2) := by decide +kernel
theorem d_M_member_64 : decode Y_M_member.2.1 64 = .ok (.aload_n 0, 1) := by decide +kernel
theorem d_M_member_65 : decode Y_M_member.2.1 65 = .ok (.iload_n 1, 1) := by decide +kernel
theorem d_M_member_66 : decode Y_M_member.2.1 66 = .ok (.iload 4, 2) := by decide +kernel
theorem d_M_member_68 : decode Y_M_member.2.1 68 = .ok (.invokevirtual 145, 3) := by decide +kernel
theorem d_M_member_71 : decode Y_M_member.2.1 71 = .ok (.iconst (-1), 1) := by decide +kernel
theorem d_M_member_72 : decode Y_M_member.2.1 72 = .ok (.if_icmp .eq 6, 3) := by decide +kernel
theorem d_M_member_75 : decode Y_M_member.2.1 75 = .ok (.bipush (-103), 2) := by decide +kernel
theorem d_M_member_77 : decode Y_M_member.2.1 77 = .ok (.ireturn, 1) := by decide +kernel
theorem d_M_member_78 : decode Y_M_member.2.1 78 = .ok (.aload_n 0, 1) := by decide +kernel
theorem d_M_member_79 : decode Y_M_member.2.1 79 = .ok (.getfield 131, 3) := by decide +kernel
theorem d_M_member_82 : decode Y_M_member.2.1 82 = .ok (.bipush 48, 2) := by decide +kernel
theorem d_M_member_84 : decode Y_M_member.2.1 84 = .ok (.if_icmp .ne 6, 3) := by decide +kernel
theorem d_M_member_87 : decode Y_M_member.2.1 87 = .ok (.bipush (-104), 2) := by decide +kernel
theorem d_M_member_89 : decode Y_M_member.2.1 89 = .ok (.ireturn, 1) := by decide +kernel
theorem d_M_member_90 : decode Y_M_member.2.1 90 = .ok (.aload_n 0, 1) := by decide +kernel
theorem d_M_member_91 : decode Y_M_member.2.1 91 = .ok (.getfield 22, 3) := by decide +kernel
theorem d_M_member_94 : decode Y_M_member.2.1 94 = .ok (.aload_n 0, 1) := by decide +kernel
theorem d_M_member_95 : decode Y_M_member.2.1 95 = .ok (.getfield 131, 3) := by decide +kernel
theorem d_M_member_98 : decode Y_M_member.2.1 98 = .ok (.iload_n 1, 1) := by decide +kernel
theorem d_M_member_99 : decode Y_M_member.2.1 99 = .ok (.iastore, 1) := by decide +kernel
theorem d_M_member_100 : decode Y_M_member.2.1 100 = .ok (.aload_n 0, 1) := by decide +kernel
theorem d_M_member_101 : decode Y_M_member.2.1 101 = .ok (.getfield 25, 3) := by decide +kernel
theorem d_M_member_104 : decode Y_M_member.2.1 104 = .ok (.aload_n 0, 1) := by decide +kernel
theorem d_M_member_105 : decode Y_M_member.2.1 105 = .ok (.getfield 131, 3) := by decide +kernel
theorem d_M_member_108 : decode Y_M_member.2.1 108 = .ok (.iload 4, 2) := by decide +kernel
theorem d_M_member_110 : decode Y_M_member.2.1 110 = .ok (.iastore, 1) := by decide +kernel
theorem d_M_member_111 : decode Y_M_member.2.1 111 = .ok (.aload_n 0, 1) := by decide +kernel
theorem d_M_member_112 : decode Y_M_member.2.1 112 = .ok (.getfield 28, 3) := by decide +kernel
theorem d_M_member_115 : decode Y_M_member.2.1 115 = .ok (.aload_n 0, 1) := by decide +kernel
theorem d_M_member_116 : decode Y_M_member.2.1 116 = .ok (.getfield 131, 3) := by decide +kernel
theorem d_M_member_119 : decode Y_M_member.2.1 119 = .ok (.iload_n 3, 1) := by decide +kernel
theorem d_M_member_120 : decode Y_M_member.2.1 120 = .ok (.iastore, 1) := by decide +kernel
theorem d_M_member_121 : decode Y_M_member.2.1 121 = .ok (.aload_n 0, 1) := by decide +kernel
theorem d_M_member_122 : decode Y_M_member.2.1 122 = .ok (.getfield 31, 3) := by decide +kernel
theorem d_M_member_125 : decode Y_M_member.2.1 125 = .ok (.aload_n 0, 1) := by decide +kernel
theorem d_M_member_126 : decode Y_M_member.2.1 126 = .ok (.getfield 131, 3) := by decide +kernel
theorem d_M_member_129 : decode Y_M_member.2.1 129 = .ok (.iconst 0, 1) := by decide +kernel
theorem d_M_member_130 : decode Y_M_member.2.1 130 = .ok (.bastore, 1) := by decide +kernel
theorem d_M_member_131 : decode Y_M_member.2.1 131 = .ok (.aload_n 0, 1) := by decide +kernel
theorem d_M_member_132 : decode Y_M_member.2.1 132 = .ok (.getfield 35, 3) := by decide +kernel
theorem d_M_member_135 : decode Y_M_member.2.1 135 = .ok (.aload_n 0, 1) := by decide +kernel
theorem d_M_member_136 : decode Y_M_member.2.1 136 = .ok (.getfield 131, 3) := by decide +kernel
theorem d_M_member_139 : decode Y_M_member.2.1 139 = .ok (.iconst 0, 1) := by decide +kernel
theorem d_M_member_140 : decode Y_M_member.2.1 140 = .ok (.iastore, 1) := by decide +kernel
theorem d_M_member_141 : decode Y_M_member.2.1 141 = .ok (.aload_n 0, 1) := by decide +kernel
theorem d_M_member_142 : decode Y_M_member.2.1 142 = .ok (.dup, 1) := by decide +kernel
theorem d_M_member_143 : decode Y_M_member.2.1 143 = .ok (.getfield 131, 3) := by decide +kernel
theorem d_M_member_146 : decode Y_M_member.2.1 146 = .ok (.iconst 1, 1) := by decide +kernel
theorem d_M_member_147 : decode Y_M_member.2.1 147 = .ok (.iadd, 1) := by decide +kernel
theorem d_M_member_148 : decode Y_M_member.2.1 148 = .ok (.putfield 131, 3) := by decide +kernel
theorem d_M_member_151 : decode Y_M_member.2.1 151 = .ok (.aload_n 0, 1) := by decide +kernel
theorem d_M_member_152 : decode Y_M_member.2.1 152 = .ok (.iconst 0, 1) := by decide +kernel
theorem d_M_member_153 : decode Y_M_member.2.1 153 = .ok (.putfield 119, 3) := by decide +kernel
theorem d_M_member_156 : decode Y_M_member.2.1 156 = .ok (.aload_n 0, 1) := by decide +kernel
theorem d_M_member_157 : decode Y_M_member.2.1 157 = .ok (.getfield 131, 3) := by decide +kernel
theorem d_M_member_160 : decode Y_M_member.2.1 160 = .ok (.iconst 1, 1) := by decide +kernel
theorem d_M_member_161 : decode Y_M_member.2.1 161 = .ok (.isub, 1) := by decide +kernel
theorem d_M_member_162 : decode Y_M_member.2.1 162 = .ok (.ireturn, 1) := by decide +kernel
theorem m_M_member_0 {l : Launch} {D : DD} {d kc ks : Nat} {h : Hp} {Φ : Option AV → Hp → Prop} {x1 : Int} {x2 : Int} {x3 : Int} (hM : MS h) (v : Ev l D Y_M_isType d 0 0 0 [some (vr 100), some (vi x1)] [] h (ki (fun r1 h1 => MS h1 ∧ ((¬ r1 = 0 → (Ev l D Y_M_in d 0 0 0 [some (vi x3), some (vi (0 : Int)), some (vi (4 : Int))] [] h1 (ki (fun r2 h2 => MS h2 ∧ ((r2 = 0 → (Φ (some (vi (-102 : Int))) h2)) ∧ (¬ r2 = 0 → ((x3 = (4 : Int) → ((¬ x3 = (1 : Int) → (Ev l D Y_M_member (d + 1) kc ks 52 [some (vr 100), some (vi x1), some (vi x2), some (vi x3), none] [] h2 Φ)) ∧ (x3 = (1 : Int) → (0 ≤ x1 ∧ x1 < 16 ∧ ((¬ xI h2 102 (x1).toNat = 0 → (Ev l D Y_M_member (d + 1) kc ks 52 [some (vr 100), some (vi x1), some (vi x2), some (vi x3), none] [] h2 Φ)) ∧ (xI h2 102 (x1).toNat = 0 → (Φ (some (vi (-102 : Int))) h2))))))) ∧ (¬ x3 = (4 : Int) → (Ev l D Y_M_in d 0 0 0 [some (vi x2), some (vi (0 : Int)), some (vi (9 : Int))] [] h2 (ki (fun r3 h3 => MS h3 ∧ ((r3 = 0 → (Φ (some (vi (-102 : Int))) h3)) ∧ (¬ r3 = 0 → ((¬ x3 = (1 : Int) → (Ev l D Y_M_member (d + 1) kc ks 52 [some (vr 100), some (vi x1), some (vi x2), some (vi x3), none] [] h3 Φ)) ∧ (x3 = (1 : Int) → (0 ≤ x1 ∧ x1 < 16 ∧ ((¬ xI h3 102 (x1).toNat = 0 → (Ev l D Y_M_member (d + 1) kc ks 52 [some (vr 100), some (vi x1), some (vi x2), some (vi x3), none] [] h3 Φ)) ∧ (xI h3 102 (x1).toNat = 0 → (Φ (some (vi (-102 : Int))) h3))))))))))))))))))) ∧ (r1 = 0 → (Φ (some (vi (-101 : Int))) h1)))))) : Ev l D Y_M_member (d + 1) kc ks 0 [some (vr 100), some (vi x1), some (vi x2), some (vi x3), none] [] h Φ := by
  refine a_aload_n d_M_member_0 rfl ?_
  refine a_iload_n d_M_member_1 rfl ?_
  refine b_callV (as := [vi x1]) (b := 100) (st := []) (kd := 12) (kc1 := 0) (ks1 := 0) (kc2 := kc) (ks2 := ks) (d' := d) ml_M_141 rfl d_M_member_2 rfl rfl (Nat.le_of_ble_eq_true rfl) (by decide) rfl (Nat.le_refl _) (by omega) (by omega) (KNM_100 hM) ?_
  refine Ev.mono v ?_
  intro u h1 v
  obtain ⟨r1, rfl, v⟩ := ki_el v
  obtain ⟨hm1, v⟩ := v
  change Ev l D Y_M_member _ _ _ 5 [some (vr 100), some (vi x1), some (vi x2), some (vi x3), none] [vi r1] _ _
  obtain ⟨vt, vf⟩ := v
  refine a_if_ne (tgt := 11) d_M_member_5 (by decide) (fun c => ?_) (fun c => ?_)
  · have v := vt (c); clear vt vf
    refine a_iload_n d_M_member_11 rfl ?_
    refine a_iconst d_M_member_12 ⟨by decide, by decide⟩ ?_
    refine a_iconst d_M_member_13 ⟨by decide, by decide⟩ ?_
    refine b_callS (as := [vi x3, vi (0 : Int), vi (4 : Int)]) (st := []) (kc1 := 0) (ks1 := 0) (kc2 := kc) (ks2 := ks) (d' := d) ml_M_127 rfl d_M_member_14 rfl rfl (Nat.le_of_ble_eq_true rfl) rfl (Nat.le_refl _) (by omega) (by omega) ?_
    refine Ev.mono v ?_
    intro u h2 v
    obtain ⟨r2, rfl, v⟩ := ki_el v
    obtain ⟨hm2, v⟩ := v
    change Ev l D Y_M_member _ _ _ 17 [some (vr 100), some (vi x1), some (vi x2), some (vi x3), none] [vi r2] _ _
    obtain ⟨vt, vf⟩ := v
    refine a_if_eq (tgt := 49) d_M_member_17 (by decide) (fun c => ?_) (fun c => ?_)
    · have v := vt (c); clear vt vf
      refine a_bipush d_M_member_49 ⟨by decide, by decide⟩ (by decide) ?_
      exact a_iret d_M_member_51 rfl v
    · have v := vf (c); clear vt vf
      refine a_iload_n d_M_member_20 rfl ?_
      refine a_iconst d_M_member_21 ⟨by decide, by decide⟩ ?_
      obtain ⟨vt, vf⟩ := v
      refine a_icmp_eq (tgt := 35) d_M_member_22 (by decide) (fun c => ?_) (fun c => ?_)
      · have v := vt (c); clear vt vf
        refine a_iload_n d_M_member_35 rfl ?_
        refine a_iconst d_M_member_36 ⟨by decide, by decide⟩ ?_
        obtain ⟨vt, vf⟩ := v
        refine a_icmp_ne (tgt := 52) d_M_member_37 (by decide) (fun c => ?_) (fun c => ?_)
        · have v := vt (c); clear vt vf
          exact v
        · have v := vf (Classical.not_not.mp c); clear vt vf
          refine a_aload_n d_M_member_40 rfl ?_
          refine a_getAe fl_M_7 d_M_member_41 (beq_iff_eq.mpr (KNM_100 hm2)) (KRM_100_1 hm2) ?_
          refine a_iload_n d_M_member_44 rfl ?_
          obtain ⟨c2, c3, v⟩ := v
          refine a_iald d_M_member_45 (Or.inl (KNM_102 hm2)) c2 (lt_len (NNM_102 hm2) c3) ?_
          obtain ⟨vt, vf⟩ := v
          refine a_if_ne (tgt := 52) d_M_member_46 (by decide) (fun c => ?_) (fun c => ?_)
          · have v := vt (c); clear vt vf
            exact v
          · have v := vf (Classical.not_not.mp c); clear vt vf
            refine a_bipush d_M_member_49 ⟨by decide, by decide⟩ (by decide) ?_
            exact a_iret d_M_member_51 rfl v
      · have v := vf (c); clear vt vf
        refine a_iload_n d_M_member_25 rfl ?_
        refine a_iconst d_M_member_26 ⟨by decide, by decide⟩ ?_
        refine a_bipush d_M_member_27 ⟨by decide, by decide⟩ (by decide) ?_
        refine b_callS (as := [vi x2, vi (0 : Int), vi (9 : Int)]) (st := []) (kc1 := 0) (ks1 := 0) (kc2 := kc) (ks2 := ks) (d' := d) ml_M_127 rfl d_M_member_29 rfl rfl (Nat.le_of_ble_eq_true rfl) rfl (Nat.le_refl _) (by omega) (by omega) ?_
        refine Ev.mono v ?_
        intro u h3 v
        obtain ⟨r3, rfl, v⟩ := ki_el v
        obtain ⟨hm3, v⟩ := v
        change Ev l D Y_M_member _ _ _ 32 [some (vr 100), some (vi x1), some (vi x2), some (vi x3), none] [vi r3] _ _
        obtain ⟨vt, vf⟩ := v
        refine a_if_eq (tgt := 49) d_M_member_32 (by decide) (fun c => ?_) (fun c => ?_)
        · have v := vt (c); clear vt vf
          refine a_bipush d_M_member_49 ⟨by decide, by decide⟩ (by decide) ?_
          exact a_iret d_M_member_51 rfl v
        · have v := vf (c); clear vt vf
          refine a_iload_n d_M_member_35 rfl ?_
          refine a_iconst d_M_member_36 ⟨by decide, by decide⟩ ?_
          obtain ⟨vt, vf⟩ := v
          refine a_icmp_ne (tgt := 52) d_M_member_37 (by decide) (fun c => ?_) (fun c => ?_)
          · have v := vt (c); clear vt vf
            exact v
          · have v := vf (Classical.not_not.mp c); clear vt vf
            refine a_aload_n d_M_member_40 rfl ?_
            refine a_getAe fl_M_7 d_M_member_41 (beq_iff_eq.mpr (KNM_100 hm3)) (KRM_100_1 hm3) ?_
            refine a_iload_n d_M_member_44 rfl ?_
            obtain ⟨c5, c6, v⟩ := v
            refine a_iald d_M_member_45 (Or.inl (KNM_102 hm3)) c5 (lt_len (NNM_102 hm3) c6) ?_
            obtain ⟨vt, vf⟩ := v
            refine a_if_ne (tgt := 52) d_M_member_46 (by decide) (fun c => ?_) (fun c => ?_)
            · have v := vt (c); clear vt vf
              exact v
            · have v := vf (Classical.not_not.mp c); clear vt vf
              refine a_bipush d_M_member_49 ⟨by decide, by decide⟩ (by decide) ?_
              exact a_iret d_M_member_51 rfl v
  · have v := vf (Classical.not_not.mp c); clear vt vf
    refine a_bipush d_M_member_8 ⟨by decide, by decide⟩ (by decide) ?_
    exact a_iret d_M_member_10 rfl v
theorem m_M_member_52 {l : Launch} {D : DD} {d kc ks : Nat} {h : Hp} {Φ : Option AV → Hp → Prop} {x1 : Int} {x2 : Int} {x3 : Int} (hM : MS h) (v : (¬ x3 = (4 : Int) → (Ev l D Y_M_member (d + 1) kc ks 62 [some (vr 100), some (vi x1), some (vi x2), some (vi x3), none] [vi x2] h Φ)) ∧ (x3 = (4 : Int) → (Ev l D Y_M_member (d + 1) kc ks 62 [some (vr 100), some (vi x1), some (vi x2), some (vi x3), none] [vi (-1 : Int)] h Φ))) : Ev l D Y_M_member (d + 1) kc ks 52 [some (vr 100), some (vi x1), some (vi x2), some (vi x3), none] [] h Φ := by
  refine a_iload_n d_M_member_52 rfl ?_
  refine a_iconst d_M_member_53 ⟨by decide, by decide⟩ ?_
  obtain ⟨vt, vf⟩ := v
  refine a_icmp_ne (tgt := 61) d_M_member_54 (by decide) (fun c => ?_) (fun c => ?_)
  · have v := vt (c); clear vt vf
    refine a_iload_n d_M_member_61 rfl ?_
    exact v
  · have v := vf (Classical.not_not.mp c); clear vt vf
    refine a_iconst d_M_member_57 ⟨by decide, by decide⟩ ?_
    refine a_goto (tgt := 62) d_M_member_58 (by decide) ?_
    exact v
theorem m_M_member_62 {l : Launch} {D : DD} {d kc ks : Nat} {h : Hp} {Φ : Option AV → Hp → Prop} {x1 : Int} {x2 : Int} {x3 : Int} {y0 : Int} (hM : MS h) (v : Ev l D Y_M_ownOf d 0 0 0 [some (vr 100), some (vi x1), some (vi y0), none] [] h (ki (fun r1 h1 => MS h1 ∧ ((r1 = (-1 : Int) → ((¬ xI h1 100 5 = (48 : Int) → (0 ≤ xI h1 100 5 ∧ xI h1 100 5 < 48 ∧ (∀ h2 : Hp, h2 = sI h1 107 (xI h1 100 5).toNat x1 → (0 ≤ xI h2 100 5 ∧ xI h2 100 5 < 48 ∧ (∀ h3 : Hp, h3 = sI h2 108 (xI h2 100 5).toNat y0 → (0 ≤ xI h3 100 5 ∧ xI h3 100 5 < 48 ∧ (∀ h4 : Hp, h4 = sI h3 109 (xI h3 100 5).toNat x3 → (0 ≤ xI h4 100 5 ∧ xI h4 100 5 < 48 ∧ (∀ h5 : Hp, h5 = sI h4 110 (xI h4 100 5).toNat (0 : Int) → (0 ≤ xI h5 100 5 ∧ xI h5 100 5 < 48 ∧ (∀ h6 : Hp, h6 = sI h5 111 (xI h5 100 5).toNat (0 : Int) → (∀ h7 : Hp, h7 = sI h6 100 5 (wr ((xI h6 100 5) + (1 : Int))) → (∀ h8 : Hp, h8 = sI h7 100 16 (0 : Int) → (Φ (some (vi (wr ((xI h8 100 5) - (1 : Int))))) h8)))))))))))))) ∧ (xI h1 100 5 = (48 : Int) → (Φ (some (vi (-104 : Int))) h1)))) ∧ (¬ r1 = (-1 : Int) → (Φ (some (vi (-103 : Int))) h1)))))) : Ev l D Y_M_member (d + 1) kc ks 62 [some (vr 100), some (vi x1), some (vi x2), some (vi x3), none] [vi y0] h Φ := by
  refine a_istore (L' := [some (vr 100), some (vi x1), some (vi x2), some (vi x3), some (vi y0)]) d_M_member_62 (Nat.le_of_ble_eq_true rfl) rfl rfl ?_
  refine a_aload_n d_M_member_64 rfl ?_
  refine a_iload_n d_M_member_65 rfl ?_
  refine a_iload d_M_member_66 rfl ?_
  refine b_callV (as := [vi x1, vi y0]) (b := 100) (st := []) (kd := 12) (kc1 := 0) (ks1 := 0) (kc2 := kc) (ks2 := ks) (d' := d) ml_M_145 rfl d_M_member_68 rfl rfl (Nat.le_of_ble_eq_true rfl) (by decide) rfl (Nat.le_refl _) (by omega) (by omega) (KNM_100 hM) ?_
  refine Ev.mono v ?_
  intro u h1 v
  obtain ⟨r1, rfl, v⟩ := ki_el v
  obtain ⟨hm1, v⟩ := v
  change Ev l D Y_M_member _ _ _ 71 [some (vr 100), some (vi x1), some (vi x2), some (vi x3), some (vi y0)] [vi r1] _ _
  refine a_iconst d_M_member_71 ⟨by decide, by decide⟩ ?_
  obtain ⟨vt, vf⟩ := v
  refine a_icmp_eq (tgt := 78) d_M_member_72 (by decide) (fun c => ?_) (fun c => ?_)
  · have v := vt (c); clear vt vf
    refine a_aload_n d_M_member_78 rfl ?_
    refine a_getI fl_M_131 d_M_member_79 (beq_iff_eq.mpr (KNM_100 hm1)) ?_
    refine a_bipush d_M_member_82 ⟨by decide, by decide⟩ (by decide) ?_
    obtain ⟨vt, vf⟩ := v
    refine a_icmp_ne (tgt := 90) d_M_member_84 (by decide) (fun c => ?_) (fun c => ?_)
    · have v := vt (c); clear vt vf
      refine a_aload_n d_M_member_90 rfl ?_
      refine a_getAe fl_M_22 d_M_member_91 (beq_iff_eq.mpr (KNM_100 hm1)) (KRM_100_6 hm1) ?_
      refine a_aload_n d_M_member_94 rfl ?_
      refine a_getI fl_M_131 d_M_member_95 (beq_iff_eq.mpr (KNM_100 hm1)) ?_
      refine a_iload_n d_M_member_98 rfl ?_
      obtain ⟨c3, c4, v⟩ := v
      have v := v _ rfl
      refine a_iast d_M_member_99 (KNM_107 hm1) (by decide) c3 (lt_len (NNM_107 hm1) c4) ?_
      refine a_aload_n d_M_member_100 rfl ?_
      refine a_getAe fl_M_25 d_M_member_101 (beq_iff_eq.mpr (KNM_100 hm1)) (KRM_100_7 hm1) ?_
      refine a_aload_n d_M_member_104 rfl ?_
      refine a_getI fl_M_131 d_M_member_105 (beq_iff_eq.mpr (KNM_100 hm1)) ?_
      refine a_iload d_M_member_108 rfl ?_
      obtain ⟨c7, c8, v⟩ := v
      have v := v _ rfl
      refine a_iast d_M_member_110 (KNM_108 hm1) (by decide) c7 (lt_len (NNM_108 hm1) c8) ?_
      refine a_aload_n d_M_member_111 rfl ?_
      refine a_getAe fl_M_28 d_M_member_112 (beq_iff_eq.mpr (KNM_100 hm1)) (KRM_100_8 hm1) ?_
      refine a_aload_n d_M_member_115 rfl ?_
      refine a_getI fl_M_131 d_M_member_116 (beq_iff_eq.mpr (KNM_100 hm1)) ?_
      refine a_iload_n d_M_member_119 rfl ?_
      obtain ⟨c11, c12, v⟩ := v
      have v := v _ rfl
      refine a_iast d_M_member_120 (KNM_109 hm1) (by decide) c11 (lt_len (NNM_109 hm1) c12) ?_
      refine a_aload_n d_M_member_121 rfl ?_
      refine a_getAe fl_M_31 d_M_member_122 (beq_iff_eq.mpr (KNM_100 hm1)) (KRM_100_9 hm1) ?_
      refine a_aload_n d_M_member_125 rfl ?_
      refine a_getI fl_M_131 d_M_member_126 (beq_iff_eq.mpr (KNM_100 hm1)) ?_
      refine a_iconst d_M_member_129 ⟨by decide, by decide⟩ ?_
      obtain ⟨c15, c16, v⟩ := v
      have v := v _ rfl
      refine a_zast d_M_member_130 (KNM_110 hm1) (by decide) c15 (lt_len (NNM_110 hm1) c16) (Or.inl rfl) ?_
      refine a_aload_n d_M_member_131 rfl ?_
      refine a_getAe fl_M_35 d_M_member_132 (beq_iff_eq.mpr (KNM_100 hm1)) (KRM_100_10 hm1) ?_
      refine a_aload_n d_M_member_135 rfl ?_
      refine a_getI fl_M_131 d_M_member_136 (beq_iff_eq.mpr (KNM_100 hm1)) ?_
      refine a_iconst d_M_member_139 ⟨by decide, by decide⟩ ?_
      obtain ⟨c19, c20, v⟩ := v
      have v := v _ rfl
      refine a_iast d_M_member_140 (KNM_111 hm1) (by decide) c19 (lt_len (NNM_111 hm1) c20) ?_
      refine a_aload_n d_M_member_141 rfl ?_
      refine a_dup d_M_member_142 rfl ?_
      refine a_getI fl_M_131 d_M_member_143 (beq_iff_eq.mpr (KNM_100 hm1)) ?_
      refine a_iconst d_M_member_146 ⟨by decide, by decide⟩ ?_
      refine a_iadd d_M_member_147 ?_
      have v := v _ rfl
      refine a_putI fl_M_131 d_M_member_148 (beq_iff_eq.mpr (KNM_100 hm1)) (by decide) ?_
      refine a_aload_n d_M_member_151 rfl ?_
      refine a_iconst d_M_member_152 ⟨by decide, by decide⟩ ?_
      have v := v _ rfl
      refine a_putZ fl_M_119 d_M_member_153 (beq_iff_eq.mpr (KNM_100 hm1)) (by decide) (Or.inl rfl) ?_
      refine a_aload_n d_M_member_156 rfl ?_
      refine a_getI fl_M_131 d_M_member_157 (beq_iff_eq.mpr (KNM_100 hm1)) ?_
      refine a_iconst d_M_member_160 ⟨by decide, by decide⟩ ?_
      refine a_isub d_M_member_161 ?_
      exact a_iret d_M_member_162 rfl v
    · have v := vf (Classical.not_not.mp c); clear vt vf
      refine a_bipush d_M_member_87 ⟨by decide, by decide⟩ (by decide) ?_
      exact a_iret d_M_member_89 rfl v
  · have v := vf (c); clear vt vf
    refine a_bipush d_M_member_75 ⟨by decide, by decide⟩ (by decide) ?_
    exact a_iret d_M_member_77 rfl v
theorem d_M_canBeCalled_0 : decode Y_M_canBeCalled.2.1 0 = .ok (.iload_n 0, 1) := by decide +kernel
theorem d_M_canBeCalled_1 : decode Y_M_canBeCalled.2.1 1 = .ok (.ifCond .eq 13, 3) := by decide +kernel
theorem d_M_canBeCalled_4 : decode Y_M_canBeCalled.2.1 4 = .ok (.iload_n 0, 1) := by decide +kernel
theorem d_M_canBeCalled_5 : decode Y_M_canBeCalled.2.1 5 = .ok (.iconst 2, 1) := by decide +kernel
theorem d_M_canBeCalled_6 : decode Y_M_canBeCalled.2.1 6 = .ok (.if_icmp .eq 8, 3) := by decide +kernel
theorem d_M_canBeCalled_9 : decode Y_M_canBeCalled.2.1 9 = .ok (.iload_n 0, 1) := by decide +kernel
theorem d_M_canBeCalled_10 : decode Y_M_canBeCalled.2.1 10 = .ok (.iconst 3, 1) := by decide +kernel
theorem d_M_canBeCalled_11 : decode Y_M_canBeCalled.2.1 11 = .ok (.if_icmp .ne 7, 3) := by decide +kernel
theorem d_M_canBeCalled_14 : decode Y_M_canBeCalled.2.1 14 = .ok (.iconst 1, 1) := by decide +kernel
theorem d_M_canBeCalled_15 : decode Y_M_canBeCalled.2.1 15 = .ok (.goto 4, 3) := by decide +kernel
theorem d_M_canBeCalled_18 : decode Y_M_canBeCalled.2.1 18 = .ok (.iconst 0, 1) := by decide +kernel
theorem d_M_canBeCalled_19 : decode Y_M_canBeCalled.2.1 19 = .ok (.ireturn, 1) := by decide +kernel
theorem m_M_canBeCalled_0 {l : Launch} {D : DD} {d kc ks : Nat} {h : Hp} {Φ : Option AV → Hp → Prop} {x0 : Int} (hM : MS h) (v : (x0 = 0 → (Φ (some (vi (1 : Int))) h)) ∧ (¬ x0 = 0 → ((x0 = (2 : Int) → (Φ (some (vi (1 : Int))) h)) ∧ (¬ x0 = (2 : Int) → ((¬ x0 = (3 : Int) → (Φ (some (vi (0 : Int))) h)) ∧ (x0 = (3 : Int) → (Φ (some (vi (1 : Int))) h))))))) : Ev l D Y_M_canBeCalled d kc ks 0 [some (vi x0)] [] h Φ := by
  refine a_iload_n d_M_canBeCalled_0 rfl ?_
  obtain ⟨vt, vf⟩ := v
  refine a_if_eq (tgt := 14) d_M_canBeCalled_1 (by decide) (fun c => ?_) (fun c => ?_)
  · have v := vt (c); clear vt vf
    refine a_iconst d_M_canBeCalled_14 ⟨by decide, by decide⟩ ?_
    refine a_goto (tgt := 19) d_M_canBeCalled_15 (by decide) ?_
    exact a_zret d_M_canBeCalled_19 rfl (Or.inr rfl) v
  · have v := vf (c); clear vt vf
    refine a_iload_n d_M_canBeCalled_4 rfl ?_
    refine a_iconst d_M_canBeCalled_5 ⟨by decide, by decide⟩ ?_
    obtain ⟨vt, vf⟩ := v
    refine a_icmp_eq (tgt := 14) d_M_canBeCalled_6 (by decide) (fun c => ?_) (fun c => ?_)
    · have v := vt (c); clear vt vf
      refine a_iconst d_M_canBeCalled_14 ⟨by decide, by decide⟩ ?_
      refine a_goto (tgt := 19) d_M_canBeCalled_15 (by decide) ?_
      exact a_zret d_M_canBeCalled_19 rfl (Or.inr rfl) v
    · have v := vf (c); clear vt vf
      refine a_iload_n d_M_canBeCalled_9 rfl ?_
      refine a_iconst d_M_canBeCalled_10 ⟨by decide, by decide⟩ ?_
      obtain ⟨vt, vf⟩ := v
      refine a_icmp_ne (tgt := 18) d_M_canBeCalled_11 (by decide) (fun c => ?_) (fun c => ?_)
      · have v := vt (c); clear vt vf
        refine a_iconst d_M_canBeCalled_18 ⟨by decide, by decide⟩ ?_
        exact a_zret d_M_canBeCalled_19 rfl (Or.inl rfl) v
      · have v := vf (Classical.not_not.mp c); clear vt vf
        refine a_iconst d_M_canBeCalled_14 ⟨by decide, by decide⟩ ?_
        refine a_goto (tgt := 19) d_M_canBeCalled_15 (by decide) ?_
        exact a_zret d_M_canBeCalled_19 rfl (Or.inr rfl) v
theorem d_M_isNext_0 : decode Y_M_isNext.2.1 0 = .ok (.aload_n 0, 1) := by decide +kernel
theorem d_M_isNext_1 : decode Y_M_isNext.2.1 1 = .ok (.getfield 13, 3) := by decide +kernel
theorem d_M_isNext_4 : decode Y_M_isNext.2.1 4 = .ok (.iload_n 1, 1) := by decide +kernel
theorem d_M_isNext_5 : decode Y_M_isNext.2.1 5 = .ok (.iaload, 1) := by decide +kernel
theorem d_M_isNext_6 : decode Y_M_isNext.2.1 6 = .ok (.iload_n 2, 1) := by decide +kernel
theorem d_M_isNext_7 : decode Y_M_isNext.2.1 7 = .ok (.if_icmp .ne 7, 3) := by decide +kernel
theorem d_M_isNext_10 : decode Y_M_isNext.2.1 10 = .ok (.iconst 1, 1) := by decide +kernel
theorem d_M_isNext_11 : decode Y_M_isNext.2.1 11 = .ok (.goto 4, 3) := by decide +kernel
theorem d_M_isNext_14 : decode Y_M_isNext.2.1 14 = .ok (.iconst 0, 1) := by decide +kernel
theorem d_M_isNext_15 : decode Y_M_isNext.2.1 15 = .ok (.istore_n 3, 1) := by decide +kernel
theorem d_M_isNext_16 : decode Y_M_isNext.2.1 16 = .ok (.iconst 0, 1) := by decide +kernel
theorem d_M_isNext_17 : decode Y_M_isNext.2.1 17 = .ok (.istore 4, 2) := by decide +kernel
theorem d_M_isNext_19 : decode Y_M_isNext.2.1 19 = .ok (.iload 4, 2) := by decide +kernel
theorem d_M_isNext_21 : decode Y_M_isNext.2.1 21 = .ok (.aload_n 0, 1) := by decide +kernel
theorem d_M_isNext_22 : decode Y_M_isNext.2.1 22 = .ok (.getfield 16, 3) := by decide +kernel
theorem d_M_isNext_25 : decode Y_M_isNext.2.1 25 = .ok (.iload_n 1, 1) := by decide +kernel
theorem d_M_isNext_26 : decode Y_M_isNext.2.1 26 = .ok (.iaload, 1) := by decide +kernel
theorem d_M_isNext_27 : decode Y_M_isNext.2.1 27 = .ok (.if_icmp .ge 34, 3) := by decide +kernel
theorem d_M_isNext_30 : decode Y_M_isNext.2.1 30 = .ok (.iload_n 3, 1) := by decide +kernel
theorem d_M_isNext_31 : decode Y_M_isNext.2.1 31 = .ok (.ifCond .ne 18, 3) := by decide +kernel
theorem d_M_isNext_34 : decode Y_M_isNext.2.1 34 = .ok (.aload_n 0, 1) := by decide +kernel
theorem d_M_isNext_35 : decode Y_M_isNext.2.1 35 = .ok (.getfield 19, 3) := by decide +kernel
theorem d_M_isNext_38 : decode Y_M_isNext.2.1 38 = .ok (.iconst 3, 1) := by decide +kernel
theorem d_M_isNext_39 : decode Y_M_isNext.2.1 39 = .ok (.iload_n 1, 1) := by decide +kernel
theorem d_M_isNext_40 : decode Y_M_isNext.2.1 40 = .ok (.imul, 1) := by decide +kernel
theorem d_M_isNext_41 : decode Y_M_isNext.2.1 41 = .ok (.iload 4, 2) := by decide +kernel
theorem d_M_isNext_43 : decode Y_M_isNext.2.1 43 = .ok (.iadd, 1) := by decide +kernel
theorem d_M_isNext_44 : decode Y_M_isNext.2.1 44 = .ok (.iaload, 1) := by decide +kernel
theorem d_M_isNext_45 : decode Y_M_isNext.2.1 45 = .ok (.iload_n 2, 1) := by decide +kernel
theorem d_M_isNext_46 : decode Y_M_isNext.2.1 46 = .ok (.if_icmp .ne 7, 3) := by decide +kernel
theorem d_M_isNext_49 : decode Y_M_isNext.2.1 49 = .ok (.iconst 1, 1) := by decide +kernel
theorem d_M_isNext_50 : decode Y_M_isNext.2.1 50 = .ok (.goto 4, 3) := by decide +kernel
theorem d_M_isNext_53 : decode Y_M_isNext.2.1 53 = .ok (.iconst 0, 1) := by decide +kernel
theorem d_M_isNext_54 : decode Y_M_isNext.2.1 54 = .ok (.istore_n 3, 1) := by decide +kernel
theorem d_M_isNext_55 : decode Y_M_isNext.2.1 55 = .ok (.iinc 4 1, 3) := by decide +kernel
theorem d_M_isNext_58 : decode Y_M_isNext.2.1 58 = .ok (.goto (-39), 3) := by decide +kernel
theorem d_M_isNext_61 : decode Y_M_isNext.2.1 61 = .ok (.iload_n 3, 1) := by decide +kernel
theorem d_M_isNext_62 : decode Y_M_isNext.2.1 62 = .ok (.ireturn, 1) := by decide +kernel
theorem m_M_isNext_0 {l : Launch} {D : DD} {d kc ks : Nat} {h : Hp} {Φ : Option AV → Hp → Prop} {x1 : Int} {x2 : Int} (hM : MS h) (v : 0 ≤ x1 ∧ x1 < 16 ∧ ((¬ xI h 103 (x1).toNat = x2 → (Ev l D Y_M_isNext d kc ks 19 [some (vr 100), some (vi x1), some (vi x2), some (vi (0 : Int)), some (vi (0 : Int))] [] h Φ)) ∧ (xI h 103 (x1).toNat = x2 → (Ev l D Y_M_isNext d kc ks 19 [some (vr 100), some (vi x1), some (vi x2), some (vi (1 : Int)), some (vi (0 : Int))] [] h Φ)))) : Ev l D Y_M_isNext d kc ks 0 [some (vr 100), some (vi x1), some (vi x2), none, none] [] h Φ := by
  refine a_aload_n d_M_isNext_0 rfl ?_
  refine a_getAe fl_M_13 d_M_isNext_1 (beq_iff_eq.mpr (KNM_100 hM)) (KRM_100_2 hM) ?_
  refine a_iload_n d_M_isNext_4 rfl ?_
  obtain ⟨c2, c3, v⟩ := v
  refine a_iald d_M_isNext_5 (Or.inl (KNM_103 hM)) c2 (lt_len (NNM_103 hM) c3) ?_
  refine a_iload_n d_M_isNext_6 rfl ?_
  obtain ⟨vt, vf⟩ := v
  refine a_icmp_ne (tgt := 14) d_M_isNext_7 (by decide) (fun c => ?_) (fun c => ?_)
  · have v := vt (c); clear vt vf
    refine a_iconst d_M_isNext_14 ⟨by decide, by decide⟩ ?_
    refine a_istore_n (L' := [some (vr 100), some (vi x1), some (vi x2), some (vi (0 : Int)), none]) d_M_isNext_15 (Nat.le_of_ble_eq_true rfl) rfl rfl ?_
    refine a_iconst d_M_isNext_16 ⟨by decide, by decide⟩ ?_
    refine a_istore (L' := [some (vr 100), some (vi x1), some (vi x2), some (vi (0 : Int)), some (vi (0 : Int))]) d_M_isNext_17 (Nat.le_of_ble_eq_true rfl) rfl rfl ?_
    exact v
  · have v := vf (Classical.not_not.mp c); clear vt vf
    refine a_iconst d_M_isNext_10 ⟨by decide, by decide⟩ ?_
    refine a_goto (tgt := 15) d_M_isNext_11 (by decide) ?_
    refine a_istore_n (L' := [some (vr 100), some (vi x1), some (vi x2), some (vi (1 : Int)), none]) d_M_isNext_15 (Nat.le_of_ble_eq_true rfl) rfl rfl ?_
    refine a_iconst d_M_isNext_16 ⟨by decide, by decide⟩ ?_
    refine a_istore (L' := [some (vr 100), some (vi x1), some (vi x2), some (vi (1 : Int)), some (vi (0 : Int))]) d_M_isNext_17 (Nat.le_of_ble_eq_true rfl) rfl rfl ?_
    exact v
theorem m_M_isNext_19 {l : Launch} {D : DD} {d kc ks : Nat} {h : Hp} {Φ : Option AV → Hp → Prop} {x1 : Int} {x2 : Int} {x3 : Int} {x4 : Int} (hM : MS h) (v : 0 ≤ x1 ∧ x1 < 16 ∧ ((x4 ≥ xI h 104 (x1).toNat → ((x3 = 0 ∨ x3 = 1) ∧ Φ (some (vi x3)) h)) ∧ (x4 < xI h 104 (x1).toNat → ((¬ x3 = 0 → (Ev l D Y_M_isNext d kc ks 54 [some (vr 100), some (vi x1), some (vi x2), some (vi x3), some (vi x4)] [vi (1 : Int)] h Φ)) ∧ (x3 = 0 → (0 ≤ wr ((wr ((3 : Int) * x1)) + x4) ∧ wr ((wr ((3 : Int) * x1)) + x4) < 48 ∧ ((¬ xI h 105 (wr ((wr ((3 : Int) * x1)) + x4)).toNat = x2 → (Ev l D Y_M_isNext d kc ks 54 [some (vr 100), some (vi x1), some (vi x2), some (vi x3), some (vi x4)] [vi (0 : Int)] h Φ)) ∧ (xI h 105 (wr ((wr ((3 : Int) * x1)) + x4)).toNat = x2 → (Ev l D Y_M_isNext d kc ks 54 [some (vr 100), some (vi x1), some (vi x2), some (vi x3), some (vi x4)] [vi (1 : Int)] h Φ))))))))) : Ev l D Y_M_isNext d kc ks 19 [some (vr 100), some (vi x1), some (vi x2), some (vi x3), some (vi x4)] [] h Φ := by
  refine a_iload d_M_isNext_19 rfl ?_
  refine a_aload_n d_M_isNext_21 rfl ?_
  refine a_getAe fl_M_16 d_M_isNext_22 (beq_iff_eq.mpr (KNM_100 hM)) (KRM_100_3 hM) ?_
  refine a_iload_n d_M_isNext_25 rfl ?_
  obtain ⟨c2, c3, v⟩ := v
  refine a_iald d_M_isNext_26 (Or.inl (KNM_104 hM)) c2 (lt_len (NNM_104 hM) c3) ?_
  obtain ⟨vt, vf⟩ := v
  refine a_icmp_ge (tgt := 61) d_M_isNext_27 (by decide) (fun c => ?_) (fun c => ?_)
  · have v := vt (c); clear vt vf
    refine a_iload_n d_M_isNext_61 rfl ?_
    exact a_zret d_M_isNext_62 rfl v.1 v.2
  · have v := vf (Int.not_le.mp c); clear vt vf
    refine a_iload_n d_M_isNext_30 rfl ?_
    obtain ⟨vt, vf⟩ := v
    refine a_if_ne (tgt := 49) d_M_isNext_31 (by decide) (fun c => ?_) (fun c => ?_)
    · have v := vt (c); clear vt vf
      refine a_iconst d_M_isNext_49 ⟨by decide, by decide⟩ ?_
      refine a_goto (tgt := 54) d_M_isNext_50 (by decide) ?_
      exact v
    · have v := vf (Classical.not_not.mp c); clear vt vf
      refine a_aload_n d_M_isNext_34 rfl ?_
      refine a_getAe fl_M_19 d_M_isNext_35 (beq_iff_eq.mpr (KNM_100 hM)) (KRM_100_4 hM) ?_
      refine a_iconst d_M_isNext_38 ⟨by decide, by decide⟩ ?_
      refine a_iload_n d_M_isNext_39 rfl ?_
      refine a_imul d_M_isNext_40 ?_
      refine a_iload d_M_isNext_41 rfl ?_
      refine a_iadd d_M_isNext_43 ?_
      obtain ⟨c5, c6, v⟩ := v
      refine a_iald d_M_isNext_44 (Or.inl (KNM_105 hM)) c5 (lt_len (NNM_105 hM) c6) ?_
      refine a_iload_n d_M_isNext_45 rfl ?_
      obtain ⟨vt, vf⟩ := v
      refine a_icmp_ne (tgt := 53) d_M_isNext_46 (by decide) (fun c => ?_) (fun c => ?_)
      · have v := vt (c); clear vt vf
        refine a_iconst d_M_isNext_53 ⟨by decide, by decide⟩ ?_
        exact v
      · have v := vf (Classical.not_not.mp c); clear vt vf
        refine a_iconst d_M_isNext_49 ⟨by decide, by decide⟩ ?_
        refine a_goto (tgt := 54) d_M_isNext_50 (by decide) ?_
        exact v
theorem m_M_isNext_54 {l : Launch} {D : DD} {d kc ks : Nat} {h : Hp} {Φ : Option AV → Hp → Prop} {x1 : Int} {x2 : Int} {x3 : Int} {x4 : Int} {y0 : Int} (hM : MS h) (v : Ev l D Y_M_isNext d kc ks 19 [some (vr 100), some (vi x1), some (vi x2), some (vi y0), some (vi (wr (x4 + (1 : Int))))] [] h Φ) : Ev l D Y_M_isNext d kc ks 54 [some (vr 100), some (vi x1), some (vi x2), some (vi x3), some (vi x4)] [vi y0] h Φ := by
  refine a_istore_n (L' := [some (vr 100), some (vi x1), some (vi x2), some (vi y0), some (vi x4)]) d_M_isNext_54 (Nat.le_of_ble_eq_true rfl) rfl rfl ?_
  refine a_iinc (L' := [some (vr 100), some (vi x1), some (vi x2), some (vi y0), some (vi (wr (x4 + (1 : Int))))]) d_M_isNext_55 rfl (Nat.le_of_ble_eq_true rfl) rfl rfl ?_
  refine a_goto (tgt := 19) d_M_isNext_58 (by decide) ?_
  exact v
theorem d_M_isRightOp_0 : decode Y_M_isRightOp.2.1 0 = .ok (.iload_n 2, 1) := by decide +kernel
theorem d_M_isRightOp_1 : decode Y_M_isRightOp.2.1 1 = .ok (.tableswitch 157 0 7 #[47, 62, 71, 102, 111, 113, 141, 148], 47) := by decide +kernel
theorem d_M_isRightOp_48 : decode Y_M_isRightOp.2.1 48 = .ok (.aload_n 0, 1) := by decide +kernel
theorem d_M_isRightOp_49 : decode Y_M_isRightOp.2.1 49 = .ok (.getfield 7, 3) := by decide +kernel
theorem d_M_isRightOp_52 : decode Y_M_isRightOp.2.1 52 = .ok (.iload_n 3, 1) := by decide +kernel
theorem d_M_isRightOp_53 : decode Y_M_isRightOp.2.1 53 = .ok (.iaload, 1) := by decide +kernel
theorem d_M_isRightOp_54 : decode Y_M_isRightOp.2.1 54 = .ok (.ifCond .ne 7, 3) := by decide +kernel
theorem d_M_isRightOp_57 : decode Y_M_isRightOp.2.1 57 = .ok (.iconst 1, 1) := by decide +kernel
theorem d_M_isRightOp_58 : decode Y_M_isRightOp.2.1 58 = .ok (.goto 4, 3) := by decide +kernel
theorem d_M_isRightOp_61 : decode Y_M_isRightOp.2.1 61 = .ok (.iconst 0, 1) := by decide +kernel
theorem d_M_isRightOp_62 : decode Y_M_isRightOp.2.1 62 = .ok (.ireturn, 1) := by decide +kernel
theorem d_M_isRightOp_63 : decode Y_M_isRightOp.2.1 63 = .ok (.iload 4, 2) := by decide +kernel
theorem d_M_isRightOp_65 : decode Y_M_isRightOp.2.1 65 = .ok (.iconst 0, 1) := by decide +kernel
theorem d_M_isRightOp_66 : decode Y_M_isRightOp.2.1 66 = .ok (.bipush 9, 2) := by decide +kernel
theorem d_M_isRightOp_68 : decode Y_M_isRightOp.2.1 68 = .ok (.invokestatic 127, 3) := by decide +kernel
theorem d_M_isRightOp_71 : decode Y_M_isRightOp.2.1 71 = .ok (.ireturn, 1) := by decide +kernel
theorem d_M_isRightOp_72 : decode Y_M_isRightOp.2.1 72 = .ok (.aload_n 0, 1) := by decide +kernel
theorem d_M_isRightOp_73 : decode Y_M_isRightOp.2.1 73 = .ok (.aload_n 0, 1) := by decide +kernel
theorem d_M_isRightOp_74 : decode Y_M_isRightOp.2.1 74 = .ok (.getfield 22, 3) := by decide +kernel
theorem d_M_isRightOp_77 : decode Y_M_isRightOp.2.1 77 = .ok (.iload_n 1, 1) := by decide +kernel
theorem d_M_isRightOp_78 : decode Y_M_isRightOp.2.1 78 = .ok (.iaload, 1) := by decide +kernel
theorem d_M_isRightOp_79 : decode Y_M_isRightOp.2.1 79 = .ok (.iload_n 3, 1) := by decide +kernel
theorem d_M_isRightOp_80 : decode Y_M_isRightOp.2.1 80 = .ok (.invokevirtual 149, 3) := by decide +kernel
theorem d_M_isRightOp_83 : decode Y_M_isRightOp.2.1 83 = .ok (.ifCond .eq 18, 3) := by decide +kernel
theorem d_M_isRightOp_86 : decode Y_M_isRightOp.2.1 86 = .ok (.iload 4, 2) := by decide +kernel
theorem d_M_isRightOp_88 : decode Y_M_isRightOp.2.1 88 = .ok (.iconst 0, 1) := by decide +kernel
theorem d_M_isRightOp_89 : decode Y_M_isRightOp.2.1 89 = .ok (.bipush 9, 2) := by decide +kernel
theorem d_M_isRightOp_91 : decode Y_M_isRightOp.2.1 91 = .ok (.invokestatic 127, 3) := by decide +kernel
theorem d_M_isRightOp_94 : decode Y_M_isRightOp.2.1 94 = .ok (.ifCond .eq 7, 3) := by decide +kernel
theorem d_M_isRightOp_97 : decode Y_M_isRightOp.2.1 97 = .ok (.iconst 1, 1) := by decide +kernel
theorem d_M_isRightOp_98 : decode Y_M_isRightOp.2.1 98 = .ok (.goto 4, 3) := by decide +kernel
theorem d_M_isRightOp_101 : decode Y_M_isRightOp.2.1 101 = .ok (.iconst 0, 1) := by decide +kernel
theorem d_M_isRightOp_102 : decode Y_M_isRightOp.2.1 102 = .ok (.ireturn, 1) := by decide +kernel
theorem d_M_isRightOp_103 : decode Y_M_isRightOp.2.1 103 = .ok (.iload 4, 2) := by decide +kernel
theorem d_M_isRightOp_105 : decode Y_M_isRightOp.2.1 105 = .ok (.iconst 0, 1) := by decide +kernel
theorem d_M_isRightOp_106 : decode Y_M_isRightOp.2.1 106 = .ok (.bipush 9, 2) := by decide +kernel
theorem d_M_isRightOp_108 : decode Y_M_isRightOp.2.1 108 = .ok (.invokestatic 127, 3) := by decide +kernel
theorem d_M_isRightOp_111 : decode Y_M_isRightOp.2.1 111 = .ok (.ireturn, 1) := by decide +kernel
theorem d_M_isRightOp_112 : decode Y_M_isRightOp.2.1 112 = .ok (.iconst 1, 1) := by decide +kernel
theorem d_M_isRightOp_113 : decode Y_M_isRightOp.2.1 113 = .ok (.ireturn, 1) := by decide +kernel
theorem d_M_isRightOp_114 : decode Y_M_isRightOp.2.1 114 = .ok (.iload_n 3, 1) := by decide +kernel
theorem d_M_isRightOp_115 : decode Y_M_isRightOp.2.1 115 = .ok (.iconst 0, 1) := by decide +kernel
theorem d_M_isRightOp_116 : decode Y_M_isRightOp.2.1 116 = .ok (.iconst 3, 1) := by decide +kernel
theorem d_M_isRightOp_117 : decode Y_M_isRightOp.2.1 117 = .ok (.invokestatic 127, 3) := by decide +kernel
theorem d_M_isRightOp_120 : decode Y_M_isRightOp.2.1 120 = .ok (.ifCond .eq 20, 3) := by decide +kernel
theorem d_M_isRightOp_123 : decode Y_M_isRightOp.2.1 123 = .ok (.aload_n 0, 1) := by decide +kernel
theorem d_M_isRightOp_124 : decode Y_M_isRightOp.2.1 124 = .ok (.getfield 28, 3) := by decide +kernel
theorem d_M_isRightOp_127 : decode Y_M_isRightOp.2.1 127 = .ok (.iload 4, 2) := by decide +kernel
theorem d_M_isRightOp_129 : decode Y_M_isRightOp.2.1 129 = .ok (.iaload, 1) := by decide +kernel
theorem d_M_isRightOp_130 : decode Y_M_isRightOp.2.1 130 = .ok (.invokestatic 153, 3) := by decide +kernel
theorem d_M_isRightOp_133 : decode Y_M_isRightOp.2.1 133 = .ok (.ifCond .eq 7, 3) := by decide +kernel
theorem d_M_isRightOp_136 : decode Y_M_isRightOp.2.1 136 = .ok (.iconst 1, 1) := by decide +kernel
theorem d_M_isRightOp_137 : decode Y_M_isRightOp.2.1 137 = .ok (.goto 4, 3) := by decide +kernel
theorem d_M_isRightOp_140 : decode Y_M_isRightOp.2.1 140 = .ok (.iconst 0, 1) := by decide +kernel
theorem d_M_isRightOp_141 : decode Y_M_isRightOp.2.1 141 = .ok (.ireturn, 1) := by decide +kernel
theorem d_M_isRightOp_142 : decode Y_M_isRightOp.2.1 142 = .ok (.iload_n 3, 1) := by decide +kernel
theorem d_M_isRightOp_143 : decode Y_M_isRightOp.2.1 143 = .ok (.iconst 0, 1) := by decide +kernel
theorem d_M_isRightOp_144 : decode Y_M_isRightOp.2.1 144 = .ok (.iconst 3, 1) := by decide +kernel
theorem d_M_isRightOp_145 : decode Y_M_isRightOp.2.1 145 = .ok (.invokestatic 127, 3) := by decide +kernel
theorem d_M_isRightOp_148 : decode Y_M_isRightOp.2.1 148 = .ok (.ireturn, 1) := by decide +kernel
theorem d_M_isRightOp_149 : decode Y_M_isRightOp.2.1 149 = .ok (.iload 4, 2) := by decide +kernel
theorem d_M_isRightOp_151 : decode Y_M_isRightOp.2.1 151 = .ok (.iconst 0, 1) := by decide +kernel
theorem d_M_isRightOp_152 : decode Y_M_isRightOp.2.1 152 = .ok (.bipush 9, 2) := by decide +kernel
theorem d_M_isRightOp_154 : decode Y_M_isRightOp.2.1 154 = .ok (.invokestatic 127, 3) := by decide +kernel
theorem d_M_isRightOp_157 : decode Y_M_isRightOp.2.1 157 = .ok (.ireturn, 1) := by decide +kernel
theorem d_M_isRightOp_158 : decode Y_M_isRightOp.2.1 158 = .ok (.iconst 0, 1) := by decide +kernel
theorem d_M_isRightOp_159 : decode Y_M_isRightOp.2.1 159 = .ok (.ireturn, 1) := by decide +kernel
theorem m_M_isRightOp_0 {l : Launch} {D : DD} {d kc ks : Nat} {h : Hp} {Φ : Option AV → Hp → Prop} {x1 : Int} {x2 : Int} {x3 : Int} {x4 : Int} (hM : MS h) (v : (x2 = (0 : Int) → (0 ≤ x3 ∧ x3 < 16 ∧ ((¬ xI h 102 (x3).toNat = 0 → (Φ (some (vi (0 : Int))) h)) ∧ (xI h 102 (x3).toNat = 0 → (Φ (some (vi (1 : Int))) h))))) ∧ (x2 = (1 : Int) → (Ev l D Y_M_in d 0 0 0 [some (vi x4), some (vi (0 : Int)), some (vi (9 : Int))] [] h (ki (fun r1 h1 => MS h1 ∧ ((r1 = 0 ∨ r1 = 1) ∧ Φ (some (vi r1)) h1))))) ∧ (x2 = (2 : Int) → (0 ≤ x1 ∧ x1 < 48 ∧ (Ev l D Y_M_isNext d 0 0 0 [some (vr 100), some (vi (xI h 107 (x1).toNat)), some (vi x3), none, none] [] h (ki (fun r2 h2 => MS h2 ∧ ((r2 = 0 → (Φ (some (vi (0 : Int))) h2)) ∧ (¬ r2 = 0 → (Ev l D Y_M_in d 0 0 0 [some (vi x4), some (vi (0 : Int)), some (vi (9 : Int))] [] h2 (ki (fun r3 h3 => MS h3 ∧ ((r3 = 0 → (Φ (some (vi (0 : Int))) h3)) ∧ (¬ r3 = 0 → (Φ (some (vi (1 : Int))) h3))))))))))))) ∧ (x2 = (3 : Int) → (Ev l D Y_M_in d 0 0 0 [some (vi x4), some (vi (0 : Int)), some (vi (9 : Int))] [] h (ki (fun r4 h4 => MS h4 ∧ ((r4 = 0 ∨ r4 = 1) ∧ Φ (some (vi r4)) h4))))) ∧ (x2 = (4 : Int) → (Φ (some (vi (1 : Int))) h)) ∧ (x2 = (5 : Int) → (Ev l D Y_M_in d 0 0 0 [some (vi x3), some (vi (0 : Int)), some (vi (3 : Int))] [] h (ki (fun r5 h5 => MS h5 ∧ ((r5 = 0 → (Φ (some (vi (0 : Int))) h5)) ∧ (¬ r5 = 0 → (0 ≤ x4 ∧ x4 < 48 ∧ (Ev l D Y_M_canBeCalled d 0 0 0 [some (vi (xI h5 109 (x4).toNat))] [] h5 (ki (fun r6 h6 => MS h6 ∧ ((r6 = 0 → (Φ (some (vi (0 : Int))) h6)) ∧ (¬ r6 = 0 → (Φ (some (vi (1 : Int))) h6))))))))))))) ∧ (x2 = (6 : Int) → (Ev l D Y_M_in d 0 0 0 [some (vi x3), some (vi (0 : Int)), some (vi (3 : Int))] [] h (ki (fun r7 h7 => MS h7 ∧ ((r7 = 0 ∨ r7 = 1) ∧ Φ (some (vi r7)) h7))))) ∧ (x2 = (7 : Int) → (Ev l D Y_M_in d 0 0 0 [some (vi x4), some (vi (0 : Int)), some (vi (9 : Int))] [] h (ki (fun r8 h8 => MS h8 ∧ ((r8 = 0 ∨ r8 = 1) ∧ Φ (some (vi r8)) h8))))) ∧ (x2 < (0 : Int) ∨ (7 : Int) < x2 → (Φ (some (vi (0 : Int))) h))) : Ev l D Y_M_isRightOp (d + 1) kc ks 0 [some (vr 100), some (vi x1), some (vi x2), some (vi x3), some (vi x4)] [] h Φ := by
  refine a_iload_n d_M_isRightOp_0 rfl ?_
  obtain ⟨v0, v1, v2, v3, v4, v5, v6, v7, vd⟩ := v
  refine a_tab (tgt := 158) [48, 63, 72, 103, 112, 114, 142, 149] d_M_isRightOp_1 (by decide) (by decide) (by decide) (fun c => ?_) (fun i t hi c => ?_)
  · have v := vd c; clear vd v0 v1 v2 v3 v4 v5 v6 v7
    refine a_iconst d_M_isRightOp_158 ⟨by decide, by decide⟩ ?_
    exact a_zret d_M_isRightOp_159 rfl (Or.inl rfl) v
  · match i, hi, c with
    | 0, hi, c =>
      obtain rfl : 48 = t := Option.some.inj hi
      have v := v0 (by omega); clear vd v0 v1 v2 v3 v4 v5 v6 v7
      refine a_aload_n d_M_isRightOp_48 rfl ?_
      refine a_getAe fl_M_7 d_M_isRightOp_49 (beq_iff_eq.mpr (KNM_100 hM)) (KRM_100_1 hM) ?_
      refine a_iload_n d_M_isRightOp_52 rfl ?_
      obtain ⟨c2, c3, v⟩ := v
      refine a_iald d_M_isRightOp_53 (Or.inl (KNM_102 hM)) c2 (lt_len (NNM_102 hM) c3) ?_
      obtain ⟨vt, vf⟩ := v
      refine a_if_ne (tgt := 61) d_M_isRightOp_54 (by decide) (fun c => ?_) (fun c => ?_)
      · have v := vt (c); clear vt vf
        refine a_iconst d_M_isRightOp_61 ⟨by decide, by decide⟩ ?_
        exact a_zret d_M_isRightOp_62 rfl (Or.inl rfl) v
      · have v := vf (Classical.not_not.mp c); clear vt vf
        refine a_iconst d_M_isRightOp_57 ⟨by decide, by decide⟩ ?_
        refine a_goto (tgt := 62) d_M_isRightOp_58 (by decide) ?_
        exact a_zret d_M_isRightOp_62 rfl (Or.inr rfl) v
    | 1, hi, c =>
      obtain rfl : 63 = t := Option.some.inj hi
      have v := v1 (by omega); clear vd v0 v1 v2 v3 v4 v5 v6 v7
      refine a_iload d_M_isRightOp_63 rfl ?_
      refine a_iconst d_M_isRightOp_65 ⟨by decide, by decide⟩ ?_
      refine a_bipush d_M_isRightOp_66 ⟨by decide, by decide⟩ (by decide) ?_
      refine b_callS (as := [vi x4, vi (0 : Int), vi (9 : Int)]) (st := []) (kc1 := 0) (ks1 := 0) (kc2 := kc) (ks2 := ks) (d' := d) ml_M_127 rfl d_M_isRightOp_68 rfl rfl (Nat.le_of_ble_eq_true rfl) rfl (Nat.le_refl _) (by omega) (by omega) ?_
      refine Ev.mono v ?_
      intro u h1 v
      obtain ⟨r1, rfl, v⟩ := ki_el v
      obtain ⟨hm1, v⟩ := v
      change Ev l D Y_M_isRightOp _ _ _ 71 [some (vr 100), some (vi x1), some (vi x2), some (vi x3), some (vi x4)] [vi r1] _ _
      exact a_zret d_M_isRightOp_71 rfl v.1 v.2
    | 2, hi, c =>
      obtain rfl : 72 = t := Option.some.inj hi
      have v := v2 (by omega); clear vd v0 v1 v2 v3 v4 v5 v6 v7
      refine a_aload_n d_M_isRightOp_72 rfl ?_
      refine a_aload_n d_M_isRightOp_73 rfl ?_
      refine a_getAe fl_M_22 d_M_isRightOp_74 (beq_iff_eq.mpr (KNM_100 hM)) (KRM_100_6 hM) ?_
      refine a_iload_n d_M_isRightOp_77 rfl ?_
      obtain ⟨c5, c6, v⟩ := v
      refine a_iald d_M_isRightOp_78 (Or.inl (KNM_107 hM)) c5 (lt_len (NNM_107 hM) c6) ?_
      refine a_iload_n d_M_isRightOp_79 rfl ?_
      refine b_callV (as := [vi (xI h 107 (x1).toNat), vi x3]) (b := 100) (st := []) (kd := 12) (kc1 := 0) (ks1 := 0) (kc2 := kc) (ks2 := ks) (d' := d) ml_M_149 rfl d_M_isRightOp_80 rfl rfl (Nat.le_of_ble_eq_true rfl) (by decide) rfl (Nat.le_refl _) (by omega) (by omega) (KNM_100 hM) ?_
      refine Ev.mono v ?_
      intro u h2 v
      obtain ⟨r2, rfl, v⟩ := ki_el v
      obtain ⟨hm2, v⟩ := v
      change Ev l D Y_M_isRightOp _ _ _ 83 [some (vr 100), some (vi x1), some (vi x2), some (vi x3), some (vi x4)] [vi r2] _ _
      obtain ⟨vt, vf⟩ := v
      refine a_if_eq (tgt := 101) d_M_isRightOp_83 (by decide) (fun c => ?_) (fun c => ?_)
      · have v := vt (c); clear vt vf
        refine a_iconst d_M_isRightOp_101 ⟨by decide, by decide⟩ ?_
        exact a_zret d_M_isRightOp_102 rfl (Or.inl rfl) v
      · have v := vf (c); clear vt vf
        refine a_iload d_M_isRightOp_86 rfl ?_
        refine a_iconst d_M_isRightOp_88 ⟨by decide, by decide⟩ ?_
        refine a_bipush d_M_isRightOp_89 ⟨by decide, by decide⟩ (by decide) ?_
        refine b_callS (as := [vi x4, vi (0 : Int), vi (9 : Int)]) (st := []) (kc1 := 0) (ks1 := 0) (kc2 := kc) (ks2 := ks) (d' := d) ml_M_127 rfl d_M_isRightOp_91 rfl rfl (Nat.le_of_ble_eq_true rfl) rfl (Nat.le_refl _) (by omega) (by omega) ?_
        refine Ev.mono v ?_
        intro u h3 v
        obtain ⟨r3, rfl, v⟩ := ki_el v
        obtain ⟨hm3, v⟩ := v
        change Ev l D Y_M_isRightOp _ _ _ 94 [some (vr 100), some (vi x1), some (vi x2), some (vi x3), some (vi x4)] [vi r3] _ _
        obtain ⟨vt, vf⟩ := v
        refine a_if_eq (tgt := 101) d_M_isRightOp_94 (by decide) (fun c => ?_) (fun c => ?_)
        · have v := vt (c); clear vt vf
          refine a_iconst d_M_isRightOp_101 ⟨by decide, by decide⟩ ?_
          exact a_zret d_M_isRightOp_102 rfl (Or.inl rfl) v
        · have v := vf (c); clear vt vf
          refine a_iconst d_M_isRightOp_97 ⟨by decide, by decide⟩ ?_
          refine a_goto (tgt := 102) d_M_isRightOp_98 (by decide) ?_
          exact a_zret d_M_isRightOp_102 rfl (Or.inr rfl) v
    | 3, hi, c =>
      obtain rfl : 103 = t := Option.some.inj hi
      have v := v3 (by omega); clear vd v0 v1 v2 v3 v4 v5 v6 v7
      refine a_iload d_M_isRightOp_103 rfl ?_
      refine a_iconst d_M_isRightOp_105 ⟨by decide, by decide⟩ ?_
      refine a_bipush d_M_isRightOp_106 ⟨by decide, by decide⟩ (by decide) ?_
      refine b_callS (as := [vi x4, vi (0 : Int), vi (9 : Int)]) (st := []) (kc1 := 0) (ks1 := 0) (kc2 := kc) (ks2 := ks) (d' := d) ml_M_127 rfl d_M_isRightOp_108 rfl rfl (Nat.le_of_ble_eq_true rfl) rfl (Nat.le_refl _) (by omega) (by omega) ?_
      refine Ev.mono v ?_
      intro u h4 v
      obtain ⟨r4, rfl, v⟩ := ki_el v
      obtain ⟨hm4, v⟩ := v
      change Ev l D Y_M_isRightOp _ _ _ 111 [some (vr 100), some (vi x1), some (vi x2), some (vi x3), some (vi x4)] [vi r4] _ _
      exact a_zret d_M_isRightOp_111 rfl v.1 v.2
    | 4, hi, c =>
      obtain rfl : 112 = t := Option.some.inj hi
      have v := v4 (by omega); clear vd v0 v1 v2 v3 v4 v5 v6 v7
      refine a_iconst d_M_isRightOp_112 ⟨by decide, by decide⟩ ?_
      exact a_zret d_M_isRightOp_113 rfl (Or.inr rfl) v
    | 5, hi, c =>
      obtain rfl : 114 = t := Option.some.inj hi
      have v := v5 (by omega); clear vd v0 v1 v2 v3 v4 v5 v6 v7
      refine a_iload_n d_M_isRightOp_114 rfl ?_
      refine a_iconst d_M_isRightOp_115 ⟨by decide, by decide⟩ ?_
      refine a_iconst d_M_isRightOp_116 ⟨by decide, by decide⟩ ?_
      refine b_callS (as := [vi x3, vi (0 : Int), vi (3 : Int)]) (st := []) (kc1 := 0) (ks1 := 0) (kc2 := kc) (ks2 := ks) (d' := d) ml_M_127 rfl d_M_isRightOp_117 rfl rfl (Nat.le_of_ble_eq_true rfl) rfl (Nat.le_refl _) (by omega) (by omega) ?_
      refine Ev.mono v ?_
      intro u h5 v
      obtain ⟨r5, rfl, v⟩ := ki_el v
      obtain ⟨hm5, v⟩ := v
      change Ev l D Y_M_isRightOp _ _ _ 120 [some (vr 100), some (vi x1), some (vi x2), some (vi x3), some (vi x4)] [vi r5] _ _
      obtain ⟨vt, vf⟩ := v
      refine a_if_eq (tgt := 140) d_M_isRightOp_120 (by decide) (fun c => ?_) (fun c => ?_)
      · have v := vt (c); clear vt vf
        refine a_iconst d_M_isRightOp_140 ⟨by decide, by decide⟩ ?_
        exact a_zret d_M_isRightOp_141 rfl (Or.inl rfl) v
      · have v := vf (c); clear vt vf
        refine a_aload_n d_M_isRightOp_123 rfl ?_
        refine a_getAe fl_M_28 d_M_isRightOp_124 (beq_iff_eq.mpr (KNM_100 hm5)) (KRM_100_8 hm5) ?_
        refine a_iload d_M_isRightOp_127 rfl ?_
        obtain ⟨c9, c10, v⟩ := v
        refine a_iald d_M_isRightOp_129 (Or.inl (KNM_109 hm5)) c9 (lt_len (NNM_109 hm5) c10) ?_
        refine b_callS (as := [vi (xI h5 109 (x4).toNat)]) (st := []) (kc1 := 0) (ks1 := 0) (kc2 := kc) (ks2 := ks) (d' := d) ml_M_153 rfl d_M_isRightOp_130 rfl rfl (Nat.le_of_ble_eq_true rfl) rfl (Nat.le_refl _) (by omega) (by omega) ?_
        refine Ev.mono v ?_
        intro u h6 v
        obtain ⟨r6, rfl, v⟩ := ki_el v
        obtain ⟨hm6, v⟩ := v
        change Ev l D Y_M_isRightOp _ _ _ 133 [some (vr 100), some (vi x1), some (vi x2), some (vi x3), some (vi x4)] [vi r6] _ _
        obtain ⟨vt, vf⟩ := v
        refine a_if_eq (tgt := 140) d_M_isRightOp_133 (by decide) (fun c => ?_) (fun c => ?_)
        · have v := vt (c); clear vt vf
          refine a_iconst d_M_isRightOp_140 ⟨by decide, by decide⟩ ?_
          exact a_zret d_M_isRightOp_141 rfl (Or.inl rfl) v
        · have v := vf (c); clear vt vf
          refine a_iconst d_M_isRightOp_136 ⟨by decide, by decide⟩ ?_
          refine a_goto (tgt := 141) d_M_isRightOp_137 (by decide) ?_
          exact a_zret d_M_isRightOp_141 rfl (Or.inr rfl) v
    | 6, hi, c =>
      obtain rfl : 142 = t := Option.some.inj hi
      have v := v6 (by omega); clear vd v0 v1 v2 v3 v4 v5 v6 v7
      refine a_iload_n d_M_isRightOp_142 rfl ?_
      refine a_iconst d_M_isRightOp_143 ⟨by decide, by decide⟩ ?_
      refine a_iconst d_M_isRightOp_144 ⟨by decide, by decide⟩ ?_
      refine b_callS (as := [vi x3, vi (0 : Int), vi (3 : Int)]) (st := []) (kc1 := 0) (ks1 := 0) (kc2 := kc) (ks2 := ks) (d' := d) ml_M_127 rfl d_M_isRightOp_145 rfl rfl (Nat.le_of_ble_eq_true rfl) rfl (Nat.le_refl _) (by omega) (by omega) ?_
      refine Ev.mono v ?_
      intro u h7 v
      obtain ⟨r7, rfl, v⟩ := ki_el v
      obtain ⟨hm7, v⟩ := v
      change Ev l D Y_M_isRightOp _ _ _ 148 [some (vr 100), some (vi x1), some (vi x2), some (vi x3), some (vi x4)] [vi r7] _ _
      exact a_zret d_M_isRightOp_148 rfl v.1 v.2
    | 7, hi, c =>
      obtain rfl : 149 = t := Option.some.inj hi
      have v := v7 (by omega); clear vd v0 v1 v2 v3 v4 v5 v6 v7
      refine a_iload d_M_isRightOp_149 rfl ?_
      refine a_iconst d_M_isRightOp_151 ⟨by decide, by decide⟩ ?_
      refine a_bipush d_M_isRightOp_152 ⟨by decide, by decide⟩ (by decide) ?_
      refine b_callS (as := [vi x4, vi (0 : Int), vi (9 : Int)]) (st := []) (kc1 := 0) (ks1 := 0) (kc2 := kc) (ks2 := ks) (d' := d) ml_M_127 rfl d_M_isRightOp_154 rfl rfl (Nat.le_of_ble_eq_true rfl) rfl (Nat.le_refl _) (by omega) (by omega) ?_
      refine Ev.mono v ?_
      intro u h8 v
      obtain ⟨r8, rfl, v⟩ := ki_el v
      obtain ⟨hm8, v⟩ := v
      change Ev l D Y_M_isRightOp _ _ _ 157 [some (vr 100), some (vi x1), some (vi x2), some (vi x3), some (vi x4)] [vi r8] _ _
      exact a_zret d_M_isRightOp_157 rfl v.1 v.2
    | i + 8, hi, c => exact absurd hi (by simp)
theorem d_M_op_0 : decode Y_M_op.2.1 0 = .ok (.aload_n 0, 1) := by decide +kernel
theorem d_M_op_1 : decode Y_M_op.2.1 1 = .ok (.iload_n 1, 1) := by decide +kernel
theorem d_M_op_2 : decode Y_M_op.2.1 2 = .ok (.invokevirtual 156, 3) := by decide +kernel
theorem d_M_op_5 : decode Y_M_op.2.1 5 = .ok (.ifCond .eq 34, 3) := by decide +kernel
theorem d_M_op_8 : decode Y_M_op.2.1 8 = .ok (.iload_n 2, 1) := by decide +kernel
theorem d_M_op_9 : decode Y_M_op.2.1 9 = .ok (.iconst 0, 1) := by decide +kernel
theorem d_M_op_10 : decode Y_M_op.2.1 10 = .ok (.iconst 4, 1) := by decide +kernel
theorem d_M_op_11 : decode Y_M_op.2.1 11 = .ok (.invokestatic 127, 3) := by decide +kernel
theorem d_M_op_14 : decode Y_M_op.2.1 14 = .ok (.ifCond .eq 11, 3) := by decide +kernel
theorem d_M_op_17 : decode Y_M_op.2.1 17 = .ok (.aload_n 0, 1) := by decide +kernel
theorem d_M_op_18 : decode Y_M_op.2.1 18 = .ok (.iload_n 3, 1) := by decide +kernel
theorem d_M_op_19 : decode Y_M_op.2.1 19 = .ok (.invokevirtual 141, 3) := by decide +kernel
theorem d_M_op_22 : decode Y_M_op.2.1 22 = .ok (.ifCond .eq 17, 3) := by decide +kernel
theorem d_M_op_25 : decode Y_M_op.2.1 25 = .ok (.iload_n 2, 1) := by decide +kernel
theorem d_M_op_26 : decode Y_M_op.2.1 26 = .ok (.iconst 5, 1) := by decide +kernel
theorem d_M_op_27 : decode Y_M_op.2.1 27 = .ok (.if_icmp .ne 15, 3) := by decide +kernel
theorem d_M_op_30 : decode Y_M_op.2.1 30 = .ok (.aload_n 0, 1) := by decide +kernel
theorem d_M_op_31 : decode Y_M_op.2.1 31 = .ok (.iload 4, 2) := by decide +kernel
theorem d_M_op_33 : decode Y_M_op.2.1 33 = .ok (.invokevirtual 156, 3) := by decide +kernel
theorem d_M_op_36 : decode Y_M_op.2.1 36 = .ok (.ifCond .ne 6, 3) := by decide +kernel
theorem d_M_op_39 : decode Y_M_op.2.1 39 = .ok (.bipush (-101), 2) := by decide +kernel
theorem d_M_op_41 : decode Y_M_op.2.1 41 = .ok (.ireturn, 1) := by decide +kernel
theorem d_M_op_42 : decode Y_M_op.2.1 42 = .ok (.aload_n 0, 1) := by decide +kernel
theorem d_M_op_43 : decode Y_M_op.2.1 43 = .ok (.iload_n 1, 1) := by decide +kernel
theorem d_M_op_44 : decode Y_M_op.2.1 44 = .ok (.iload_n 2, 1) := by decide +kernel
theorem d_M_op_45 : decode Y_M_op.2.1 45 = .ok (.iload_n 3, 1) := by decide +kernel
theorem d_M_op_46 : decode Y_M_op.2.1 46 = .ok (.iload 4, 2) := by decide +kernel
theorem d_M_op_48 : decode Y_M_op.2.1 48 = .ok (.invokevirtual 159, 3) := by decide +kernel
theorem d_M_op_51 : decode Y_M_op.2.1 51 = .ok (.ifCond .ne 6, 3) := by decide +kernel
theorem d_M_op_54 : decode Y_M_op.2.1 54 = .ok (.bipush (-102), 2) := by decide +kernel
theorem d_M_op_56 : decode Y_M_op.2.1 56 = .ok (.ireturn, 1) := by decide +kernel
theorem d_M_op_57 : decode Y_M_op.2.1 57 = .ok (.aload_n 0, 1) := by decide +kernel
theorem d_M_op_58 : decode Y_M_op.2.1 58 = .ok (.getfield 28, 3) := by decide +kernel
theorem d_M_op_61 : decode Y_M_op.2.1 61 = .ok (.iload_n 1, 1) := by decide +kernel
theorem d_M_op_62 : decode Y_M_op.2.1 62 = .ok (.iaload, 1) := by decide +kernel
theorem d_M_op_63 : decode Y_M_op.2.1 63 = .ok (.iconst 1, 1) := by decide +kernel
theorem d_M_op_64 : decode Y_M_op.2.1 64 = .ok (.if_icmp .ne 6, 3) := by decide +kernel
theorem d_M_op_67 : decode Y_M_op.2.1 67 = .ok (.bipush (-103), 2) := by decide +kernel
theorem d_M_op_69 : decode Y_M_op.2.1 69 = .ok (.ireturn, 1) := by decide +kernel
theorem d_M_op_70 : decode Y_M_op.2.1 70 = .ok (.aload_n 0, 1) := by decide +kernel
theorem d_M_op_71 : decode Y_M_op.2.1 71 = .ok (.getfield 163, 3) := by decide +kernel
theorem d_M_op_74 : decode Y_M_op.2.1 74 = .ok (.sipush 160, 3) := by decide +kernel
theorem d_M_op_77 : decode Y_M_op.2.1 77 = .ok (.if_icmp .eq 14, 3) := by decide +kernel
theorem d_M_op_80 : decode Y_M_op.2.1 80 = .ok (.aload_n 0, 1) := by decide +kernel
theorem d_M_op_81 : decode Y_M_op.2.1 81 = .ok (.getfield 35, 3) := by decide +kernel
theorem d_M_op_84 : decode Y_M_op.2.1 84 = .ok (.iload_n 1, 1) := by decide +kernel
theorem d_M_op_85 : decode Y_M_op.2.1 85 = .ok (.iaload, 1) := by decide +kernel
theorem d_M_op_86 : decode Y_M_op.2.1 86 = .ok (.bipush 24, 2) := by decide +kernel
theorem d_M_op_88 : decode Y_M_op.2.1 88 = .ok (.if_icmp .ne 6, 3) := by decide +kernel
theorem d_M_op_91 : decode Y_M_op.2.1 91 = .ok (.bipush (-104), 2) := by decide +kernel
theorem d_M_op_93 : decode Y_M_op.2.1 93 = .ok (.ireturn, 1) := by decide +kernel
theorem d_M_op_94 : decode Y_M_op.2.1 94 = .ok (.aload_n 0, 1) := by decide +kernel
theorem d_M_op_95 : decode Y_M_op.2.1 95 = .ok (.getfield 41, 3) := by decide +kernel
theorem d_M_op_98 : decode Y_M_op.2.1 98 = .ok (.aload_n 0, 1) := by decide +kernel
theorem d_M_op_99 : decode Y_M_op.2.1 99 = .ok (.getfield 163, 3) := by decide +kernel
theorem d_M_op_102 : decode Y_M_op.2.1 102 = .ok (.iload_n 2, 1) := by decide +kernel
theorem d_M_op_103 : decode Y_M_op.2.1 103 = .ok (.iastore, 1) := by decide +kernel
theorem d_M_op_104 : decode Y_M_op.2.1 104 = .ok (.aload_n 0, 1) := by decide +kernel
theorem d_M_op_105 : decode Y_M_op.2.1 105 = .ok (.getfield 44, 3) := by decide +kernel
theorem d_M_op_108 : decode Y_M_op.2.1 108 = .ok (.aload_n 0, 1) := by decide +kernel
theorem d_M_op_109 : decode Y_M_op.2.1 109 = .ok (.getfield 163, 3) := by decide +kernel
theorem d_M_op_112 : decode Y_M_op.2.1 112 = .ok (.iload_n 3, 1) := by decide +kernel
theorem d_M_op_113 : decode Y_M_op.2.1 113 = .ok (.iastore, 1) := by decide +kernel
theorem d_M_op_114 : decode Y_M_op.2.1 114 = .ok (.aload_n 0, 1) := by decide +kernel
theorem d_M_op_115 : decode Y_M_op.2.1 115 = .ok (.getfield 47, 3) := by decide +kernel
theorem d_M_op_118 : decode Y_M_op.2.1 118 = .ok (.aload_n 0, 1) := by decide +kernel
theorem d_M_op_119 : decode Y_M_op.2.1 119 = .ok (.getfield 163, 3) := by decide +kernel
theorem d_M_op_122 : decode Y_M_op.2.1 122 = .ok (.iload_n 2, 1) := by decide +kernel
theorem d_M_op_123 : decode Y_M_op.2.1 123 = .ok (.iconst 4, 1) := by decide +kernel
theorem d_M_op_124 : decode Y_M_op.2.1 124 = .ok (.if_icmp .ne 8, 3) := by decide +kernel
theorem d_M_op_127 : decode Y_M_op.2.1 127 = .ok (.bipush 9, 2) := by decide +kernel
theorem d_M_op_129 : decode Y_M_op.2.1 129 = .ok (.goto 5, 3) := by decide +kernel
theorem d_M_op_132 : decode Y_M_op.2.1 132 = .ok (.iload 4, 2) := by decide +kernel
theorem d_M_op_134 : decode Y_M_op.2.1 134 = .ok (.iastore, 1) := by decide +kernel
theorem d_M_op_135 : decode Y_M_op.2.1 135 = .ok (.aload_n 0, 1) := by decide +kernel
theorem d_M_op_136 : decode Y_M_op.2.1 136 = .ok (.getfield 38, 3) := by decide +kernel
theorem d_M_op_139 : decode Y_M_op.2.1 139 = .ok (.bipush 24, 2) := by decide +kernel
theorem d_M_op_141 : decode Y_M_op.2.1 141 = .ok (.iload_n 1, 1) := by decide +kernel
theorem d_M_op_142 : decode Y_M_op.2.1 142 = .ok (.imul, 1) := by decide +kernel
theorem d_M_op_143 : decode Y_M_op.2.1 143 = .ok (.aload_n 0, 1) := by decide +kernel
theorem d_M_op_144 : decode Y_M_op.2.1 144 = .ok (.getfield 35, 3) := by decide +kernel
theorem d_M_op_147 : decode Y_M_op.2.1 147 = .ok (.iload_n 1, 1) := by decide +kernel
theorem d_M_op_148 : decode Y_M_op.2.1 148 = .ok (.iaload, 1) := by decide +kernel
theorem d_M_op_149 : decode Y_M_op.2.1 149 = .ok (.iadd, 1) := by decide +kernel
theorem d_M_op_150 : decode Y_M_op.2.1 150 = .ok (.aload_n 0, 1) := by decide +kernel
theorem d_M_op_151 : decode Y_M_op.2.1 151 = .ok (.getfield 163, 3) := by decide +kernel
theorem d_M_op_154 : decode Y_M_op.2.1 154 = .ok (.iastore, 1) := by decide +kernel
theorem d_M_op_155 : decode Y_M_op.2.1 155 = .ok (.aload_n 0, 1) := by decide +kernel
theorem d_M_op_156 : decode Y_M_op.2.1 156 = .ok (.dup, 1) := by decide +kernel
theorem d_M_op_157 : decode Y_M_op.2.1 157 = .ok (.getfield 163, 3) := by decide +kernel
theorem d_M_op_160 : decode Y_M_op.2.1 160 = .ok (.iconst 1, 1) := by decide +kernel
theorem d_M_op_161 : decode Y_M_op.2.1 161 = .ok (.iadd, 1) := by decide +kernel
theorem d_M_op_162 : decode Y_M_op.2.1 162 = .ok (.putfield 163, 3) := by decide +kernel
theorem d_M_op_165 : decode Y_M_op.2.1 165 = .ok (.aload_n 0, 1) := by decide +kernel
theorem d_M_op_166 : decode Y_M_op.2.1 166 = .ok (.getfield 35, 3) := by decide +kernel
theorem d_M_op_169 : decode Y_M_op.2.1 169 = .ok (.iload_n 1, 1) := by decide +kernel
theorem d_M_op_170 : decode Y_M_op.2.1 170 = .ok (.dup2, 1) := by decide +kernel
theorem d_M_op_171 : decode Y_M_op.2.1 171 = .ok (.iaload, 1) := by decide +kernel
theorem d_M_op_172 : decode Y_M_op.2.1 172 = .ok (.iconst 1, 1) := by decide +kernel
theorem d_M_op_173 : decode Y_M_op.2.1 173 = .ok (.iadd, 1) := by decide +kernel
theorem d_M_op_174 : decode Y_M_op.2.1 174 = .ok (.iastore, 1) := by decide +kernel
theorem d_M_op_175 : decode Y_M_op.2.1 175 = .ok (.aload_n 0, 1) := by decide +kernel
theorem d_M_op_176 : decode Y_M_op.2.1 176 = .ok (.iconst 0, 1) := by decide +kernel
theorem d_M_op_177 : decode Y_M_op.2.1 177 = .ok (.putfield 119, 3) := by decide +kernel
theorem d_M_op_180 : decode Y_M_op.2.1 180 = .ok (.aload_n 0, 1) := by decide +kernel
theorem d_M_op_181 : decode Y_M_op.2.1 181 = .ok (.getfield 35, 3) := by decide +kernel
theorem d_M_op_184 : decode Y_M_op.2.1 184 = .ok (.iload_n 1, 1) := by decide +kernel
theorem d_M_op_185 : decode Y_M_op.2.1 185 = .ok (.iaload, 1) := by decide +kernel
theorem d_M_op_186 : decode Y_M_op.2.1 186 = .ok (.iconst 1, 1) := by decide +kernel
theorem d_M_op_187 : decode Y_M_op.2.1 187 = .ok (.isub, 1) := by decide +kernel
theorem d_M_op_188 : decode Y_M_op.2.1 188 = .ok (.ireturn, 1) := by decide +kernel
theorem m_M_op_0 {l : Launch} {D : DD} {d kc ks : Nat} {h : Hp} {Φ : Option AV → Hp → Prop} {x1 : Int} {x2 : Int} {x3 : Int} {x4 : Int} (hM : MS h) (v : Ev l D Y_M_isMember d 0 0 0 [some (vr 100), some (vi x1)] [] h (ki (fun r1 h1 => MS h1 ∧ ((r1 = 0 → (Φ (some (vi (-101 : Int))) h1)) ∧ (¬ r1 = 0 → (Ev l D Y_M_in d 0 0 0 [some (vi x2), some (vi (0 : Int)), some (vi (4 : Int))] [] h1 (ki (fun r2 h2 => MS h2 ∧ ((r2 = 0 → ((¬ x2 = (5 : Int) → (Ev l D Y_M_op (d + 1) kc ks 42 [some (vr 100), some (vi x1), some (vi x2), some (vi x3), some (vi x4)] [] h2 Φ)) ∧ (x2 = (5 : Int) → (Ev l D Y_M_isMember d 0 0 0 [some (vr 100), some (vi x4)] [] h2 (ki (fun r3 h3 => MS h3 ∧ ((¬ r3 = 0 → (Ev l D Y_M_op (d + 1) kc ks 42 [some (vr 100), some (vi x1), some (vi x2), some (vi x3), some (vi x4)] [] h3 Φ)) ∧ (r3 = 0 → (Φ (some (vi (-101 : Int))) h3))))))))) ∧ (¬ r2 = 0 → (Ev l D Y_M_isType d 0 0 0 [some (vr 100), some (vi x3)] [] h2 (ki (fun r4 h4 => MS h4 ∧ ((r4 = 0 → (Φ (some (vi (-101 : Int))) h4)) ∧ (¬ r4 = 0 → ((¬ x2 = (5 : Int) → (Ev l D Y_M_op (d + 1) kc ks 42 [some (vr 100), some (vi x1), some (vi x2), some (vi x3), some (vi x4)] [] h4 Φ)) ∧ (x2 = (5 : Int) → (Ev l D Y_M_isMember d 0 0 0 [some (vr 100), some (vi x4)] [] h4 (ki (fun r5 h5 => MS h5 ∧ ((¬ r5 = 0 → (Ev l D Y_M_op (d + 1) kc ks 42 [some (vr 100), some (vi x1), some (vi x2), some (vi x3), some (vi x4)] [] h5 Φ)) ∧ (r5 = 0 → (Φ (some (vi (-101 : Int))) h5))))))))))))))))))))))) : Ev l D Y_M_op (d + 1) kc ks 0 [some (vr 100), some (vi x1), some (vi x2), some (vi x3), some (vi x4)] [] h Φ := by
  refine a_aload_n d_M_op_0 rfl ?_
  refine a_iload_n d_M_op_1 rfl ?_
  refine b_callV (as := [vi x1]) (b := 100) (st := []) (kd := 12) (kc1 := 0) (ks1 := 0) (kc2 := kc) (ks2 := ks) (d' := d) ml_M_156 rfl d_M_op_2 rfl rfl (Nat.le_of_ble_eq_true rfl) (by decide) rfl (Nat.le_refl _) (by omega) (by omega) (KNM_100 hM) ?_
  refine Ev.mono v ?_
  intro u h1 v
  obtain ⟨r1, rfl, v⟩ := ki_el v
  obtain ⟨hm1, v⟩ := v
  change Ev l D Y_M_op _ _ _ 5 [some (vr 100), some (vi x1), some (vi x2), some (vi x3), some (vi x4)] [vi r1] _ _
  obtain ⟨vt, vf⟩ := v
  refine a_if_eq (tgt := 39) d_M_op_5 (by decide) (fun c => ?_) (fun c => ?_)
  · have v := vt (c); clear vt vf
    refine a_bipush d_M_op_39 ⟨by decide, by decide⟩ (by decide) ?_
    exact a_iret d_M_op_41 rfl v
  · have v := vf (c); clear vt vf
    refine a_iload_n d_M_op_8 rfl ?_
    refine a_iconst d_M_op_9 ⟨by decide, by decide⟩ ?_
    refine a_iconst d_M_op_10 ⟨by decide, by decide⟩ ?_
    refine b_callS (as := [vi x2, vi (0 : Int), vi (4 : Int)]) (st := []) (kc1 := 0) (ks1 := 0) (kc2 := kc) (ks2 := ks) (d' := d) ml_M_127 rfl d_M_op_11 rfl rfl (Nat.le_of_ble_eq_true rfl) rfl (Nat.le_refl _) (by omega) (by omega) ?_
    refine Ev.mono v ?_
    intro u h2 v
    obtain ⟨r2, rfl, v⟩ := ki_el v
    obtain ⟨hm2, v⟩ := v
    change Ev l D Y_M_op _ _ _ 14 [some (vr 100), some (vi x1), some (vi x2), some (vi x3), some (vi x4)] [vi r2] _ _
    obtain ⟨vt, vf⟩ := v
    refine a_if_eq (tgt := 25) d_M_op_14 (by decide) (fun c => ?_) (fun c => ?_)
    · have v := vt (c); clear vt vf
      refine a_iload_n d_M_op_25 rfl ?_
      refine a_iconst d_M_op_26 ⟨by decide, by decide⟩ ?_
      obtain ⟨vt, vf⟩ := v
      refine a_icmp_ne (tgt := 42) d_M_op_27 (by decide) (fun c => ?_) (fun c => ?_)
      · have v := vt (c); clear vt vf
        exact v
      · have v := vf (Classical.not_not.mp c); clear vt vf
        refine a_aload_n d_M_op_30 rfl ?_
        refine a_iload d_M_op_31 rfl ?_
        refine b_callV (as := [vi x4]) (b := 100) (st := []) (kd := 12) (kc1 := 0) (ks1 := 0) (kc2 := kc) (ks2 := ks) (d' := d) ml_M_156 rfl d_M_op_33 rfl rfl (Nat.le_of_ble_eq_true rfl) (by decide) rfl (Nat.le_refl _) (by omega) (by omega) (KNM_100 hm2) ?_
        refine Ev.mono v ?_
        intro u h3 v
        obtain ⟨r3, rfl, v⟩ := ki_el v
        obtain ⟨hm3, v⟩ := v
        change Ev l D Y_M_op _ _ _ 36 [some (vr 100), some (vi x1), some (vi x2), some (vi x3), some (vi x4)] [vi r3] _ _
        obtain ⟨vt, vf⟩ := v
        refine a_if_ne (tgt := 42) d_M_op_36 (by decide) (fun c => ?_) (fun c => ?_)
        · have v := vt (c); clear vt vf
          exact v
        · have v := vf (Classical.not_not.mp c); clear vt vf
          refine a_bipush d_M_op_39 ⟨by decide, by decide⟩ (by decide) ?_
          exact a_iret d_M_op_41 rfl v
    · have v := vf (c); clear vt vf
      refine a_aload_n d_M_op_17 rfl ?_
      refine a_iload_n d_M_op_18 rfl ?_
      refine b_callV (as := [vi x3]) (b := 100) (st := []) (kd := 12) (kc1 := 0) (ks1 := 0) (kc2 := kc) (ks2 := ks) (d' := d) ml_M_141 rfl d_M_op_19 rfl rfl (Nat.le_of_ble_eq_true rfl) (by decide) rfl (Nat.le_refl _) (by omega) (by omega) (KNM_100 hm2) ?_
      refine Ev.mono v ?_
      intro u h4 v
      obtain ⟨r4, rfl, v⟩ := ki_el v
      obtain ⟨hm4, v⟩ := v
      change Ev l D Y_M_op _ _ _ 22 [some (vr 100), some (vi x1), some (vi x2), some (vi x3), some (vi x4)] [vi r4] _ _
      obtain ⟨vt, vf⟩ := v
      refine a_if_eq (tgt := 39) d_M_op_22 (by decide) (fun c => ?_) (fun c => ?_)
      · have v := vt (c); clear vt vf
        refine a_bipush d_M_op_39 ⟨by decide, by decide⟩ (by decide) ?_
        exact a_iret d_M_op_41 rfl v
      · have v := vf (c); clear vt vf
        refine a_iload_n d_M_op_25 rfl ?_
        refine a_iconst d_M_op_26 ⟨by decide, by decide⟩ ?_
        obtain ⟨vt, vf⟩ := v
        refine a_icmp_ne (tgt := 42) d_M_op_27 (by decide) (fun c => ?_) (fun c => ?_)
        · have v := vt (c); clear vt vf
          exact v
        · have v := vf (Classical.not_not.mp c); clear vt vf
          refine a_aload_n d_M_op_30 rfl ?_
          refine a_iload d_M_op_31 rfl ?_
          refine b_callV (as := [vi x4]) (b := 100) (st := []) (kd := 12) (kc1 := 0) (ks1 := 0) (kc2 := kc) (ks2 := ks) (d' := d) ml_M_156 rfl d_M_op_33 rfl rfl (Nat.le_of_ble_eq_true rfl) (by decide) rfl (Nat.le_refl _) (by omega) (by omega) (KNM_100 hm4) ?_
          refine Ev.mono v ?_
          intro u h5 v
          obtain ⟨r5, rfl, v⟩ := ki_el v
          obtain ⟨hm5, v⟩ := v
          change Ev l D Y_M_op _ _ _ 36 [some (vr 100), some (vi x1), some (vi x2), some (vi x3), some (vi x4)] [vi r5] _ _
          obtain ⟨vt, vf⟩ := v
          refine a_if_ne (tgt := 42) d_M_op_36 (by decide) (fun c => ?_) (fun c => ?_)
          · have v := vt (c); clear vt vf
            exact v
          · have v := vf (Classical.not_not.mp c); clear vt vf
            refine a_bipush d_M_op_39 ⟨by decide, by decide⟩ (by decide) ?_
            exact a_iret d_M_op_41 rfl v
theorem m_M_op_42 {l : Launch} {D : DD} {d kc ks : Nat} {h : Hp} {Φ : Option AV → Hp → Prop} {x1 : Int} {x2 : Int} {x3 : Int} {x4 : Int} (hM : MS h) (v : Ev l D Y_M_isRightOp d 0 0 0 [some (vr 100), some (vi x1), some (vi x2), some (vi x3), some (vi x4)] [] h (ki (fun r1 h1 => MS h1 ∧ ((¬ r1 = 0 → (0 ≤ x1 ∧ x1 < 48 ∧ ((¬ xI h1 109 (x1).toNat = (1 : Int) → ((xI h1 100 12 = (160 : Int) → (Ev l D Y_M_op (d + 1) kc ks 91 [some (vr 100), some (vi x1), some (vi x2), some (vi x3), some (vi x4)] [] h1 Φ)) ∧ (¬ xI h1 100 12 = (160 : Int) → (0 ≤ x1 ∧ x1 < 48 ∧ ((¬ xI h1 111 (x1).toNat = (24 : Int) → (0 ≤ xI h1 100 12 ∧ xI h1 100 12 < 160 ∧ (∀ h2 : Hp, h2 = sI h1 114 (xI h1 100 12).toNat x2 → (0 ≤ xI h2 100 12 ∧ xI h2 100 12 < 160 ∧ (∀ h3 : Hp, h3 = sI h2 115 (xI h2 100 12).toNat x3 → ((¬ x2 = (4 : Int) → (Ev l D Y_M_op (d + 1) kc ks 134 [some (vr 100), some (vi x1), some (vi x2), some (vi x3), some (vi x4)] [vi x4, vi (xI h3 100 12), vr 116] h3 Φ)) ∧ (x2 = (4 : Int) → (Ev l D Y_M_op (d + 1) kc ks 134 [some (vr 100), some (vi x1), some (vi x2), some (vi x3), some (vi x4)] [vi (9 : Int), vi (xI h3 100 12), vr 116] h3 Φ)))))))) ∧ (xI h1 111 (x1).toNat = (24 : Int) → (Ev l D Y_M_op (d + 1) kc ks 91 [some (vr 100), some (vi x1), some (vi x2), some (vi x3), some (vi x4)] [] h1 Φ))))))) ∧ (xI h1 109 (x1).toNat = (1 : Int) → (Φ (some (vi (-103 : Int))) h1))))) ∧ (r1 = 0 → (Φ (some (vi (-102 : Int))) h1)))))) : Ev l D Y_M_op (d + 1) kc ks 42 [some (vr 100), some (vi x1), some (vi x2), some (vi x3), some (vi x4)] [] h Φ := by
  refine a_aload_n d_M_op_42 rfl ?_
  refine a_iload_n d_M_op_43 rfl ?_
  refine a_iload_n d_M_op_44 rfl ?_
  refine a_iload_n d_M_op_45 rfl ?_
  refine a_iload d_M_op_46 rfl ?_
  refine b_callV (as := [vi x1, vi x2, vi x3, vi x4]) (b := 100) (st := []) (kd := 12) (kc1 := 0) (ks1 := 0) (kc2 := kc) (ks2 := ks) (d' := d) ml_M_159 rfl d_M_op_48 rfl rfl (Nat.le_of_ble_eq_true rfl) (by decide) rfl (Nat.le_refl _) (by omega) (by omega) (KNM_100 hM) ?_
  refine Ev.mono v ?_
  intro u h1 v
  obtain ⟨r1, rfl, v⟩ := ki_el v
  obtain ⟨hm1, v⟩ := v
  change Ev l D Y_M_op _ _ _ 51 [some (vr 100), some (vi x1), some (vi x2), some (vi x3), some (vi x4)] [vi r1] _ _
  obtain ⟨vt, vf⟩ := v
  refine a_if_ne (tgt := 57) d_M_op_51 (by decide) (fun c => ?_) (fun c => ?_)
  · have v := vt (c); clear vt vf
    refine a_aload_n d_M_op_57 rfl ?_
    refine a_getAe fl_M_28 d_M_op_58 (beq_iff_eq.mpr (KNM_100 hm1)) (KRM_100_8 hm1) ?_
    refine a_iload_n d_M_op_61 rfl ?_
    obtain ⟨c2, c3, v⟩ := v
    refine a_iald d_M_op_62 (Or.inl (KNM_109 hm1)) c2 (lt_len (NNM_109 hm1) c3) ?_
    refine a_iconst d_M_op_63 ⟨by decide, by decide⟩ ?_
    obtain ⟨vt, vf⟩ := v
    refine a_icmp_ne (tgt := 70) d_M_op_64 (by decide) (fun c => ?_) (fun c => ?_)
    · have v := vt (c); clear vt vf
      refine a_aload_n d_M_op_70 rfl ?_
      refine a_getI fl_M_163 d_M_op_71 (beq_iff_eq.mpr (KNM_100 hm1)) ?_
      refine a_sipush d_M_op_74 ⟨by decide, by decide⟩ (by decide) ?_
      obtain ⟨vt, vf⟩ := v
      refine a_icmp_eq (tgt := 91) d_M_op_77 (by decide) (fun c => ?_) (fun c => ?_)
      · have v := vt (c); clear vt vf
        exact v
      · have v := vf (c); clear vt vf
        refine a_aload_n d_M_op_80 rfl ?_
        refine a_getAe fl_M_35 d_M_op_81 (beq_iff_eq.mpr (KNM_100 hm1)) (KRM_100_10 hm1) ?_
        refine a_iload_n d_M_op_84 rfl ?_
        obtain ⟨c5, c6, v⟩ := v
        refine a_iald d_M_op_85 (Or.inl (KNM_111 hm1)) c5 (lt_len (NNM_111 hm1) c6) ?_
        refine a_bipush d_M_op_86 ⟨by decide, by decide⟩ (by decide) ?_
        obtain ⟨vt, vf⟩ := v
        refine a_icmp_ne (tgt := 94) d_M_op_88 (by decide) (fun c => ?_) (fun c => ?_)
        · have v := vt (c); clear vt vf
          refine a_aload_n d_M_op_94 rfl ?_
          refine a_getAe fl_M_41 d_M_op_95 (beq_iff_eq.mpr (KNM_100 hm1)) (KRM_100_13 hm1) ?_
          refine a_aload_n d_M_op_98 rfl ?_
          refine a_getI fl_M_163 d_M_op_99 (beq_iff_eq.mpr (KNM_100 hm1)) ?_
          refine a_iload_n d_M_op_102 rfl ?_
          obtain ⟨c9, c10, v⟩ := v
          have v := v _ rfl
          refine a_iast d_M_op_103 (KNM_114 hm1) (by decide) c9 (lt_len (NNM_114 hm1) c10) ?_
          refine a_aload_n d_M_op_104 rfl ?_
          refine a_getAe fl_M_44 d_M_op_105 (beq_iff_eq.mpr (KNM_100 hm1)) (KRM_100_14 hm1) ?_
          refine a_aload_n d_M_op_108 rfl ?_
          refine a_getI fl_M_163 d_M_op_109 (beq_iff_eq.mpr (KNM_100 hm1)) ?_
          refine a_iload_n d_M_op_112 rfl ?_
          obtain ⟨c13, c14, v⟩ := v
          have v := v _ rfl
          refine a_iast d_M_op_113 (KNM_115 hm1) (by decide) c13 (lt_len (NNM_115 hm1) c14) ?_
          refine a_aload_n d_M_op_114 rfl ?_
          refine a_getAe fl_M_47 d_M_op_115 (beq_iff_eq.mpr (KNM_100 hm1)) (KRM_100_15 hm1) ?_
          refine a_aload_n d_M_op_118 rfl ?_
          refine a_getI fl_M_163 d_M_op_119 (beq_iff_eq.mpr (KNM_100 hm1)) ?_
          refine a_iload_n d_M_op_122 rfl ?_
          refine a_iconst d_M_op_123 ⟨by decide, by decide⟩ ?_
          obtain ⟨vt, vf⟩ := v
          refine a_icmp_ne (tgt := 132) d_M_op_124 (by decide) (fun c => ?_) (fun c => ?_)
          · have v := vt (c); clear vt vf
            refine a_iload d_M_op_132 rfl ?_
            exact v
          · have v := vf (Classical.not_not.mp c); clear vt vf
            refine a_bipush d_M_op_127 ⟨by decide, by decide⟩ (by decide) ?_
            refine a_goto (tgt := 134) d_M_op_129 (by decide) ?_
            exact v
        · have v := vf (Classical.not_not.mp c); clear vt vf
          exact v
    · have v := vf (Classical.not_not.mp c); clear vt vf
      refine a_bipush d_M_op_67 ⟨by decide, by decide⟩ (by decide) ?_
      exact a_iret d_M_op_69 rfl v
  · have v := vf (Classical.not_not.mp c); clear vt vf
    refine a_bipush d_M_op_54 ⟨by decide, by decide⟩ (by decide) ?_
    exact a_iret d_M_op_56 rfl v
theorem m_M_op_91 {l : Launch} {D : DD} {d kc ks : Nat} {h : Hp} {Φ : Option AV → Hp → Prop} {x1 : Int} {x2 : Int} {x3 : Int} {x4 : Int} (hM : MS h) (v : Φ (some (vi (-104 : Int))) h) : Ev l D Y_M_op (d + 1) kc ks 91 [some (vr 100), some (vi x1), some (vi x2), some (vi x3), some (vi x4)] [] h Φ := by
  refine a_bipush d_M_op_91 ⟨by decide, by decide⟩ (by decide) ?_
  exact a_iret d_M_op_93 rfl v
theorem m_M_op_134 {l : Launch} {D : DD} {d kc ks : Nat} {h : Hp} {Φ : Option AV → Hp → Prop} {x1 : Int} {x2 : Int} {x3 : Int} {x4 : Int} {y0 : Int} {y1 : Int} (hM : MS h) (v : 0 ≤ y1 ∧ y1 < 160 ∧ (∀ h1 : Hp, h1 = sI h 116 (y1).toNat y0 → (0 ≤ x1 ∧ x1 < 48 ∧ (0 ≤ wr ((wr ((24 : Int) * x1)) + (xI h1 111 (x1).toNat)) ∧ wr ((wr ((24 : Int) * x1)) + (xI h1 111 (x1).toNat)) < 1152 ∧ (∀ h2 : Hp, h2 = sI h1 112 (wr ((wr ((24 : Int) * x1)) + (xI h1 111 (x1).toNat))).toNat (xI h1 100 12) → (∀ h3 : Hp, h3 = sI h2 100 12 (wr ((xI h2 100 12) + (1 : Int))) → (0 ≤ x1 ∧ x1 < 48 ∧ (0 ≤ x1 ∧ x1 < 48 ∧ (∀ h4 : Hp, h4 = sI h3 111 (x1).toNat (wr ((xI h3 111 (x1).toNat) + (1 : Int))) → (∀ h5 : Hp, h5 = sI h4 100 16 (0 : Int) → (0 ≤ x1 ∧ x1 < 48 ∧ (Φ (some (vi (wr ((xI h5 111 (x1).toNat) - (1 : Int))))) h5)))))))))))) : Ev l D Y_M_op (d + 1) kc ks 134 [some (vr 100), some (vi x1), some (vi x2), some (vi x3), some (vi x4)] [vi y0, vi y1, vr 116] h Φ := by
  obtain ⟨c3, c4, v⟩ := v
  have v := v _ rfl
  refine a_iast d_M_op_134 (KNM_116 hM) (by decide) c3 (lt_len (NNM_116 hM) c4) ?_
  refine a_aload_n d_M_op_135 rfl ?_
  refine a_getAe fl_M_38 d_M_op_136 (beq_iff_eq.mpr (KNM_100 hM)) (KRM_100_11 hM) ?_
  refine a_bipush d_M_op_139 ⟨by decide, by decide⟩ (by decide) ?_
  refine a_iload_n d_M_op_141 rfl ?_
  refine a_imul d_M_op_142 ?_
  refine a_aload_n d_M_op_143 rfl ?_
  refine a_getAe fl_M_35 d_M_op_144 (beq_iff_eq.mpr (KNM_100 hM)) (KRM_100_10 hM) ?_
  refine a_iload_n d_M_op_147 rfl ?_
  obtain ⟨c6, c7, v⟩ := v
  refine a_iald d_M_op_148 (Or.inl (KNM_111 hM)) c6 (lt_len (NNM_111 hM) c7) ?_
  refine a_iadd d_M_op_149 ?_
  refine a_aload_n d_M_op_150 rfl ?_
  refine a_getI fl_M_163 d_M_op_151 (beq_iff_eq.mpr (KNM_100 hM)) ?_
  obtain ⟨c10, c11, v⟩ := v
  have v := v _ rfl
  refine a_iast d_M_op_154 (KNM_112 hM) (by decide) c10 (lt_len (NNM_112 hM) c11) ?_
  refine a_aload_n d_M_op_155 rfl ?_
  refine a_dup d_M_op_156 rfl ?_
  refine a_getI fl_M_163 d_M_op_157 (beq_iff_eq.mpr (KNM_100 hM)) ?_
  refine a_iconst d_M_op_160 ⟨by decide, by decide⟩ ?_
  refine a_iadd d_M_op_161 ?_
  have v := v _ rfl
  refine a_putI fl_M_163 d_M_op_162 (beq_iff_eq.mpr (KNM_100 hM)) (by decide) ?_
  refine a_aload_n d_M_op_165 rfl ?_
  refine a_getAe fl_M_35 d_M_op_166 (beq_iff_eq.mpr (KNM_100 hM)) (KRM_100_10 hM) ?_
  refine a_iload_n d_M_op_169 rfl ?_
  refine a_dup2 d_M_op_170 rfl rfl ?_
  obtain ⟨c15, c16, v⟩ := v
  refine a_iald d_M_op_171 (Or.inl (KNM_111 hM)) c15 (lt_len (NNM_111 hM) c16) ?_
  refine a_iconst d_M_op_172 ⟨by decide, by decide⟩ ?_
  refine a_iadd d_M_op_173 ?_
  obtain ⟨c19, c20, v⟩ := v
  have v := v _ rfl
  refine a_iast d_M_op_174 (KNM_111 hM) (by decide) c19 (lt_len (NNM_111 hM) c20) ?_
  refine a_aload_n d_M_op_175 rfl ?_
  refine a_iconst d_M_op_176 ⟨by decide, by decide⟩ ?_
  have v := v _ rfl
  refine a_putZ fl_M_119 d_M_op_177 (beq_iff_eq.mpr (KNM_100 hM)) (by decide) (Or.inl rfl) ?_
  refine a_aload_n d_M_op_180 rfl ?_
  refine a_getAe fl_M_35 d_M_op_181 (beq_iff_eq.mpr (KNM_100 hM)) (KRM_100_10 hM) ?_
  refine a_iload_n d_M_op_184 rfl ?_
  obtain ⟨c24, c25, v⟩ := v
  refine a_iald d_M_op_185 (Or.inl (KNM_111 hM)) c24 (lt_len (NNM_111 hM) c25) ?_
  refine a_iconst d_M_op_186 ⟨by decide, by decide⟩ ?_
  refine a_isub d_M_op_187 ?_
  exact a_iret d_M_op_188 rfl v
theorem d_M_root_0 : decode Y_M_root.2.1 0 = .ok (.aload_n 0, 1) := by decide +kernel
theorem d_M_root_1 : decode Y_M_root.2.1 1 = .ok (.iload_n 1, 1) := by decide +kernel
theorem d_M_root_2 : decode Y_M_root.2.1 2 = .ok (.invokevirtual 156, 3) := by decide +kernel
theorem d_M_root_5 : decode Y_M_root.2.1 5 = .ok (.ifCond .ne 6, 3) := by decide +kernel
theorem d_M_root_8 : decode Y_M_root.2.1 8 = .ok (.bipush (-101), 2) := by decide +kernel
theorem d_M_root_10 : decode Y_M_root.2.1 10 = .ok (.ireturn, 1) := by decide +kernel
theorem d_M_root_11 : decode Y_M_root.2.1 11 = .ok (.aload_n 0, 1) := by decide +kernel
theorem d_M_root_12 : decode Y_M_root.2.1 12 = .ok (.getfield 28, 3) := by decide +kernel
theorem d_M_root_15 : decode Y_M_root.2.1 15 = .ok (.iload_n 1, 1) := by decide +kernel
theorem d_M_root_16 : decode Y_M_root.2.1 16 = .ok (.iaload, 1) := by decide +kernel
theorem d_M_root_17 : decode Y_M_root.2.1 17 = .ok (.iconst 1, 1) := by decide +kernel
theorem d_M_root_18 : decode Y_M_root.2.1 18 = .ok (.if_icmp .eq 13, 3) := by decide +kernel
theorem d_M_root_21 : decode Y_M_root.2.1 21 = .ok (.aload_n 0, 1) := by decide +kernel
theorem d_M_root_22 : decode Y_M_root.2.1 22 = .ok (.getfield 28, 3) := by decide +kernel
theorem d_M_root_25 : decode Y_M_root.2.1 25 = .ok (.iload_n 1, 1) := by decide +kernel
theorem d_M_root_26 : decode Y_M_root.2.1 26 = .ok (.iaload, 1) := by decide +kernel
theorem d_M_root_27 : decode Y_M_root.2.1 27 = .ok (.iconst 4, 1) := by decide +kernel
theorem d_M_root_28 : decode Y_M_root.2.1 28 = .ok (.if_icmp .ne 6, 3) := by decide +kernel
theorem d_M_root_31 : decode Y_M_root.2.1 31 = .ok (.bipush (-102), 2) := by decide +kernel
theorem d_M_root_33 : decode Y_M_root.2.1 33 = .ok (.ireturn, 1) := by decide +kernel
theorem d_M_root_34 : decode Y_M_root.2.1 34 = .ok (.aload_n 0, 1) := by decide +kernel
theorem d_M_root_35 : decode Y_M_root.2.1 35 = .ok (.getfield 31, 3) := by decide +kernel
theorem d_M_root_38 : decode Y_M_root.2.1 38 = .ok (.iload_n 1, 1) := by decide +kernel
theorem d_M_root_39 : decode Y_M_root.2.1 39 = .ok (.baload, 1) := by decide +kernel
theorem d_M_root_40 : decode Y_M_root.2.1 40 = .ok (.istore_n 3, 1) := by decide +kernel
theorem d_M_root_41 : decode Y_M_root.2.1 41 = .ok (.aload_n 0, 1) := by decide +kernel
theorem d_M_root_42 : decode Y_M_root.2.1 42 = .ok (.getfield 31, 3) := by decide +kernel
theorem d_M_root_45 : decode Y_M_root.2.1 45 = .ok (.iload_n 1, 1) := by decide +kernel
theorem d_M_root_46 : decode Y_M_root.2.1 46 = .ok (.iload_n 2, 1) := by decide +kernel
theorem d_M_root_47 : decode Y_M_root.2.1 47 = .ok (.bastore, 1) := by decide +kernel
theorem d_M_root_48 : decode Y_M_root.2.1 48 = .ok (.aload_n 0, 1) := by decide +kernel
theorem d_M_root_49 : decode Y_M_root.2.1 49 = .ok (.iconst 0, 1) := by decide +kernel
theorem d_M_root_50 : decode Y_M_root.2.1 50 = .ok (.putfield 119, 3) := by decide +kernel
theorem d_M_root_53 : decode Y_M_root.2.1 53 = .ok (.iload_n 3, 1) := by decide +kernel
theorem d_M_root_54 : decode Y_M_root.2.1 54 = .ok (.iload_n 2, 1) := by decide +kernel
theorem d_M_root_55 : decode Y_M_root.2.1 55 = .ok (.if_icmp .eq 7, 3) := by decide +kernel
theorem d_M_root_58 : decode Y_M_root.2.1 58 = .ok (.iconst 1, 1) := by decide +kernel
theorem d_M_root_59 : decode Y_M_root.2.1 59 = .ok (.goto 4, 3) := by decide +kernel
theorem d_M_root_62 : decode Y_M_root.2.1 62 = .ok (.iconst 0, 1) := by decide +kernel
theorem d_M_root_63 : decode Y_M_root.2.1 63 = .ok (.ireturn, 1) := by decide +kernel
theorem m_M_root_0 {l : Launch} {D : DD} {d kc ks : Nat} {h : Hp} {Φ : Option AV → Hp → Prop} {x1 : Int} {x2 : Int} (hM : MS h) (v : Ev l D Y_M_isMember d 0 0 0 [some (vr 100), some (vi x1)] [] h (ki (fun r1 h1 => MS h1 ∧ ((¬ r1 = 0 → (0 ≤ x1 ∧ x1 < 48 ∧ ((xI h1 109 (x1).toNat = (1 : Int) → (Φ (some (vi (-102 : Int))) h1)) ∧ (¬ xI h1 109 (x1).toNat = (1 : Int) → (0 ≤ x1 ∧ x1 < 48 ∧ ((¬ xI h1 109 (x1).toNat = (4 : Int) → (0 ≤ x1 ∧ x1 < 48 ∧ (0 ≤ x1 ∧ x1 < 48 ∧ (x2 = 0 ∨ x2 = 1) ∧ (∀ h2 : Hp, h2 = sI h1 110 (x1).toNat x2 → (∀ h3 : Hp, h3 = sI h2 100 16 (0 : Int) → ((xI h1 110 (x1).toNat = x2 → (Φ (some (vi (0 : Int))) h3)) ∧ (¬ xI h1 110 (x1).toNat = x2 → (Φ (some (vi (1 : Int))) h3)))))))) ∧ (xI h1 109 (x1).toNat = (4 : Int) → (Φ (some (vi (-102 : Int))) h1)))))))) ∧ (r1 = 0 → (Φ (some (vi (-101 : Int))) h1)))))) : Ev l D Y_M_root (d + 1) kc ks 0 [some (vr 100), some (vi x1), some (vi x2), none] [] h Φ := by
  refine a_aload_n d_M_root_0 rfl ?_
  refine a_iload_n d_M_root_1 rfl ?_
  refine b_callV (as := [vi x1]) (b := 100) (st := []) (kd := 12) (kc1 := 0) (ks1 := 0) (kc2 := kc) (ks2 := ks) (d' := d) ml_M_156 rfl d_M_root_2 rfl rfl (Nat.le_of_ble_eq_true rfl) (by decide) rfl (Nat.le_refl _) (by omega) (by omega) (KNM_100 hM) ?_
  refine Ev.mono v ?_
  intro u h1 v
  obtain ⟨r1, rfl, v⟩ := ki_el v
  obtain ⟨hm1, v⟩ := v
  change Ev l D Y_M_root _ _ _ 5 [some (vr 100), some (vi x1), some (vi x2), none] [vi r1] _ _
  obtain ⟨vt, vf⟩ := v
  refine a_if_ne (tgt := 11) d_M_root_5 (by decide) (fun c => ?_) (fun c => ?_)
  · have v := vt (c); clear vt vf
    refine a_aload_n d_M_root_11 rfl ?_
    refine a_getAe fl_M_28 d_M_root_12 (beq_iff_eq.mpr (KNM_100 hm1)) (KRM_100_8 hm1) ?_
    refine a_iload_n d_M_root_15 rfl ?_
    obtain ⟨c2, c3, v⟩ := v
    refine a_iald d_M_root_16 (Or.inl (KNM_109 hm1)) c2 (lt_len (NNM_109 hm1) c3) ?_
    refine a_iconst d_M_root_17 ⟨by decide, by decide⟩ ?_
    obtain ⟨vt, vf⟩ := v
    refine a_icmp_eq (tgt := 31) d_M_root_18 (by decide) (fun c => ?_) (fun c => ?_)
    · have v := vt (c); clear vt vf
      refine a_bipush d_M_root_31 ⟨by decide, by decide⟩ (by decide) ?_
      exact a_iret d_M_root_33 rfl v
    · have v := vf (c); clear vt vf
      refine a_aload_n d_M_root_21 rfl ?_
      refine a_getAe fl_M_28 d_M_root_22 (beq_iff_eq.mpr (KNM_100 hm1)) (KRM_100_8 hm1) ?_
      refine a_iload_n d_M_root_25 rfl ?_
      obtain ⟨c5, c6, v⟩ := v
      refine a_iald d_M_root_26 (Or.inl (KNM_109 hm1)) c5 (lt_len (NNM_109 hm1) c6) ?_
      refine a_iconst d_M_root_27 ⟨by decide, by decide⟩ ?_
      obtain ⟨vt, vf⟩ := v
      refine a_icmp_ne (tgt := 34) d_M_root_28 (by decide) (fun c => ?_) (fun c => ?_)
      · have v := vt (c); clear vt vf
        refine a_aload_n d_M_root_34 rfl ?_
        refine a_getAe fl_M_31 d_M_root_35 (beq_iff_eq.mpr (KNM_100 hm1)) (KRM_100_9 hm1) ?_
        refine a_iload_n d_M_root_38 rfl ?_
        obtain ⟨c8, c9, v⟩ := v
        refine a_zald d_M_root_39 (KNM_110 hm1) c8 (lt_len (NNM_110 hm1) c9) ?_
        refine a_istore_n (L' := [some (vr 100), some (vi x1), some (vi x2), some (vi (xI h1 110 (x1).toNat))]) d_M_root_40 (Nat.le_of_ble_eq_true rfl) rfl rfl ?_
        refine a_aload_n d_M_root_41 rfl ?_
        refine a_getAe fl_M_31 d_M_root_42 (beq_iff_eq.mpr (KNM_100 hm1)) (KRM_100_9 hm1) ?_
        refine a_iload_n d_M_root_45 rfl ?_
        refine a_iload_n d_M_root_46 rfl ?_
        obtain ⟨c12, c13, c14, v⟩ := v
        have v := v _ rfl
        refine a_zast d_M_root_47 (KNM_110 hm1) (by decide) c12 (lt_len (NNM_110 hm1) c13) c14 ?_
        refine a_aload_n d_M_root_48 rfl ?_
        refine a_iconst d_M_root_49 ⟨by decide, by decide⟩ ?_
        have v := v _ rfl
        refine a_putZ fl_M_119 d_M_root_50 (beq_iff_eq.mpr (KNM_100 hm1)) (by decide) (Or.inl rfl) ?_
        refine a_iload_n d_M_root_53 rfl ?_
        refine a_iload_n d_M_root_54 rfl ?_
        obtain ⟨vt, vf⟩ := v
        refine a_icmp_eq (tgt := 62) d_M_root_55 (by decide) (fun c => ?_) (fun c => ?_)
        · have v := vt (c); clear vt vf
          refine a_iconst d_M_root_62 ⟨by decide, by decide⟩ ?_
          exact a_iret d_M_root_63 rfl v
        · have v := vf (c); clear vt vf
          refine a_iconst d_M_root_58 ⟨by decide, by decide⟩ ?_
          refine a_goto (tgt := 63) d_M_root_59 (by decide) ?_
          exact a_iret d_M_root_63 rfl v
      · have v := vf (Classical.not_not.mp c); clear vt vf
        refine a_bipush d_M_root_31 ⟨by decide, by decide⟩ (by decide) ?_
        exact a_iret d_M_root_33 rfl v
  · have v := vf (Classical.not_not.mp c); clear vt vf
    refine a_bipush d_M_root_8 ⟨by decide, by decide⟩ (by decide) ?_
    exact a_iret d_M_root_10 rfl v
