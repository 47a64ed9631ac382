theorem d_Arr_fillI_0 : decode Y_Arr_fillI.2.1 0 = .ok (.iconst 0, 1) := by decide +kernel
theorem d_Arr_fillI_1 : decode Y_Arr_fillI.2.1 1 = .ok (.istore_n 2, 1) := by decide +kernel
theorem d_Arr_fillI_2 : decode Y_Arr_fillI.2.1 2 = .ok (.aload_n 0, 1) := by decide +kernel
theorem d_Arr_fillI_3 : decode Y_Arr_fillI.2.1 3 = .ok (.arraylength, 1) := by decide +kernel
theorem d_Arr_fillI_4 : decode Y_Arr_fillI.2.1 4 = .ok (.istore_n 3, 1) := by decide +kernel
theorem d_Arr_fillI_5 : decode Y_Arr_fillI.2.1 5 = .ok (.iload_n 2, 1) := by decide +kernel
theorem d_Arr_fillI_6 : decode Y_Arr_fillI.2.1 6 = .ok (.iload_n 3, 1) := by decide +kernel
theorem d_Arr_fillI_7 : decode Y_Arr_fillI.2.1 7 = .ok (.if_icmp .ge 13, 3) := by decide +kernel
theorem d_Arr_fillI_10 : decode Y_Arr_fillI.2.1 10 = .ok (.aload_n 0, 1) := by decide +kernel
theorem d_Arr_fillI_11 : decode Y_Arr_fillI.2.1 11 = .ok (.iload_n 2, 1) := by decide +kernel
theorem d_Arr_fillI_12 : decode Y_Arr_fillI.2.1 12 = .ok (.iload_n 1, 1) := by decide +kernel
theorem d_Arr_fillI_13 : decode Y_Arr_fillI.2.1 13 = .ok (.iastore, 1) := by decide +kernel
theorem d_Arr_fillI_14 : decode Y_Arr_fillI.2.1 14 = .ok (.iinc 2 1, 3) := by decide +kernel
theorem d_Arr_fillI_17 : decode Y_Arr_fillI.2.1 17 = .ok (.goto (-12), 3) := by decide +kernel
theorem d_Arr_fillI_20 : decode Y_Arr_fillI.2.1 20 = .ok (.return_, 1) := by decide +kernel
theorem s_Arr_fillI_0 {l : Launch} {D : DD} {d kc ks : Nat} {h : Hp} {Φ : Option AV → Hp → Prop} {x0 : Nat} {x1 : Int} (v : (20 ≤ xK h x0 ∧ xK h x0 < 29) ∧ (Ev l D Y_Arr_fillI d kc ks 5 [some (vr x0), some (vi x1), some (vi (0 : Int)), some (vi (xN h x0 : Int))] [] h Φ)) : Ev l D Y_Arr_fillI d kc ks 0 [some (vr x0), some (vi x1), none, none] [] h Φ := by
  refine a_iconst d_Arr_fillI_0 ⟨by decide, by decide⟩ ?_
  refine a_istore_n (L' := [some (vr x0), some (vi x1), some (vi (0 : Int)), none]) d_Arr_fillI_1 (Nat.le_of_ble_eq_true rfl) rfl rfl ?_
  refine a_aload_n d_Arr_fillI_2 rfl ?_
  obtain ⟨c1, v⟩ := v
  refine a_alen d_Arr_fillI_3 c1 ?_
  refine a_istore_n (L' := [some (vr x0), some (vi x1), some (vi (0 : Int)), some (vi (xN h x0 : Int))]) d_Arr_fillI_4 (Nat.le_of_ble_eq_true rfl) rfl rfl ?_
  exact v
theorem s_Arr_fillI_5 {l : Launch} {D : DD} {d kc ks : Nat} {h : Hp} {Φ : Option AV → Hp → Prop} {x0 : Nat} {x1 : Int} {x2 : Int} {x3 : Int} (v : (x2 ≥ x3 → (Φ none h)) ∧ (x2 < x3 → (xK h x0 = 20 ∧ 16 ≤ x0 ∧ 0 ≤ x2 ∧ x2 < xN h x0 ∧ (∀ h1 : Hp, h1 = sI h x0 (x2).toNat x1 → (Ev l D Y_Arr_fillI d kc ks 5 [some (vr x0), some (vi x1), some (vi (wr (x2 + (1 : Int)))), some (vi x3)] [] h1 Φ))))) : Ev l D Y_Arr_fillI d kc ks 5 [some (vr x0), some (vi x1), some (vi x2), some (vi x3)] [] h Φ := by
  refine a_iload_n d_Arr_fillI_5 rfl ?_
  refine a_iload_n d_Arr_fillI_6 rfl ?_
  obtain ⟨vt, vf⟩ := v
  refine a_icmp_ge (tgt := 20) d_Arr_fillI_7 (by decide) (fun c => ?_) (fun c => ?_)
  · have v := vt (c); clear vt vf
    exact a_vret d_Arr_fillI_20 rfl v
  · have v := vf (Int.not_le.mp c); clear vt vf
    refine a_aload_n d_Arr_fillI_10 rfl ?_
    refine a_iload_n d_Arr_fillI_11 rfl ?_
    refine a_iload_n d_Arr_fillI_12 rfl ?_
    obtain ⟨c1, c2, c3, c4, v⟩ := v
    have v := v _ rfl
    refine a_iast d_Arr_fillI_13 c1 c2 c3 c4 ?_
    refine a_iinc (L' := [some (vr x0), some (vi x1), some (vi (wr (x2 + (1 : Int)))), some (vi x3)]) d_Arr_fillI_14 rfl (Nat.le_of_ble_eq_true rfl) rfl rfl ?_
    refine a_goto (tgt := 5) d_Arr_fillI_17 (by decide) ?_
    exact v
theorem d_Arr_fillZ_0 : decode Y_Arr_fillZ.2.1 0 = .ok (.iconst 0, 1) := by decide +kernel
theorem d_Arr_fillZ_1 : decode Y_Arr_fillZ.2.1 1 = .ok (.istore_n 2, 1) := by decide +kernel
theorem d_Arr_fillZ_2 : decode Y_Arr_fillZ.2.1 2 = .ok (.aload_n 0, 1) := by decide +kernel
theorem d_Arr_fillZ_3 : decode Y_Arr_fillZ.2.1 3 = .ok (.arraylength, 1) := by decide +kernel
theorem d_Arr_fillZ_4 : decode Y_Arr_fillZ.2.1 4 = .ok (.istore_n 3, 1) := by decide +kernel
theorem d_Arr_fillZ_5 : decode Y_Arr_fillZ.2.1 5 = .ok (.iload_n 2, 1) := by decide +kernel
theorem d_Arr_fillZ_6 : decode Y_Arr_fillZ.2.1 6 = .ok (.iload_n 3, 1) := by decide +kernel
theorem d_Arr_fillZ_7 : decode Y_Arr_fillZ.2.1 7 = .ok (.if_icmp .ge 13, 3) := by decide +kernel
theorem d_Arr_fillZ_10 : decode Y_Arr_fillZ.2.1 10 = .ok (.aload_n 0, 1) := by decide +kernel
theorem d_Arr_fillZ_11 : decode Y_Arr_fillZ.2.1 11 = .ok (.iload_n 2, 1) := by decide +kernel
theorem d_Arr_fillZ_12 : decode Y_Arr_fillZ.2.1 12 = .ok (.iload_n 1, 1) := by decide +kernel
theorem d_Arr_fillZ_13 : decode Y_Arr_fillZ.2.1 13 = .ok (.bastore, 1) := by decide +kernel
theorem d_Arr_fillZ_14 : decode Y_Arr_fillZ.2.1 14 = .ok (.iinc 2 1, 3) := by decide +kernel
theorem d_Arr_fillZ_17 : decode Y_Arr_fillZ.2.1 17 = .ok (.goto (-12), 3) := by decide +kernel
theorem d_Arr_fillZ_20 : decode Y_Arr_fillZ.2.1 20 = .ok (.return_, 1) := by decide +kernel
theorem s_Arr_fillZ_0 {l : Launch} {D : DD} {d kc ks : Nat} {h : Hp} {Φ : Option AV → Hp → Prop} {x0 : Nat} {x1 : Int} (v : (20 ≤ xK h x0 ∧ xK h x0 < 29) ∧ (Ev l D Y_Arr_fillZ d kc ks 5 [some (vr x0), some (vi x1), some (vi (0 : Int)), some (vi (xN h x0 : Int))] [] h Φ)) : Ev l D Y_Arr_fillZ d kc ks 0 [some (vr x0), some (vi x1), none, none] [] h Φ := by
  refine a_iconst d_Arr_fillZ_0 ⟨by decide, by decide⟩ ?_
  refine a_istore_n (L' := [some (vr x0), some (vi x1), some (vi (0 : Int)), none]) d_Arr_fillZ_1 (Nat.le_of_ble_eq_true rfl) rfl rfl ?_
  refine a_aload_n d_Arr_fillZ_2 rfl ?_
  obtain ⟨c1, v⟩ := v
  refine a_alen d_Arr_fillZ_3 c1 ?_
  refine a_istore_n (L' := [some (vr x0), some (vi x1), some (vi (0 : Int)), some (vi (xN h x0 : Int))]) d_Arr_fillZ_4 (Nat.le_of_ble_eq_true rfl) rfl rfl ?_
  exact v
theorem s_Arr_fillZ_5 {l : Launch} {D : DD} {d kc ks : Nat} {h : Hp} {Φ : Option AV → Hp → Prop} {x0 : Nat} {x1 : Int} {x2 : Int} {x3 : Int} (v : (x2 ≥ x3 → (Φ none h)) ∧ (x2 < x3 → (xK h x0 = 21 ∧ 16 ≤ x0 ∧ 0 ≤ x2 ∧ x2 < xN h x0 ∧ (x1 = 0 ∨ x1 = 1) ∧ (∀ h1 : Hp, h1 = sI h x0 (x2).toNat x1 → (Ev l D Y_Arr_fillZ d kc ks 5 [some (vr x0), some (vi x1), some (vi (wr (x2 + (1 : Int)))), some (vi x3)] [] h1 Φ))))) : Ev l D Y_Arr_fillZ d kc ks 5 [some (vr x0), some (vi x1), some (vi x2), some (vi x3)] [] h Φ := by
  refine a_iload_n d_Arr_fillZ_5 rfl ?_
  refine a_iload_n d_Arr_fillZ_6 rfl ?_
  obtain ⟨vt, vf⟩ := v
  refine a_icmp_ge (tgt := 20) d_Arr_fillZ_7 (by decide) (fun c => ?_) (fun c => ?_)
  · have v := vt (c); clear vt vf
    exact a_vret d_Arr_fillZ_20 rfl v
  · have v := vf (Int.not_le.mp c); clear vt vf
    refine a_aload_n d_Arr_fillZ_10 rfl ?_
    refine a_iload_n d_Arr_fillZ_11 rfl ?_
    refine a_iload_n d_Arr_fillZ_12 rfl ?_
    obtain ⟨c1, c2, c3, c4, c5, v⟩ := v
    have v := v _ rfl
    refine a_zast d_Arr_fillZ_13 c1 c2 c3 c4 c5 ?_
    refine a_iinc (L' := [some (vr x0), some (vi x1), some (vi (wr (x2 + (1 : Int)))), some (vi x3)]) d_Arr_fillZ_14 rfl (Nat.le_of_ble_eq_true rfl) rfl rfl ?_
    refine a_goto (tgt := 5) d_Arr_fillZ_17 (by decide) ?_
    exact v
theorem d_Kind_values_0 : decode Y_Kind_values.2.1 0 = .ok (.getstatic 13, 3) := by decide +kernel
theorem d_Kind_values_3 : decode Y_Kind_values.2.1 3 = .ok (.invokevirtual 17, 3) := by decide +kernel
theorem d_Kind_values_6 : decode Y_Kind_values.2.1 6 = .ok (.checkcast 18, 3) := by decide +kernel
theorem d_Kind_values_9 : decode Y_Kind_values.2.1 9 = .ok (.areturn, 1) := by decide +kernel
theorem s_Kind_values_0 {l : Launch} {D : DD} {d kc ks : Nat} {h : Hp} {Φ : Option AV → Hp → Prop} (v : xK h 9 = 26 ∧ xN h 9 = 3 ∧ ∃ a1 : Nat, 16 ≤ a1 ∧ xK h a1 = 0 ∧ (∀ h1 : Hp, h1 = cp h a1 9 → (xK h1 a1 = 26 ∧ (Φ (some (vr a1)) h1)))) : Ev l D Y_Kind_values (d + 1) (kc + 1) (ks + 3) 0 [] [] h Φ := by
  refine a_gets (k := 9) d_Kind_values_0 (by decide +kernel) sl_Kind_13 ?_
  obtain ⟨c3, c4, a1, c1, c2, v⟩ := v
  have v := v _ rfl
  refine a_clone (kd := 26) (kc' := kc) (ks' := ks) a1 d_Kind_values_3 (by decide) (by decide +kernel) ml_Kind_17 cw_sameK cw_nat cw_inst cw_selK cw_castK rfl (by omega) (by omega) (by rw [c4]; omega) c3 c1 c2 ?_
  obtain ⟨c5, v⟩ := v
  refine a_castA (kd := 26) d_Kind_values_6 (by decide) (by decide +kernel) cl_Kind_18 c5 ?_
  exact a_aret d_Kind_values_9 rfl (Or.inr ⟨_, rfl⟩) v
theorem d_Sort_values_0 : decode Y_Sort_values.2.1 0 = .ok (.getstatic 19, 3) := by decide +kernel
theorem d_Sort_values_3 : decode Y_Sort_values.2.1 3 = .ok (.invokevirtual 23, 3) := by decide +kernel
theorem d_Sort_values_6 : decode Y_Sort_values.2.1 6 = .ok (.checkcast 24, 3) := by decide +kernel
theorem d_Sort_values_9 : decode Y_Sort_values.2.1 9 = .ok (.areturn, 1) := by decide +kernel
theorem s_Sort_values_0 {l : Launch} {D : DD} {d kc ks : Nat} {h : Hp} {Φ : Option AV → Hp → Prop} (v : xK h 10 = 27 ∧ xN h 10 = 5 ∧ ∃ a1 : Nat, 16 ≤ a1 ∧ xK h a1 = 0 ∧ (∀ h1 : Hp, h1 = cp h a1 10 → (xK h1 a1 = 27 ∧ (Φ (some (vr a1)) h1)))) : Ev l D Y_Sort_values (d + 1) (kc + 1) (ks + 5) 0 [] [] h Φ := by
  refine a_gets (k := 10) d_Sort_values_0 (by decide +kernel) sl_Sort_19 ?_
  obtain ⟨c3, c4, a1, c1, c2, v⟩ := v
  have v := v _ rfl
  refine a_clone (kd := 27) (kc' := kc) (ks' := ks) a1 d_Sort_values_3 (by decide) (by decide +kernel) ml_Sort_23 cw_sameS cw_nat cw_inst cw_selS cw_castS rfl (by omega) (by omega) (by rw [c4]; omega) c3 c1 c2 ?_
  obtain ⟨c5, v⟩ := v
  refine a_castA (kd := 27) d_Sort_values_6 (by decide) (by decide +kernel) cl_Sort_24 c5 ?_
  exact a_aret d_Sort_values_9 rfl (Or.inr ⟨_, rfl⟩) v
theorem d_Sort_isOpen_0 : decode Y_Sort_isOpen.2.1 0 = .ok (.aload_n 0, 1) := by decide +kernel
theorem d_Sort_isOpen_1 : decode Y_Sort_isOpen.2.1 1 = .ok (.getstatic 3, 3) := by decide +kernel
theorem d_Sort_isOpen_4 : decode Y_Sort_isOpen.2.1 4 = .ok (.if_acmp .eq 10, 3) := by decide +kernel
theorem d_Sort_isOpen_7 : decode Y_Sort_isOpen.2.1 7 = .ok (.aload_n 0, 1) := by decide +kernel
theorem d_Sort_isOpen_8 : decode Y_Sort_isOpen.2.1 8 = .ok (.getstatic 7, 3) := by decide +kernel
theorem d_Sort_isOpen_11 : decode Y_Sort_isOpen.2.1 11 = .ok (.if_acmp .ne 7, 3) := by decide +kernel
theorem d_Sort_isOpen_14 : decode Y_Sort_isOpen.2.1 14 = .ok (.iconst 1, 1) := by decide +kernel
theorem d_Sort_isOpen_15 : decode Y_Sort_isOpen.2.1 15 = .ok (.goto 4, 3) := by decide +kernel
theorem d_Sort_isOpen_18 : decode Y_Sort_isOpen.2.1 18 = .ok (.iconst 0, 1) := by decide +kernel
theorem d_Sort_isOpen_19 : decode Y_Sort_isOpen.2.1 19 = .ok (.ireturn, 1) := by decide +kernel
theorem s_Sort_isOpen_0 {l : Launch} {D : DD} {d kc ks : Nat} {h : Hp} {Φ : Option AV → Hp → Prop} {x0 : Nat} (v : (x0 = 4 → (Φ (some (vi (1 : Int))) h)) ∧ (¬ x0 = 4 → ((¬ x0 = 5 → (Φ (some (vi (0 : Int))) h)) ∧ (x0 = 5 → (Φ (some (vi (1 : Int))) h))))) : Ev l D Y_Sort_isOpen d kc ks 0 [some (vr x0)] [] h Φ := by
  refine a_aload_n d_Sort_isOpen_0 rfl ?_
  refine a_gets (k := 4) d_Sort_isOpen_1 (by decide +kernel) sl_Sort_3 ?_
  obtain ⟨vt, vf⟩ := v
  refine a_acmp_eq (tgt := 14) d_Sort_isOpen_4 (by decide) (fun c => ?_) (fun c => ?_)
  · have v := vt (c); clear vt vf
    refine a_iconst d_Sort_isOpen_14 ⟨by decide, by decide⟩ ?_
    refine a_goto (tgt := 19) d_Sort_isOpen_15 (by decide) ?_
    exact a_zret d_Sort_isOpen_19 rfl (Or.inr rfl) v
  · have v := vf (c); clear vt vf
    refine a_aload_n d_Sort_isOpen_7 rfl ?_
    refine a_gets (k := 5) d_Sort_isOpen_8 (by decide +kernel) sl_Sort_7 ?_
    obtain ⟨vt, vf⟩ := v
    refine a_acmp_ne (tgt := 18) d_Sort_isOpen_11 (by decide) (fun c => ?_) (fun c => ?_)
    · have v := vt (c); clear vt vf
      refine a_iconst d_Sort_isOpen_18 ⟨by decide, by decide⟩ ?_
      exact a_zret d_Sort_isOpen_19 rfl (Or.inl rfl) v
    · have v := vf (c); clear vt vf
      refine a_iconst d_Sort_isOpen_14 ⟨by decide, by decide⟩ ?_
      refine a_goto (tgt := 19) d_Sort_isOpen_15 (by decide) ?_
      exact a_zret d_Sort_isOpen_19 rfl (Or.inr rfl) v
theorem d_Sort_isNamed_0 : decode Y_Sort_isNamed.2.1 0 = .ok (.aload_n 0, 1) := by decide +kernel
theorem d_Sort_isNamed_1 : decode Y_Sort_isNamed.2.1 1 = .ok (.getstatic 3, 3) := by decide +kernel
theorem d_Sort_isNamed_4 : decode Y_Sort_isNamed.2.1 4 = .ok (.if_acmp .eq 17, 3) := by decide +kernel
theorem d_Sort_isNamed_7 : decode Y_Sort_isNamed.2.1 7 = .ok (.aload_n 0, 1) := by decide +kernel
theorem d_Sort_isNamed_8 : decode Y_Sort_isNamed.2.1 8 = .ok (.getstatic 10, 3) := by decide +kernel
theorem d_Sort_isNamed_11 : decode Y_Sort_isNamed.2.1 11 = .ok (.if_acmp .eq 10, 3) := by decide +kernel
theorem d_Sort_isNamed_14 : decode Y_Sort_isNamed.2.1 14 = .ok (.aload_n 0, 1) := by decide +kernel
theorem d_Sort_isNamed_15 : decode Y_Sort_isNamed.2.1 15 = .ok (.getstatic 13, 3) := by decide +kernel
theorem d_Sort_isNamed_18 : decode Y_Sort_isNamed.2.1 18 = .ok (.if_acmp .ne 7, 3) := by decide +kernel
theorem d_Sort_isNamed_21 : decode Y_Sort_isNamed.2.1 21 = .ok (.iconst 1, 1) := by decide +kernel
theorem d_Sort_isNamed_22 : decode Y_Sort_isNamed.2.1 22 = .ok (.goto 4, 3) := by decide +kernel
theorem d_Sort_isNamed_25 : decode Y_Sort_isNamed.2.1 25 = .ok (.iconst 0, 1) := by decide +kernel
theorem d_Sort_isNamed_26 : decode Y_Sort_isNamed.2.1 26 = .ok (.ireturn, 1) := by decide +kernel
theorem s_Sort_isNamed_0 {l : Launch} {D : DD} {d kc ks : Nat} {h : Hp} {Φ : Option AV → Hp → Prop} {x0 : Nat} (v : (x0 = 4 → (Φ (some (vi (1 : Int))) h)) ∧ (¬ x0 = 4 → ((x0 = 6 → (Φ (some (vi (1 : Int))) h)) ∧ (¬ x0 = 6 → ((¬ x0 = 7 → (Φ (some (vi (0 : Int))) h)) ∧ (x0 = 7 → (Φ (some (vi (1 : Int))) h))))))) : Ev l D Y_Sort_isNamed d kc ks 0 [some (vr x0)] [] h Φ := by
  refine a_aload_n d_Sort_isNamed_0 rfl ?_
  refine a_gets (k := 4) d_Sort_isNamed_1 (by decide +kernel) sl_Sort_3 ?_
  obtain ⟨vt, vf⟩ := v
  refine a_acmp_eq (tgt := 21) d_Sort_isNamed_4 (by decide) (fun c => ?_) (fun c => ?_)
  · have v := vt (c); clear vt vf
    refine a_iconst d_Sort_isNamed_21 ⟨by decide, by decide⟩ ?_
    refine a_goto (tgt := 26) d_Sort_isNamed_22 (by decide) ?_
    exact a_zret d_Sort_isNamed_26 rfl (Or.inr rfl) v
  · have v := vf (c); clear vt vf
    refine a_aload_n d_Sort_isNamed_7 rfl ?_
    refine a_gets (k := 6) d_Sort_isNamed_8 (by decide +kernel) sl_Sort_10 ?_
    obtain ⟨vt, vf⟩ := v
    refine a_acmp_eq (tgt := 21) d_Sort_isNamed_11 (by decide) (fun c => ?_) (fun c => ?_)
    · have v := vt (c); clear vt vf
      refine a_iconst d_Sort_isNamed_21 ⟨by decide, by decide⟩ ?_
      refine a_goto (tgt := 26) d_Sort_isNamed_22 (by decide) ?_
      exact a_zret d_Sort_isNamed_26 rfl (Or.inr rfl) v
    · have v := vf (c); clear vt vf
      refine a_aload_n d_Sort_isNamed_14 rfl ?_
      refine a_gets (k := 7) d_Sort_isNamed_15 (by decide +kernel) sl_Sort_13 ?_
      obtain ⟨vt, vf⟩ := v
      refine a_acmp_ne (tgt := 25) d_Sort_isNamed_18 (by decide) (fun c => ?_) (fun c => ?_)
      · have v := vt (c); clear vt vf
        refine a_iconst d_Sort_isNamed_25 ⟨by decide, by decide⟩ ?_
        exact a_zret d_Sort_isNamed_26 rfl (Or.inl rfl) v
      · have v := vf (c); clear vt vf
        refine a_iconst d_Sort_isNamed_21 ⟨by decide, by decide⟩ ?_
        refine a_goto (tgt := 26) d_Sort_isNamed_22 (by decide) ?_
        exact a_zret d_Sort_isNamed_26 rfl (Or.inr rfl) v
theorem d_Type_init_0 : decode Y_Type_init.2.1 0 = .ok (.aload_n 0, 1) := by decide +kernel
theorem d_Type_init_1 : decode Y_Type_init.2.1 1 = .ok (.invokespecial 3, 3) := by decide +kernel
theorem d_Type_init_4 : decode Y_Type_init.2.1 4 = .ok (.aload_n 0, 1) := by decide +kernel
theorem d_Type_init_5 : decode Y_Type_init.2.1 5 = .ok (.iconst 3, 1) := by decide +kernel
theorem d_Type_init_6 : decode Y_Type_init.2.1 6 = .ok (.anewarray 9, 3) := by decide +kernel
theorem d_Type_init_9 : decode Y_Type_init.2.1 9 = .ok (.putfield 11, 3) := by decide +kernel
theorem d_Type_init_12 : decode Y_Type_init.2.1 12 = .ok (.aload_n 0, 1) := by decide +kernel
theorem d_Type_init_13 : decode Y_Type_init.2.1 13 = .ok (.bipush 16, 2) := by decide +kernel
theorem d_Type_init_15 : decode Y_Type_init.2.1 15 = .ok (.newarray .boolean, 2) := by decide +kernel
theorem d_Type_init_17 : decode Y_Type_init.2.1 17 = .ok (.putfield 15, 3) := by decide +kernel
theorem d_Type_init_20 : decode Y_Type_init.2.1 20 = .ok (.aload_n 0, 1) := by decide +kernel
theorem d_Type_init_21 : decode Y_Type_init.2.1 21 = .ok (.bipush 10, 2) := by decide +kernel
theorem d_Type_init_23 : decode Y_Type_init.2.1 23 = .ok (.anewarray 19, 3) := by decide +kernel
theorem d_Type_init_26 : decode Y_Type_init.2.1 26 = .ok (.putfield 21, 3) := by decide +kernel
theorem d_Type_init_29 : decode Y_Type_init.2.1 29 = .ok (.aload_n 0, 1) := by decide +kernel
theorem d_Type_init_30 : decode Y_Type_init.2.1 30 = .ok (.iload_n 1, 1) := by decide +kernel
theorem d_Type_init_31 : decode Y_Type_init.2.1 31 = .ok (.putfield 25, 3) := by decide +kernel
theorem d_Type_init_34 : decode Y_Type_init.2.1 34 = .ok (.aload_n 0, 1) := by decide +kernel
theorem d_Type_init_35 : decode Y_Type_init.2.1 35 = .ok (.aload_n 2, 1) := by decide +kernel
theorem d_Type_init_36 : decode Y_Type_init.2.1 36 = .ok (.putfield 29, 3) := by decide +kernel
theorem d_Type_init_39 : decode Y_Type_init.2.1 39 = .ok (.aload_n 0, 1) := by decide +kernel
theorem d_Type_init_40 : decode Y_Type_init.2.1 40 = .ok (.aload_n 3, 1) := by decide +kernel
theorem d_Type_init_41 : decode Y_Type_init.2.1 41 = .ok (.putfield 33, 3) := by decide +kernel
theorem d_Type_init_44 : decode Y_Type_init.2.1 44 = .ok (.aload_n 0, 1) := by decide +kernel
theorem d_Type_init_45 : decode Y_Type_init.2.1 45 = .ok (.getfield 15, 3) := by decide +kernel
theorem d_Type_init_48 : decode Y_Type_init.2.1 48 = .ok (.iload_n 1, 1) := by decide +kernel
theorem d_Type_init_49 : decode Y_Type_init.2.1 49 = .ok (.iconst 1, 1) := by decide +kernel
theorem d_Type_init_50 : decode Y_Type_init.2.1 50 = .ok (.bastore, 1) := by decide +kernel
theorem d_Type_init_51 : decode Y_Type_init.2.1 51 = .ok (.aload_n 3, 1) := by decide +kernel
theorem d_Type_init_52 : decode Y_Type_init.2.1 52 = .ok (.ifnull 8, 3) := by decide +kernel
theorem d_Type_init_55 : decode Y_Type_init.2.1 55 = .ok (.aload_n 0, 1) := by decide +kernel
theorem d_Type_init_56 : decode Y_Type_init.2.1 56 = .ok (.aload_n 3, 1) := by decide +kernel
theorem d_Type_init_57 : decode Y_Type_init.2.1 57 = .ok (.invokevirtual 37, 3) := by decide +kernel
theorem d_Type_init_60 : decode Y_Type_init.2.1 60 = .ok (.return_, 1) := by decide +kernel
theorem s_Type_init_0 {l : Launch} {D : DD} {d kc ks : Nat} {h : Hp} {Φ : Option AV → Hp → Prop} {x0 : Nat} {x1 : Int} {x2 : Nat} {x3 : Nat} (v : ¬ xK h x0 = 0 ∧ (∃ a1 : Nat, 16 ≤ a1 ∧ xK h a1 = 0 ∧ (∀ h1 : Hp, h1 = nw h a1 22 ((3 : Int)).toNat → (xK h1 x0 = 3 ∧ 16 ≤ x0 ∧ (∀ h2 : Hp, h2 = sR h1 x0 3 a1 → (∃ a2 : Nat, 16 ≤ a2 ∧ xK h2 a2 = 0 ∧ (∀ h3 : Hp, h3 = nw h2 a2 21 ((16 : Int)).toNat → (xK h3 x0 = 3 ∧ 16 ≤ x0 ∧ (∀ h4 : Hp, h4 = sR h3 x0 5 a2 → (∃ a3 : Nat, 16 ≤ a3 ∧ xK h4 a3 = 0 ∧ (∀ h5 : Hp, h5 = nw h4 a3 23 ((10 : Int)).toNat → (xK h5 x0 = 3 ∧ 16 ≤ x0 ∧ (∀ h6 : Hp, h6 = sR h5 x0 6 a3 → (xK h6 x0 = 3 ∧ 16 ≤ x0 ∧ (∀ h7 : Hp, h7 = sI h6 x0 0 x1 → (xK h7 x0 = 3 ∧ 16 ≤ x0 ∧ (∀ h8 : Hp, h8 = sR h7 x0 1 x2 → (xK h8 x0 = 3 ∧ 16 ≤ x0 ∧ (∀ h9 : Hp, h9 = sR h8 x0 2 x3 → (xK h9 x0 = 3 ∧ (xK h9 (xR h9 x0 5) = 21 ∧ 16 ≤ xR h9 x0 5 ∧ 0 ≤ x1 ∧ x1 < xN h9 (xR h9 x0 5) ∧ (∀ h10 : Hp, h10 = sI h9 (xR h9 x0 5) (x1).toNat (1 : Int) → ((x3 = 0 → (Φ none h10)) ∧ (¬ x3 = 0 → (xK h10 x0 = 3 ∧ Ev l D Y_Type_join d 0 0 0 [some (vr x0), some (vr x3), none] [] h10 (kv (fun h11 => Φ none h11))))))))))))))))))))))))))) : Ev l D Y_Type_init (d + 1) (kc + 3) (ks + 29) 0 [some (vr x0), some (vi x1), some (vr x2), some (vr x3)] [] h Φ := by
  refine a_aload_n d_Type_init_0 rfl ?_
  obtain ⟨c1, v⟩ := v
  refine a_objInit d_Type_init_1 ml_Type_3 oi_inst oi_code rfl (by omega) c1 ?_
  refine a_aload_n d_Type_init_4 rfl ?_
  refine a_iconst d_Type_init_5 ⟨by decide, by decide⟩ ?_
  obtain ⟨a1, c2, c3, v⟩ := v
  have v := v _ rfl
  refine a_anew (kd := 22) (kc' := kc + 2) (ks' := ks + 26) a1 d_Type_init_6 (by decide) cl_Type_9 ao_Type (by decide) (by omega) (by show _ + 3 ≤ _; omega) c2 c3 ?_
  obtain ⟨c4, c5, v⟩ := v
  have v := v _ rfl
  refine a_putAF fl_Type_11 rfl (dc1 rfl) d_Type_init_9 (beq_iff_eq.mpr c4) c5 ?_
  refine a_aload_n d_Type_init_12 rfl ?_
  refine a_bipush d_Type_init_13 ⟨by decide, by decide⟩ (by decide) ?_
  obtain ⟨a2, c6, c7, v⟩ := v
  have v := v _ rfl
  refine a_newarr (kd := 21) (kc' := kc + 1) (ks' := ks + 10) a2 d_Type_init_15 (by decide) rfl ac_boolean (by decide) (by omega) (by show _ + 16 ≤ _; omega) c6 c7 ?_
  obtain ⟨c8, c9, v⟩ := v
  have v := v _ rfl
  refine a_putAF fl_Type_15 rfl (dc1 rfl) d_Type_init_17 (beq_iff_eq.mpr c8) c9 ?_
  refine a_aload_n d_Type_init_20 rfl ?_
  refine a_bipush d_Type_init_21 ⟨by decide, by decide⟩ (by decide) ?_
  obtain ⟨a3, c10, c11, v⟩ := v
  have v := v _ rfl
  refine a_anew (kd := 23) (kc' := kc) (ks' := ks) a3 d_Type_init_23 (by decide) cl_Type_19 ao_Member (by decide) (by omega) (by show _ + 10 ≤ _; omega) c10 c11 ?_
  obtain ⟨c12, c13, v⟩ := v
  have v := v _ rfl
  refine a_putAF fl_Type_21 rfl (dc1 rfl) d_Type_init_26 (beq_iff_eq.mpr c12) c13 ?_
  refine a_aload_n d_Type_init_29 rfl ?_
  refine a_iload_n d_Type_init_30 rfl ?_
  obtain ⟨c14, c15, v⟩ := v
  have v := v _ rfl
  refine a_putIF fl_Type_25 rfl (dc1 rfl) d_Type_init_31 (beq_iff_eq.mpr c14) c15 ?_
  refine a_aload_n d_Type_init_34 rfl ?_
  refine a_aload_n d_Type_init_35 rfl ?_
  obtain ⟨c16, c17, v⟩ := v
  have v := v _ rfl
  refine a_putRF fl_Type_29 rfl (dc1 rfl) d_Type_init_36 (beq_iff_eq.mpr c16) c17 ?_
  refine a_aload_n d_Type_init_39 rfl ?_
  refine a_aload_n d_Type_init_40 rfl ?_
  obtain ⟨c18, c19, v⟩ := v
  have v := v _ rfl
  refine a_putRF fl_Type_33 rfl (dc1 rfl) d_Type_init_41 (beq_iff_eq.mpr c18) c19 ?_
  refine a_aload_n d_Type_init_44 rfl ?_
  obtain ⟨c20, v⟩ := v
  refine a_getA fl_Type_15 d_Type_init_45 (beq_iff_eq.mpr c20) ?_
  refine a_iload_n d_Type_init_48 rfl ?_
  refine a_iconst d_Type_init_49 ⟨by decide, by decide⟩ ?_
  obtain ⟨c21, c22, c23, c24, v⟩ := v
  have v := v _ rfl
  refine a_zast d_Type_init_50 c21 c22 c23 c24 (Or.inr rfl) ?_
  refine a_aload_n d_Type_init_51 rfl ?_
  obtain ⟨vt, vf⟩ := v
  refine a_ifnull (tgt := 60) d_Type_init_52 (by decide) (fun c => ?_) (fun c => ?_)
  · have v := vt (c); clear vt vf
    exact a_vret d_Type_init_60 rfl v
  · have v := vf (c); clear vt vf
    refine a_aload_n d_Type_init_55 rfl ?_
    refine a_aload_n d_Type_init_56 rfl ?_
    obtain ⟨c25, v⟩ := v
    refine b_callV (as := [vr x3]) (b := x0) (st := []) (kd := 3) (kc1 := 0) (ks1 := 0) (kc2 := kc) (ks2 := ks) (d' := d) ml_Type_37 rfl d_Type_init_57 rfl rfl (Nat.le_of_ble_eq_true rfl) (by decide) rfl (Nat.le_refl _) (by omega) (by omega) c25 ?_
    refine Ev.mono v ?_
    intro u h11 v
    obtain ⟨rfl, v⟩ := kv_el v
    change Ev l D Y_Type_init _ _ _ 60 [some (vr x0), some (vi x1), some (vr x2), some (vr x3)] [] _ _
    exact a_vret d_Type_init_60 rfl v
theorem d_Type_join_0 : decode Y_Type_join.2.1 0 = .ok (.iconst 0, 1) := by decide +kernel
theorem d_Type_join_1 : decode Y_Type_join.2.1 1 = .ok (.istore_n 2, 1) := by decide +kernel
theorem d_Type_join_2 : decode Y_Type_join.2.1 2 = .ok (.iload_n 2, 1) := by decide +kernel
theorem d_Type_join_3 : decode Y_Type_join.2.1 3 = .ok (.bipush 16, 2) := by decide +kernel
theorem d_Type_join_5 : decode Y_Type_join.2.1 5 = .ok (.if_icmp .ge 24, 3) := by decide +kernel
theorem d_Type_join_8 : decode Y_Type_join.2.1 8 = .ok (.aload_n 0, 1) := by decide +kernel
theorem d_Type_join_9 : decode Y_Type_join.2.1 9 = .ok (.getfield 15, 3) := by decide +kernel
theorem d_Type_join_12 : decode Y_Type_join.2.1 12 = .ok (.iload_n 2, 1) := by decide +kernel
theorem d_Type_join_13 : decode Y_Type_join.2.1 13 = .ok (.dup2, 1) := by decide +kernel
theorem d_Type_join_14 : decode Y_Type_join.2.1 14 = .ok (.baload, 1) := by decide +kernel
theorem d_Type_join_15 : decode Y_Type_join.2.1 15 = .ok (.aload_n 1, 1) := by decide +kernel
theorem d_Type_join_16 : decode Y_Type_join.2.1 16 = .ok (.getfield 15, 3) := by decide +kernel
theorem d_Type_join_19 : decode Y_Type_join.2.1 19 = .ok (.iload_n 2, 1) := by decide +kernel
theorem d_Type_join_20 : decode Y_Type_join.2.1 20 = .ok (.baload, 1) := by decide +kernel
theorem d_Type_join_21 : decode Y_Type_join.2.1 21 = .ok (.ior, 1) := by decide +kernel
theorem d_Type_join_22 : decode Y_Type_join.2.1 22 = .ok (.bastore, 1) := by decide +kernel
theorem d_Type_join_23 : decode Y_Type_join.2.1 23 = .ok (.iinc 2 1, 3) := by decide +kernel
theorem d_Type_join_26 : decode Y_Type_join.2.1 26 = .ok (.goto (-24), 3) := by decide +kernel
theorem d_Type_join_29 : decode Y_Type_join.2.1 29 = .ok (.return_, 1) := by decide +kernel
theorem s_Type_join_0 {l : Launch} {D : DD} {d kc ks : Nat} {h : Hp} {Φ : Option AV → Hp → Prop} {x0 : Nat} {x1 : Nat} (v : Ev l D Y_Type_join d kc ks 2 [some (vr x0), some (vr x1), some (vi (0 : Int))] [] h Φ) : Ev l D Y_Type_join d kc ks 0 [some (vr x0), some (vr x1), none] [] h Φ := by
  refine a_iconst d_Type_join_0 ⟨by decide, by decide⟩ ?_
  refine a_istore_n (L' := [some (vr x0), some (vr x1), some (vi (0 : Int))]) d_Type_join_1 (Nat.le_of_ble_eq_true rfl) rfl rfl ?_
  exact v
theorem s_Type_join_2 {l : Launch} {D : DD} {d kc ks : Nat} {h : Hp} {Φ : Option AV → Hp → Prop} {x0 : Nat} {x1 : Nat} {x2 : Int} (v : (x2 ≥ (16 : Int) → (Φ none h)) ∧ (x2 < (16 : Int) → (xK h x0 = 3 ∧ (xK h (xR h x0 5) = 21 ∧ 0 ≤ x2 ∧ x2 < xN h (xR h x0 5) ∧ (xK h x1 = 3 ∧ (xK h (xR h x1 5) = 21 ∧ 0 ≤ x2 ∧ x2 < xN h (xR h x1 5) ∧ (xK h (xR h x0 5) = 21 ∧ 16 ≤ xR h x0 5 ∧ 0 ≤ x2 ∧ x2 < xN h (xR h x0 5) ∧ (iorV (xI h (xR h x0 5) (x2).toNat) (xI h (xR h x1 5) (x2).toNat) = 0 ∨ iorV (xI h (xR h x0 5) (x2).toNat) (xI h (xR h x1 5) (x2).toNat) = 1) ∧ (∀ h1 : Hp, h1 = sI h (xR h x0 5) (x2).toNat (iorV (xI h (xR h x0 5) (x2).toNat) (xI h (xR h x1 5) (x2).toNat)) → (Ev l D Y_Type_join d kc ks 2 [some (vr x0), some (vr x1), some (vi (wr (x2 + (1 : Int))))] [] h1 Φ))))))))) : Ev l D Y_Type_join d kc ks 2 [some (vr x0), some (vr x1), some (vi x2)] [] h Φ := by
  refine a_iload_n d_Type_join_2 rfl ?_
  refine a_bipush d_Type_join_3 ⟨by decide, by decide⟩ (by decide) ?_
  obtain ⟨vt, vf⟩ := v
  refine a_icmp_ge (tgt := 29) d_Type_join_5 (by decide) (fun c => ?_) (fun c => ?_)
  · have v := vt (c); clear vt vf
    exact a_vret d_Type_join_29 rfl v
  · have v := vf (Int.not_le.mp c); clear vt vf
    refine a_aload_n d_Type_join_8 rfl ?_
    obtain ⟨c1, v⟩ := v
    refine a_getA fl_Type_15 d_Type_join_9 (beq_iff_eq.mpr c1) ?_
    refine a_iload_n d_Type_join_12 rfl ?_
    refine a_dup2 d_Type_join_13 rfl rfl ?_
    obtain ⟨c2, c3, c4, v⟩ := v
    refine a_zald d_Type_join_14 c2 c3 c4 ?_
    refine a_aload_n d_Type_join_15 rfl ?_
    obtain ⟨c5, v⟩ := v
    refine a_getA fl_Type_15 d_Type_join_16 (beq_iff_eq.mpr c5) ?_
    refine a_iload_n d_Type_join_19 rfl ?_
    obtain ⟨c6, c7, c8, v⟩ := v
    refine a_zald d_Type_join_20 c6 c7 c8 ?_
    refine a_ior d_Type_join_21 ?_
    obtain ⟨c9, c10, c11, c12, c13, v⟩ := v
    have v := v _ rfl
    refine a_zast d_Type_join_22 c9 c10 c11 c12 c13 ?_
    refine a_iinc (L' := [some (vr x0), some (vr x1), some (vi (wr (x2 + (1 : Int))))]) d_Type_join_23 rfl (Nat.le_of_ble_eq_true rfl) rfl rfl ?_
    refine a_goto (tgt := 2) d_Type_join_26 (by decide) ?_
    exact v
theorem d_Type_isClass_0 : decode Y_Type_isClass.2.1 0 = .ok (.aload_n 0, 1) := by decide +kernel
theorem d_Type_isClass_1 : decode Y_Type_isClass.2.1 1 = .ok (.getfield 29, 3) := by decide +kernel
theorem d_Type_isClass_4 : decode Y_Type_isClass.2.1 4 = .ok (.getstatic 41, 3) := by decide +kernel
theorem d_Type_isClass_7 : decode Y_Type_isClass.2.1 7 = .ok (.if_acmp .eq 7, 3) := by decide +kernel
theorem d_Type_isClass_10 : decode Y_Type_isClass.2.1 10 = .ok (.iconst 1, 1) := by decide +kernel
theorem d_Type_isClass_11 : decode Y_Type_isClass.2.1 11 = .ok (.goto 4, 3) := by decide +kernel
theorem d_Type_isClass_14 : decode Y_Type_isClass.2.1 14 = .ok (.iconst 0, 1) := by decide +kernel
theorem d_Type_isClass_15 : decode Y_Type_isClass.2.1 15 = .ok (.ireturn, 1) := by decide +kernel
theorem s_Type_isClass_0 {l : Launch} {D : DD} {d kc ks : Nat} {h : Hp} {Φ : Option AV → Hp → Prop} {x0 : Nat} (v : xK h x0 = 3 ∧ ((xR h x0 1 = 3 → (Φ (some (vi (0 : Int))) h)) ∧ (¬ xR h x0 1 = 3 → (Φ (some (vi (1 : Int))) h)))) : Ev l D Y_Type_isClass d kc ks 0 [some (vr x0)] [] h Φ := by
  refine a_aload_n d_Type_isClass_0 rfl ?_
  obtain ⟨c1, v⟩ := v
  refine a_getR fl_Type_29 d_Type_isClass_1 (beq_iff_eq.mpr c1) ?_
  refine a_gets (k := 3) d_Type_isClass_4 (by decide +kernel) sl_Type_41 ?_
  obtain ⟨vt, vf⟩ := v
  refine a_acmp_eq (tgt := 14) d_Type_isClass_7 (by decide) (fun c => ?_) (fun c => ?_)
  · have v := vt (c); clear vt vf
    refine a_iconst d_Type_isClass_14 ⟨by decide, by decide⟩ ?_
    exact a_zret d_Type_isClass_15 rfl (Or.inl rfl) v
  · have v := vf (c); clear vt vf
    refine a_iconst d_Type_isClass_10 ⟨by decide, by decide⟩ ?_
    refine a_goto (tgt := 15) d_Type_isClass_11 (by decide) ?_
    exact a_zret d_Type_isClass_15 rfl (Or.inr rfl) v
theorem d_Type_hasFace_0 : decode Y_Type_hasFace.2.1 0 = .ok (.iconst 0, 1) := by decide +kernel
theorem d_Type_hasFace_1 : decode Y_Type_hasFace.2.1 1 = .ok (.istore_n 2, 1) := by decide +kernel
theorem d_Type_hasFace_2 : decode Y_Type_hasFace.2.1 2 = .ok (.iconst 0, 1) := by decide +kernel
theorem d_Type_hasFace_3 : decode Y_Type_hasFace.2.1 3 = .ok (.istore_n 3, 1) := by decide +kernel
theorem d_Type_hasFace_4 : decode Y_Type_hasFace.2.1 4 = .ok (.iload_n 3, 1) := by decide +kernel
theorem d_Type_hasFace_5 : decode Y_Type_hasFace.2.1 5 = .ok (.aload_n 0, 1) := by decide +kernel
theorem d_Type_hasFace_6 : decode Y_Type_hasFace.2.1 6 = .ok (.getfield 46, 3) := by decide +kernel
theorem d_Type_hasFace_9 : decode Y_Type_hasFace.2.1 9 = .ok (.if_icmp .ge 27, 3) := by decide +kernel
theorem d_Type_hasFace_12 : decode Y_Type_hasFace.2.1 12 = .ok (.iload_n 2, 1) := by decide +kernel
theorem d_Type_hasFace_13 : decode Y_Type_hasFace.2.1 13 = .ok (.aload_n 0, 1) := by decide +kernel
theorem d_Type_hasFace_14 : decode Y_Type_hasFace.2.1 14 = .ok (.getfield 11, 3) := by decide +kernel
theorem d_Type_hasFace_17 : decode Y_Type_hasFace.2.1 17 = .ok (.iload_n 3, 1) := by decide +kernel
theorem d_Type_hasFace_18 : decode Y_Type_hasFace.2.1 18 = .ok (.aaload, 1) := by decide +kernel
theorem d_Type_hasFace_19 : decode Y_Type_hasFace.2.1 19 = .ok (.aload_n 1, 1) := by decide +kernel
theorem d_Type_hasFace_20 : decode Y_Type_hasFace.2.1 20 = .ok (.if_acmp .ne 7, 3) := by decide +kernel
theorem d_Type_hasFace_23 : decode Y_Type_hasFace.2.1 23 = .ok (.iconst 1, 1) := by decide +kernel
theorem d_Type_hasFace_24 : decode Y_Type_hasFace.2.1 24 = .ok (.goto 4, 3) := by decide +kernel
theorem d_Type_hasFace_27 : decode Y_Type_hasFace.2.1 27 = .ok (.iconst 0, 1) := by decide +kernel
theorem d_Type_hasFace_28 : decode Y_Type_hasFace.2.1 28 = .ok (.ior, 1) := by decide +kernel
theorem d_Type_hasFace_29 : decode Y_Type_hasFace.2.1 29 = .ok (.istore_n 2, 1) := by decide +kernel
theorem d_Type_hasFace_30 : decode Y_Type_hasFace.2.1 30 = .ok (.iinc 3 1, 3) := by decide +kernel
theorem d_Type_hasFace_33 : decode Y_Type_hasFace.2.1 33 = .ok (.goto (-29), 3) := by decide +kernel
theorem d_Type_hasFace_36 : decode Y_Type_hasFace.2.1 36 = .ok (.iload_n 2, 1) := by decide +kernel
theorem d_Type_hasFace_37 : decode Y_Type_hasFace.2.1 37 = .ok (.ireturn, 1) := by decide +kernel
theorem s_Type_hasFace_0 {l : Launch} {D : DD} {d kc ks : Nat} {h : Hp} {Φ : Option AV → Hp → Prop} {x0 : Nat} {x1 : Nat} (v : Ev l D Y_Type_hasFace d kc ks 4 [some (vr x0), some (vr x1), some (vi (0 : Int)), some (vi (0 : Int))] [] h Φ) : Ev l D Y_Type_hasFace d kc ks 0 [some (vr x0), some (vr x1), none, none] [] h Φ := by
  refine a_iconst d_Type_hasFace_0 ⟨by decide, by decide⟩ ?_
  refine a_istore_n (L' := [some (vr x0), some (vr x1), some (vi (0 : Int)), none]) d_Type_hasFace_1 (Nat.le_of_ble_eq_true rfl) rfl rfl ?_
  refine a_iconst d_Type_hasFace_2 ⟨by decide, by decide⟩ ?_
  refine a_istore_n (L' := [some (vr x0), some (vr x1), some (vi (0 : Int)), some (vi (0 : Int))]) d_Type_hasFace_3 (Nat.le_of_ble_eq_true rfl) rfl rfl ?_
  exact v
theorem s_Type_hasFace_4 {l : Launch} {D : DD} {d kc ks : Nat} {h : Hp} {Φ : Option AV → Hp → Prop} {x0 : Nat} {x1 : Nat} {x2 : Int} {x3 : Int} (v : xK h x0 = 3 ∧ ((x3 ≥ xI h x0 4 → ((x2 = 0 ∨ x2 = 1) ∧ Φ (some (vi x2)) h)) ∧ (x3 < xI h x0 4 → (xK h x0 = 3 ∧ ((22 ≤ xK h (xR h x0 3) ∧ xK h (xR h x0 3) ≤ 27) ∧ 0 ≤ x3 ∧ x3 < xN h (xR h x0 3) ∧ ((¬ xR h (xR h x0 3) (x3).toNat = x1 → (Ev l D Y_Type_hasFace d kc ks 4 [some (vr x0), some (vr x1), some (vi (iorV x2 (0 : Int))), some (vi (wr (x3 + (1 : Int))))] [] h Φ)) ∧ (xR h (xR h x0 3) (x3).toNat = x1 → (Ev l D Y_Type_hasFace d kc ks 4 [some (vr x0), some (vr x1), some (vi (iorV x2 (1 : Int))), some (vi (wr (x3 + (1 : Int))))] [] h Φ)))))))) : Ev l D Y_Type_hasFace d kc ks 4 [some (vr x0), some (vr x1), some (vi x2), some (vi x3)] [] h Φ := by
  refine a_iload_n d_Type_hasFace_4 rfl ?_
  refine a_aload_n d_Type_hasFace_5 rfl ?_
  obtain ⟨c1, v⟩ := v
  refine a_getI fl_Type_46 d_Type_hasFace_6 (beq_iff_eq.mpr c1) ?_
  obtain ⟨vt, vf⟩ := v
  refine a_icmp_ge (tgt := 36) d_Type_hasFace_9 (by decide) (fun c => ?_) (fun c => ?_)
  · have v := vt (c); clear vt vf
    refine a_iload_n d_Type_hasFace_36 rfl ?_
    exact a_zret d_Type_hasFace_37 rfl v.1 v.2
  · have v := vf (Int.not_le.mp c); clear vt vf
    refine a_iload_n d_Type_hasFace_12 rfl ?_
    refine a_aload_n d_Type_hasFace_13 rfl ?_
    obtain ⟨c2, v⟩ := v
    refine a_getA fl_Type_11 d_Type_hasFace_14 (beq_iff_eq.mpr c2) ?_
    refine a_iload_n d_Type_hasFace_17 rfl ?_
    obtain ⟨c3, c4, c5, v⟩ := v
    refine a_aald d_Type_hasFace_18 c3 c4 c5 ?_
    refine a_aload_n d_Type_hasFace_19 rfl ?_
    obtain ⟨vt, vf⟩ := v
    refine a_acmp_ne (tgt := 27) d_Type_hasFace_20 (by decide) (fun c => ?_) (fun c => ?_)
    · have v := vt (c); clear vt vf
      refine a_iconst d_Type_hasFace_27 ⟨by decide, by decide⟩ ?_
      refine a_ior d_Type_hasFace_28 ?_
      refine a_istore_n (L' := [some (vr x0), some (vr x1), some (vi (iorV x2 (0 : Int))), some (vi x3)]) d_Type_hasFace_29 (Nat.le_of_ble_eq_true rfl) rfl rfl ?_
      refine a_iinc (L' := [some (vr x0), some (vr x1), some (vi (iorV x2 (0 : Int))), some (vi (wr (x3 + (1 : Int))))]) d_Type_hasFace_30 rfl (Nat.le_of_ble_eq_true rfl) rfl rfl ?_
      refine a_goto (tgt := 4) d_Type_hasFace_33 (by decide) ?_
      exact v
    · have v := vf (c); clear vt vf
      refine a_iconst d_Type_hasFace_23 ⟨by decide, by decide⟩ ?_
      refine a_goto (tgt := 28) d_Type_hasFace_24 (by decide) ?_
      refine a_ior d_Type_hasFace_28 ?_
      refine a_istore_n (L' := [some (vr x0), some (vr x1), some (vi (iorV x2 (1 : Int))), some (vi x3)]) d_Type_hasFace_29 (Nat.le_of_ble_eq_true rfl) rfl rfl ?_
      refine a_iinc (L' := [some (vr x0), some (vr x1), some (vi (iorV x2 (1 : Int))), some (vi (wr (x3 + (1 : Int))))]) d_Type_hasFace_30 rfl (Nat.le_of_ble_eq_true rfl) rfl rfl ?_
      refine a_goto (tgt := 4) d_Type_hasFace_33 (by decide) ?_
      exact v
theorem d_Type_isUnder_0 : decode Y_Type_isUnder.2.1 0 = .ok (.aload_n 0, 1) := by decide +kernel
theorem d_Type_isUnder_1 : decode Y_Type_isUnder.2.1 1 = .ok (.getfield 15, 3) := by decide +kernel
theorem d_Type_isUnder_4 : decode Y_Type_isUnder.2.1 4 = .ok (.aload_n 1, 1) := by decide +kernel
theorem d_Type_isUnder_5 : decode Y_Type_isUnder.2.1 5 = .ok (.getfield 25, 3) := by decide +kernel
theorem d_Type_isUnder_8 : decode Y_Type_isUnder.2.1 8 = .ok (.baload, 1) := by decide +kernel
theorem d_Type_isUnder_9 : decode Y_Type_isUnder.2.1 9 = .ok (.ireturn, 1) := by decide +kernel
theorem s_Type_isUnder_0 {l : Launch} {D : DD} {d kc ks : Nat} {h : Hp} {Φ : Option AV → Hp → Prop} {x0 : Nat} {x1 : Nat} (v : xK h x0 = 3 ∧ (xK h x1 = 3 ∧ (xK h (xR h x0 5) = 21 ∧ 0 ≤ xI h x1 0 ∧ xI h x1 0 < xN h (xR h x0 5) ∧ ((xI h (xR h x0 5) (xI h x1 0).toNat = 0 ∨ xI h (xR h x0 5) (xI h x1 0).toNat = 1) ∧ Φ (some (vi (xI h (xR h x0 5) (xI h x1 0).toNat))) h)))) : Ev l D Y_Type_isUnder d kc ks 0 [some (vr x0), some (vr x1)] [] h Φ := by
  refine a_aload_n d_Type_isUnder_0 rfl ?_
  obtain ⟨c1, v⟩ := v
  refine a_getA fl_Type_15 d_Type_isUnder_1 (beq_iff_eq.mpr c1) ?_
  refine a_aload_n d_Type_isUnder_4 rfl ?_
  obtain ⟨c2, v⟩ := v
  refine a_getI fl_Type_25 d_Type_isUnder_5 (beq_iff_eq.mpr c2) ?_
  obtain ⟨c3, c4, c5, v⟩ := v
  refine a_zald d_Type_isUnder_8 c3 c4 c5 ?_
  exact a_zret d_Type_isUnder_9 rfl v.1 v.2
theorem d_Type_hasPlain_0 : decode Y_Type_hasPlain.2.1 0 = .ok (.iconst 0, 1) := by decide +kernel
theorem d_Type_hasPlain_1 : decode Y_Type_hasPlain.2.1 1 = .ok (.istore_n 1, 1) := by decide +kernel
theorem d_Type_hasPlain_2 : decode Y_Type_hasPlain.2.1 2 = .ok (.aload_n 0, 1) := by decide +kernel
theorem d_Type_hasPlain_3 : decode Y_Type_hasPlain.2.1 3 = .ok (.getfield 21, 3) := by decide +kernel
theorem d_Type_hasPlain_6 : decode Y_Type_hasPlain.2.1 6 = .ok (.astore_n 2, 1) := by decide +kernel
theorem d_Type_hasPlain_7 : decode Y_Type_hasPlain.2.1 7 = .ok (.aload_n 2, 1) := by decide +kernel
theorem d_Type_hasPlain_8 : decode Y_Type_hasPlain.2.1 8 = .ok (.arraylength, 1) := by decide +kernel
theorem d_Type_hasPlain_9 : decode Y_Type_hasPlain.2.1 9 = .ok (.istore_n 3, 1) := by decide +kernel
theorem d_Type_hasPlain_10 : decode Y_Type_hasPlain.2.1 10 = .ok (.iconst 0, 1) := by decide +kernel
theorem d_Type_hasPlain_11 : decode Y_Type_hasPlain.2.1 11 = .ok (.istore 4, 2) := by decide +kernel
theorem d_Type_hasPlain_13 : decode Y_Type_hasPlain.2.1 13 = .ok (.iload 4, 2) := by decide +kernel
theorem d_Type_hasPlain_15 : decode Y_Type_hasPlain.2.1 15 = .ok (.iload_n 3, 1) := by decide +kernel
theorem d_Type_hasPlain_16 : decode Y_Type_hasPlain.2.1 16 = .ok (.if_icmp .ge 39, 3) := by decide +kernel
theorem d_Type_hasPlain_19 : decode Y_Type_hasPlain.2.1 19 = .ok (.aload_n 2, 1) := by decide +kernel
theorem d_Type_hasPlain_20 : decode Y_Type_hasPlain.2.1 20 = .ok (.iload 4, 2) := by decide +kernel
theorem d_Type_hasPlain_22 : decode Y_Type_hasPlain.2.1 22 = .ok (.aaload, 1) := by decide +kernel
theorem d_Type_hasPlain_23 : decode Y_Type_hasPlain.2.1 23 = .ok (.astore 5, 2) := by decide +kernel
theorem d_Type_hasPlain_25 : decode Y_Type_hasPlain.2.1 25 = .ok (.iload_n 1, 1) := by decide +kernel
theorem d_Type_hasPlain_26 : decode Y_Type_hasPlain.2.1 26 = .ok (.aload 5, 2) := by decide +kernel
theorem d_Type_hasPlain_28 : decode Y_Type_hasPlain.2.1 28 = .ok (.ifnull 18, 3) := by decide +kernel
theorem d_Type_hasPlain_31 : decode Y_Type_hasPlain.2.1 31 = .ok (.aload 5, 2) := by decide +kernel
theorem d_Type_hasPlain_33 : decode Y_Type_hasPlain.2.1 33 = .ok (.getfield 49, 3) := by decide +kernel
theorem d_Type_hasPlain_36 : decode Y_Type_hasPlain.2.1 36 = .ok (.getstatic 53, 3) := by decide +kernel
theorem d_Type_hasPlain_39 : decode Y_Type_hasPlain.2.1 39 = .ok (.if_acmp .ne 7, 3) := by decide +kernel
theorem d_Type_hasPlain_42 : decode Y_Type_hasPlain.2.1 42 = .ok (.iconst 1, 1) := by decide +kernel
theorem d_Type_hasPlain_43 : decode Y_Type_hasPlain.2.1 43 = .ok (.goto 4, 3) := by decide +kernel
theorem d_Type_hasPlain_46 : decode Y_Type_hasPlain.2.1 46 = .ok (.iconst 0, 1) := by decide +kernel
theorem d_Type_hasPlain_47 : decode Y_Type_hasPlain.2.1 47 = .ok (.ior, 1) := by decide +kernel
theorem d_Type_hasPlain_48 : decode Y_Type_hasPlain.2.1 48 = .ok (.istore_n 1, 1) := by decide +kernel
theorem d_Type_hasPlain_49 : decode Y_Type_hasPlain.2.1 49 = .ok (.iinc 4 1, 3) := by decide +kernel
theorem d_Type_hasPlain_52 : decode Y_Type_hasPlain.2.1 52 = .ok (.goto (-39), 3) := by decide +kernel
theorem d_Type_hasPlain_55 : decode Y_Type_hasPlain.2.1 55 = .ok (.iload_n 1, 1) := by decide +kernel
theorem d_Type_hasPlain_56 : decode Y_Type_hasPlain.2.1 56 = .ok (.ireturn, 1) := by decide +kernel
theorem s_Type_hasPlain_0 {l : Launch} {D : DD} {d kc ks : Nat} {h : Hp} {Φ : Option AV → Hp → Prop} {x0 : Nat} (v : xK h x0 = 3 ∧ ((20 ≤ xK h (xR h x0 6) ∧ xK h (xR h x0 6) < 29) ∧ (Ev l D Y_Type_hasPlain d kc ks 13 [some (vr x0), some (vi (0 : Int)), some (vr (xR h x0 6)), some (vi (xN h (xR h x0 6) : Int)), some (vi (0 : Int)), none] [] h Φ))) : Ev l D Y_Type_hasPlain d kc ks 0 [some (vr x0), none, none, none, none, none] [] h Φ := by
  refine a_iconst d_Type_hasPlain_0 ⟨by decide, by decide⟩ ?_
  refine a_istore_n (L' := [some (vr x0), some (vi (0 : Int)), none, none, none, none]) d_Type_hasPlain_1 (Nat.le_of_ble_eq_true rfl) rfl rfl ?_
  refine a_aload_n d_Type_hasPlain_2 rfl ?_
  obtain ⟨c1, v⟩ := v
  refine a_getA fl_Type_21 d_Type_hasPlain_3 (beq_iff_eq.mpr c1) ?_
  refine a_astore_n (L' := [some (vr x0), some (vi (0 : Int)), some (vr (xR h x0 6)), none, none, none]) d_Type_hasPlain_6 (Nat.le_of_ble_eq_true rfl) rfl rfl ?_
  refine a_aload_n d_Type_hasPlain_7 rfl ?_
  obtain ⟨c2, v⟩ := v
  refine a_alen d_Type_hasPlain_8 c2 ?_
  refine a_istore_n (L' := [some (vr x0), some (vi (0 : Int)), some (vr (xR h x0 6)), some (vi (xN h (xR h x0 6) : Int)), none, none]) d_Type_hasPlain_9 (Nat.le_of_ble_eq_true rfl) rfl rfl ?_
  refine a_iconst d_Type_hasPlain_10 ⟨by decide, by decide⟩ ?_
  refine a_istore (L' := [some (vr x0), some (vi (0 : Int)), some (vr (xR h x0 6)), some (vi (xN h (xR h x0 6) : Int)), some (vi (0 : Int)), none]) d_Type_hasPlain_11 (Nat.le_of_ble_eq_true rfl) rfl rfl ?_
  exact v
theorem s_Type_hasPlain_13 {l : Launch} {D : DD} {d kc ks : Nat} {h : Hp} {Φ : Option AV → Hp → Prop} {x0 : Nat} {x1 : Int} {x2 : Nat} {x3 : Int} {x4 : Int} (v : (x4 ≥ x3 → ((x1 = 0 ∨ x1 = 1) ∧ Φ (some (vi x1)) h)) ∧ (x4 < x3 → ((22 ≤ xK h x2 ∧ xK h x2 ≤ 27) ∧ 0 ≤ x4 ∧ x4 < xN h x2 ∧ ((xR h x2 (x4).toNat = 0 → (Ev l D Y_Type_hasPlain d kc ks 47 [some (vr x0), some (vi x1), some (vr x2), some (vi x3), some (vi x4), some (vr (xR h x2 (x4).toNat))] [vi (0 : Int), vi x1] h Φ)) ∧ (¬ xR h x2 (x4).toNat = 0 → (xK h (xR h x2 (x4).toNat) = 4 ∧ ((¬ xR h (xR h x2 (x4).toNat) 3 = 4 → (Ev l D Y_Type_hasPlain d kc ks 47 [some (vr x0), some (vi x1), some (vr x2), some (vi x3), some (vi x4), some (vr (xR h x2 (x4).toNat))] [vi (0 : Int), vi x1] h Φ)) ∧ (xR h (xR h x2 (x4).toNat) 3 = 4 → (Ev l D Y_Type_hasPlain d kc ks 47 [some (vr x0), some (vi x1), some (vr x2), some (vi x3), some (vi x4), some (vr (xR h x2 (x4).toNat))] [vi (1 : Int), vi x1] h Φ))))))))) : Ev l D Y_Type_hasPlain d kc ks 13 [some (vr x0), some (vi x1), some (vr x2), some (vi x3), some (vi x4), none] [] h Φ := by
  refine a_iload d_Type_hasPlain_13 rfl ?_
  refine a_iload_n d_Type_hasPlain_15 rfl ?_
  obtain ⟨vt, vf⟩ := v
  refine a_icmp_ge (tgt := 55) d_Type_hasPlain_16 (by decide) (fun c => ?_) (fun c => ?_)
  · have v := vt (c); clear vt vf
    refine a_iload_n d_Type_hasPlain_55 rfl ?_
    exact a_zret d_Type_hasPlain_56 rfl v.1 v.2
  · have v := vf (Int.not_le.mp c); clear vt vf
    refine a_aload_n d_Type_hasPlain_19 rfl ?_
    refine a_iload d_Type_hasPlain_20 rfl ?_
    obtain ⟨c1, c2, c3, v⟩ := v
    refine a_aald d_Type_hasPlain_22 c1 c2 c3 ?_
    refine a_astore (L' := [some (vr x0), some (vi x1), some (vr x2), some (vi x3), some (vi x4), some (vr (xR h x2 (x4).toNat))]) d_Type_hasPlain_23 (Nat.le_of_ble_eq_true rfl) rfl rfl ?_
    refine a_iload_n d_Type_hasPlain_25 rfl ?_
    refine a_aload d_Type_hasPlain_26 rfl ?_
    obtain ⟨vt, vf⟩ := v
    refine a_ifnull (tgt := 46) d_Type_hasPlain_28 (by decide) (fun c => ?_) (fun c => ?_)
    · have v := vt (c); clear vt vf
      refine a_iconst d_Type_hasPlain_46 ⟨by decide, by decide⟩ ?_
      exact v
    · have v := vf (c); clear vt vf
      refine a_aload d_Type_hasPlain_31 rfl ?_
      obtain ⟨c4, v⟩ := v
      refine a_getRN fl_Type_49 d_Type_hasPlain_33 (beq_iff_eq.mpr c4) ?_
      refine a_gets (k := 4) d_Type_hasPlain_36 (by decide +kernel) sl_Type_53 ?_
      obtain ⟨vt, vf⟩ := v
      refine a_acmp_ne (tgt := 46) d_Type_hasPlain_39 (by decide) (fun c => ?_) (fun c => ?_)
      · have v := vt (c); clear vt vf
        refine a_iconst d_Type_hasPlain_46 ⟨by decide, by decide⟩ ?_
        exact v
      · have v := vf (c); clear vt vf
        refine a_iconst d_Type_hasPlain_42 ⟨by decide, by decide⟩ ?_
        refine a_goto (tgt := 47) d_Type_hasPlain_43 (by decide) ?_
        exact v
theorem s_Type_hasPlain_47 {l : Launch} {D : DD} {d kc ks : Nat} {h : Hp} {Φ : Option AV → Hp → Prop} {x0 : Nat} {x1 : Int} {x2 : Nat} {x3 : Int} {x4 : Int} {x5 : Nat} {y0 : Int} {y1 : Int} (v : Ev l D Y_Type_hasPlain d kc ks 13 [some (vr x0), some (vi (iorV y1 y0)), some (vr x2), some (vi x3), some (vi (wr (x4 + (1 : Int)))), none] [] h Φ) : Ev l D Y_Type_hasPlain d kc ks 47 [some (vr x0), some (vi x1), some (vr x2), some (vi x3), some (vi x4), some (vr x5)] [vi y0, vi y1] h Φ := by
  refine a_ior d_Type_hasPlain_47 ?_
  refine a_istore_n (L' := [some (vr x0), some (vi (iorV y1 y0)), some (vr x2), some (vi x3), some (vi x4), some (vr x5)]) d_Type_hasPlain_48 (Nat.le_of_ble_eq_true rfl) rfl rfl ?_
  refine a_iinc (L' := [some (vr x0), some (vi (iorV y1 y0)), some (vr x2), some (vi x3), some (vi (wr (x4 + (1 : Int)))), some (vr x5)]) d_Type_hasPlain_49 rfl (Nat.le_of_ble_eq_true rfl) rfl rfl ?_
  refine a_goto (tgt := 13) d_Type_hasPlain_52 (by decide) ?_
  exact Ev.weak v ⟨rfl, rfl, rfl, rfl, rfl, trivial⟩
theorem d_Member_init_0 : decode Y_Member_init.2.1 0 = .ok (.aload_n 0, 1) := by decide +kernel
theorem d_Member_init_1 : decode Y_Member_init.2.1 1 = .ok (.invokespecial 3, 3) := by decide +kernel
theorem d_Member_init_4 : decode Y_Member_init.2.1 4 = .ok (.aload_n 0, 1) := by decide +kernel
theorem d_Member_init_5 : decode Y_Member_init.2.1 5 = .ok (.bipush 24, 2) := by decide +kernel
theorem d_Member_init_7 : decode Y_Member_init.2.1 7 = .ok (.anewarray 9, 3) := by decide +kernel
theorem d_Member_init_10 : decode Y_Member_init.2.1 10 = .ok (.putfield 11, 3) := by decide +kernel
theorem d_Member_init_13 : decode Y_Member_init.2.1 13 = .ok (.aload_n 0, 1) := by decide +kernel
theorem d_Member_init_14 : decode Y_Member_init.2.1 14 = .ok (.iload_n 1, 1) := by decide +kernel
theorem d_Member_init_15 : decode Y_Member_init.2.1 15 = .ok (.putfield 17, 3) := by decide +kernel
theorem d_Member_init_18 : decode Y_Member_init.2.1 18 = .ok (.aload_n 0, 1) := by decide +kernel
theorem d_Member_init_19 : decode Y_Member_init.2.1 19 = .ok (.aload_n 2, 1) := by decide +kernel
theorem d_Member_init_20 : decode Y_Member_init.2.1 20 = .ok (.putfield 21, 3) := by decide +kernel
theorem d_Member_init_23 : decode Y_Member_init.2.1 23 = .ok (.aload_n 0, 1) := by decide +kernel
theorem d_Member_init_24 : decode Y_Member_init.2.1 24 = .ok (.iload_n 3, 1) := by decide +kernel
theorem d_Member_init_25 : decode Y_Member_init.2.1 25 = .ok (.putfield 25, 3) := by decide +kernel
theorem d_Member_init_28 : decode Y_Member_init.2.1 28 = .ok (.aload_n 0, 1) := by decide +kernel
theorem d_Member_init_29 : decode Y_Member_init.2.1 29 = .ok (.aload 4, 2) := by decide +kernel
theorem d_Member_init_31 : decode Y_Member_init.2.1 31 = .ok (.putfield 28, 3) := by decide +kernel
theorem d_Member_init_34 : decode Y_Member_init.2.1 34 = .ok (.return_, 1) := by decide +kernel
theorem s_Member_init_0 {l : Launch} {D : DD} {d kc ks : Nat} {h : Hp} {Φ : Option AV → Hp → Prop} {x0 : Nat} {x1 : Int} {x2 : Nat} {x3 : Int} {x4 : Nat} (v : ¬ xK h x0 = 0 ∧ (∃ a1 : Nat, 16 ≤ a1 ∧ xK h a1 = 0 ∧ (∀ h1 : Hp, h1 = nw h a1 24 ((24 : Int)).toNat → (xK h1 x0 = 4 ∧ 16 ≤ x0 ∧ (∀ h2 : Hp, h2 = sR h1 x0 4 a1 → (xK h2 x0 = 4 ∧ 16 ≤ x0 ∧ (∀ h3 : Hp, h3 = sI h2 x0 0 x1 → (xK h3 x0 = 4 ∧ 16 ≤ x0 ∧ (∀ h4 : Hp, h4 = sR h3 x0 1 x2 → (xK h4 x0 = 4 ∧ 16 ≤ x0 ∧ (∀ h5 : Hp, h5 = sI h4 x0 2 x3 → (xK h5 x0 = 4 ∧ 16 ≤ x0 ∧ (∀ h6 : Hp, h6 = sR h5 x0 3 x4 → (Φ none h6)))))))))))))) : Ev l D Y_Member_init (d + 1) (kc + 1) (ks + 24) 0 [some (vr x0), some (vi x1), some (vr x2), some (vi x3), some (vr x4)] [] h Φ := by
  refine a_aload_n d_Member_init_0 rfl ?_
  obtain ⟨c1, v⟩ := v
  refine a_objInit d_Member_init_1 ml_Member_3 oi_inst oi_code rfl (by omega) c1 ?_
  refine a_aload_n d_Member_init_4 rfl ?_
  refine a_bipush d_Member_init_5 ⟨by decide, by decide⟩ (by decide) ?_
  obtain ⟨a1, c2, c3, v⟩ := v
  have v := v _ rfl
  refine a_anew (kd := 24) (kc' := kc) (ks' := ks) a1 d_Member_init_7 (by decide) cl_Member_9 ao_Op (by decide) (by omega) (by show _ + 24 ≤ _; omega) c2 c3 ?_
  obtain ⟨c4, c5, v⟩ := v
  have v := v _ rfl
  refine a_putAF fl_Member_11 rfl (dc1 rfl) d_Member_init_10 (beq_iff_eq.mpr c4) c5 ?_
  refine a_aload_n d_Member_init_13 rfl ?_
  refine a_iload_n d_Member_init_14 rfl ?_
  obtain ⟨c6, c7, v⟩ := v
  have v := v _ rfl
  refine a_putIF fl_Member_17 rfl (dc1 rfl) d_Member_init_15 (beq_iff_eq.mpr c6) c7 ?_
  refine a_aload_n d_Member_init_18 rfl ?_
  refine a_aload_n d_Member_init_19 rfl ?_
  obtain ⟨c8, c9, v⟩ := v
  have v := v _ rfl
  refine a_putRF fl_Member_21 rfl (dc1 rfl) d_Member_init_20 (beq_iff_eq.mpr c8) c9 ?_
  refine a_aload_n d_Member_init_23 rfl ?_
  refine a_iload_n d_Member_init_24 rfl ?_
  obtain ⟨c10, c11, v⟩ := v
  have v := v _ rfl
  refine a_putIF fl_Member_25 rfl (dc1 rfl) d_Member_init_25 (beq_iff_eq.mpr c10) c11 ?_
  refine a_aload_n d_Member_init_28 rfl ?_
  refine a_aload d_Member_init_29 rfl ?_
  obtain ⟨c12, c13, v⟩ := v
  have v := v _ rfl
  refine a_putRF fl_Member_28 rfl (dc1 rfl) d_Member_init_31 (beq_iff_eq.mpr c12) c13 ?_
  exact a_vret d_Member_init_34 rfl v
theorem d_Op_init_0 : decode Y_Op_init.2.1 0 = .ok (.aload_n 0, 1) := by decide +kernel
theorem d_Op_init_1 : decode Y_Op_init.2.1 1 = .ok (.invokespecial 3, 3) := by decide +kernel
theorem d_Op_init_4 : decode Y_Op_init.2.1 4 = .ok (.aload_n 0, 1) := by decide +kernel
theorem d_Op_init_5 : decode Y_Op_init.2.1 5 = .ok (.bipush 48, 2) := by decide +kernel
theorem d_Op_init_7 : decode Y_Op_init.2.1 7 = .ok (.newarray .boolean, 2) := by decide +kernel
theorem d_Op_init_9 : decode Y_Op_init.2.1 9 = .ok (.putfield 9, 3) := by decide +kernel
theorem d_Op_init_12 : decode Y_Op_init.2.1 12 = .ok (.aload_n 0, 1) := by decide +kernel
theorem d_Op_init_13 : decode Y_Op_init.2.1 13 = .ok (.iconst 4, 1) := by decide +kernel
theorem d_Op_init_14 : decode Y_Op_init.2.1 14 = .ok (.newarray .int, 2) := by decide +kernel
theorem d_Op_init_16 : decode Y_Op_init.2.1 16 = .ok (.putfield 15, 3) := by decide +kernel
theorem d_Op_init_19 : decode Y_Op_init.2.1 19 = .ok (.aload_n 0, 1) := by decide +kernel
theorem d_Op_init_20 : decode Y_Op_init.2.1 20 = .ok (.iload_n 1, 1) := by decide +kernel
theorem d_Op_init_21 : decode Y_Op_init.2.1 21 = .ok (.putfield 19, 3) := by decide +kernel
theorem d_Op_init_24 : decode Y_Op_init.2.1 24 = .ok (.aload_n 0, 1) := by decide +kernel
theorem d_Op_init_25 : decode Y_Op_init.2.1 25 = .ok (.aload_n 2, 1) := by decide +kernel
theorem d_Op_init_26 : decode Y_Op_init.2.1 26 = .ok (.putfield 23, 3) := by decide +kernel
theorem d_Op_init_29 : decode Y_Op_init.2.1 29 = .ok (.return_, 1) := by decide +kernel
theorem s_Op_init_0 {l : Launch} {D : DD} {d kc ks : Nat} {h : Hp} {Φ : Option AV → Hp → Prop} {x0 : Nat} {x1 : Int} {x2 : Nat} (v : ¬ xK h x0 = 0 ∧ (∃ a1 : Nat, 16 ≤ a1 ∧ xK h a1 = 0 ∧ (∀ h1 : Hp, h1 = nw h a1 21 ((48 : Int)).toNat → (opk (xK h1 x0) = true ∧ 16 ≤ x0 ∧ (∀ h2 : Hp, h2 = sR h1 x0 2 a1 → (∃ a2 : Nat, 16 ≤ a2 ∧ xK h2 a2 = 0 ∧ (∀ h3 : Hp, h3 = nw h2 a2 20 ((4 : Int)).toNat → (opk (xK h3 x0) = true ∧ 16 ≤ x0 ∧ (∀ h4 : Hp, h4 = sR h3 x0 3 a2 → (opk (xK h4 x0) = true ∧ 16 ≤ x0 ∧ (∀ h5 : Hp, h5 = sI h4 x0 0 x1 → (opk (xK h5 x0) = true ∧ 16 ≤ x0 ∧ (∀ h6 : Hp, h6 = sR h5 x0 1 x2 → (Φ none h6)))))))))))))) : Ev l D Y_Op_init (d + 1) (kc + 2) (ks + 52) 0 [some (vr x0), some (vi x1), some (vr x2)] [] h Φ := by
  refine a_aload_n d_Op_init_0 rfl ?_
  obtain ⟨c1, v⟩ := v
  refine a_objInit d_Op_init_1 ml_Op_3 oi_inst oi_code rfl (by omega) c1 ?_
  refine a_aload_n d_Op_init_4 rfl ?_
  refine a_bipush d_Op_init_5 ⟨by decide, by decide⟩ (by decide) ?_
  obtain ⟨a1, c2, c3, v⟩ := v
  have v := v _ rfl
  refine a_newarr (kd := 21) (kc' := kc + 1) (ks' := ks + 4) a1 d_Op_init_7 (by decide) rfl ac_boolean (by decide) (by omega) (by show _ + 48 ≤ _; omega) c2 c3 ?_
  obtain ⟨c4, c5, v⟩ := v
  have v := v _ rfl
  refine a_putAF fl_Op_9 rfl (fun kd hq => by rcases opk_cases hq with rfl | rfl | rfl | rfl | rfl | rfl | rfl <;> rfl) d_Op_init_9 c4 c5 ?_
  refine a_aload_n d_Op_init_12 rfl ?_
  refine a_iconst d_Op_init_13 ⟨by decide, by decide⟩ ?_
  obtain ⟨a2, c6, c7, v⟩ := v
  have v := v _ rfl
  refine a_newarr (kd := 20) (kc' := kc) (ks' := ks) a2 d_Op_init_14 (by decide) rfl ac_int (by decide) (by omega) (by show _ + 4 ≤ _; omega) c6 c7 ?_
  obtain ⟨c8, c9, v⟩ := v
  have v := v _ rfl
  refine a_putAF fl_Op_15 rfl (fun kd hq => by rcases opk_cases hq with rfl | rfl | rfl | rfl | rfl | rfl | rfl <;> rfl) d_Op_init_16 c8 c9 ?_
  refine a_aload_n d_Op_init_19 rfl ?_
  refine a_iload_n d_Op_init_20 rfl ?_
  obtain ⟨c10, c11, v⟩ := v
  have v := v _ rfl
  refine a_putIF fl_Op_19 rfl (fun kd hq => by rcases opk_cases hq with rfl | rfl | rfl | rfl | rfl | rfl | rfl <;> rfl) d_Op_init_21 c10 c11 ?_
  refine a_aload_n d_Op_init_24 rfl ?_
  refine a_aload_n d_Op_init_25 rfl ?_
  obtain ⟨c12, c13, v⟩ := v
  have v := v _ rfl
  refine a_putRF fl_Op_23 rfl (fun kd hq => by rcases opk_cases hq with rfl | rfl | rfl | rfl | rfl | rfl | rfl <;> rfl) d_Op_init_26 c12 c13 ?_
  exact a_vret d_Op_init_29 rfl v
theorem d_Op_forget_0 : decode Y_Op_forget.2.1 0 = .ok (.aload_n 0, 1) := by decide +kernel
theorem d_Op_forget_1 : decode Y_Op_forget.2.1 1 = .ok (.getfield 9, 3) := by decide +kernel
theorem d_Op_forget_4 : decode Y_Op_forget.2.1 4 = .ok (.iconst 0, 1) := by decide +kernel
theorem d_Op_forget_5 : decode Y_Op_forget.2.1 5 = .ok (.invokestatic 27, 3) := by decide +kernel
theorem d_Op_forget_8 : decode Y_Op_forget.2.1 8 = .ok (.aload_n 0, 1) := by decide +kernel
theorem d_Op_forget_9 : decode Y_Op_forget.2.1 9 = .ok (.getfield 15, 3) := by decide +kernel
theorem d_Op_forget_12 : decode Y_Op_forget.2.1 12 = .ok (.iconst 0, 1) := by decide +kernel
theorem d_Op_forget_13 : decode Y_Op_forget.2.1 13 = .ok (.invokestatic 33, 3) := by decide +kernel
theorem d_Op_forget_16 : decode Y_Op_forget.2.1 16 = .ok (.return_, 1) := by decide +kernel
theorem s_Op_forget_0 {l : Launch} {D : DD} {d kc ks : Nat} {h : Hp} {Φ : Option AV → Hp → Prop} {x0 : Nat} (v : opk (xK h x0) = true ∧ (Ev l D Y_Arr_fillZ d 0 0 0 [some (vr (xR h x0 2)), some (vi (0 : Int)), none, none] [] h (kv (fun h1 => opk (xK h1 x0) = true ∧ (Ev l D Y_Arr_fillI d 0 0 0 [some (vr (xR h1 x0 3)), some (vi (0 : Int)), none, none] [] h1 (kv (fun h2 => Φ none h2))))))) : Ev l D Y_Op_forget (d + 1) kc ks 0 [some (vr x0)] [] h Φ := by
  refine a_aload_n d_Op_forget_0 rfl ?_
  obtain ⟨c1, v⟩ := v
  refine a_getA fl_Op_9 d_Op_forget_1 c1 ?_
  refine a_iconst d_Op_forget_4 ⟨by decide, by decide⟩ ?_
  refine b_callS (as := [vr (xR h x0 2), vi (0 : Int)]) (st := []) (kc1 := 0) (ks1 := 0) (kc2 := kc) (ks2 := ks) (d' := d) ml_Op_27 rfl d_Op_forget_5 rfl rfl (Nat.le_of_ble_eq_true rfl) rfl (Nat.le_refl _) (by omega) (by omega) ?_
  refine Ev.mono v ?_
  intro u h1 v
  obtain ⟨rfl, v⟩ := kv_el v
  change Ev l D Y_Op_forget _ _ _ 8 [some (vr x0)] [] _ _
  refine a_aload_n d_Op_forget_8 rfl ?_
  obtain ⟨c2, v⟩ := v
  refine a_getA fl_Op_15 d_Op_forget_9 c2 ?_
  refine a_iconst d_Op_forget_12 ⟨by decide, by decide⟩ ?_
  refine b_callS (as := [vr (xR h1 x0 3), vi (0 : Int)]) (st := []) (kc1 := 0) (ks1 := 0) (kc2 := kc) (ks2 := ks) (d' := d) ml_Op_33 rfl d_Op_forget_13 rfl rfl (Nat.le_of_ble_eq_true rfl) rfl (Nat.le_refl _) (by omega) (by omega) ?_
  refine Ev.mono v ?_
  intro u h2 v
  obtain ⟨rfl, v⟩ := kv_el v
  change Ev l D Y_Op_forget _ _ _ 16 [some (vr x0)] [] _ _
  exact a_vret d_Op_forget_16 rfl v
theorem d_Op_judge_0 : decode Y_Op_judge.2.1 0 = .ok (.return_, 1) := by decide +kernel
theorem g_Op_judge_0 {l : Launch} {D : DD} {d kc ks : Nat} {h : Hp} {Φ : Option AV → Hp → Prop} {x0 : Nat} (hM : GS h) (v : Φ none h) : Ev l D Y_Op_judge d kc ks 0 [some (vr x0), some (vr 20)] [] h Φ := by
  exact a_vret d_Op_judge_0 rfl v
theorem d_Op_call_0 : decode Y_Op_call.2.1 0 = .ok (.aload_n 0, 1) := by decide +kernel
theorem d_Op_call_1 : decode Y_Op_call.2.1 1 = .ok (.getfield 9, 3) := by decide +kernel
theorem d_Op_call_4 : decode Y_Op_call.2.1 4 = .ok (.aload_n 2, 1) := by decide +kernel
theorem d_Op_call_5 : decode Y_Op_call.2.1 5 = .ok (.getfield 36, 3) := by decide +kernel
theorem d_Op_call_8 : decode Y_Op_call.2.1 8 = .ok (.baload, 1) := by decide +kernel
theorem d_Op_call_9 : decode Y_Op_call.2.1 9 = .ok (.ifCond .eq 10, 3) := by decide +kernel
theorem d_Op_call_12 : decode Y_Op_call.2.1 12 = .ok (.aload_n 2, 1) := by decide +kernel
theorem d_Op_call_13 : decode Y_Op_call.2.1 13 = .ok (.getfield 39, 3) := by decide +kernel
theorem d_Op_call_16 : decode Y_Op_call.2.1 16 = .ok (.ifCond .ne 23, 3) := by decide +kernel
theorem d_Op_call_19 : decode Y_Op_call.2.1 19 = .ok (.aload_n 0, 1) := by decide +kernel
theorem d_Op_call_20 : decode Y_Op_call.2.1 20 = .ok (.getfield 9, 3) := by decide +kernel
theorem d_Op_call_23 : decode Y_Op_call.2.1 23 = .ok (.aload_n 2, 1) := by decide +kernel
theorem d_Op_call_24 : decode Y_Op_call.2.1 24 = .ok (.getfield 36, 3) := by decide +kernel
theorem d_Op_call_27 : decode Y_Op_call.2.1 27 = .ok (.iconst 1, 1) := by decide +kernel
theorem d_Op_call_28 : decode Y_Op_call.2.1 28 = .ok (.bastore, 1) := by decide +kernel
theorem d_Op_call_29 : decode Y_Op_call.2.1 29 = .ok (.aload_n 2, 1) := by decide +kernel
theorem d_Op_call_30 : decode Y_Op_call.2.1 30 = .ok (.iconst 1, 1) := by decide +kernel
theorem d_Op_call_31 : decode Y_Op_call.2.1 31 = .ok (.putfield 39, 3) := by decide +kernel
theorem d_Op_call_34 : decode Y_Op_call.2.1 34 = .ok (.aload_n 1, 1) := by decide +kernel
theorem d_Op_call_35 : decode Y_Op_call.2.1 35 = .ok (.iconst 1, 1) := by decide +kernel
theorem d_Op_call_36 : decode Y_Op_call.2.1 36 = .ok (.putfield 43, 3) := by decide +kernel
theorem d_Op_call_39 : decode Y_Op_call.2.1 39 = .ok (.return_, 1) := by decide +kernel
theorem g_Op_call_0 {l : Launch} {D : DD} {d kc ks : Nat} {h : Hp} {Φ : Option AV → Hp → Prop} {x0 : Nat} {x2 : Nat} (hM : GS h) (v : opk (xK h x0) = true ∧ (xK h x2 = 4 ∧ (xK h (xR h x0 2) = 21 ∧ 0 ≤ xI h x2 0 ∧ xI h x2 0 < xN h (xR h x0 2) ∧ ((xI h (xR h x0 2) (xI h x2 0).toNat = 0 → (opk (xK h x0) = true ∧ (xK h x2 = 4 ∧ (xK h (xR h x0 2) = 21 ∧ 16 ≤ xR h x0 2 ∧ 0 ≤ xI h x2 0 ∧ xI h x2 0 < xN h (xR h x0 2) ∧ (∀ h1 : Hp, h1 = sI h (xR h x0 2) (xI h x2 0).toNat (1 : Int) → (xK h1 x2 = 4 ∧ 16 ≤ x2 ∧ (∀ h2 : Hp, h2 = sI h1 x2 7 (1 : Int) → (∀ h3 : Hp, h3 = sI h2 20 8 (1 : Int) → (Φ none h3))))))))) ∧ (¬ xI h (xR h x0 2) (xI h x2 0).toNat = 0 → (xK h x2 = 4 ∧ ((¬ xI h x2 7 = 0 → (Φ none h)) ∧ (xI h x2 7 = 0 → (opk (xK h x0) = true ∧ (xK h x2 = 4 ∧ (xK h (xR h x0 2) = 21 ∧ 16 ≤ xR h x0 2 ∧ 0 ≤ xI h x2 0 ∧ xI h x2 0 < xN h (xR h x0 2) ∧ (∀ h4 : Hp, h4 = sI h (xR h x0 2) (xI h x2 0).toNat (1 : Int) → (xK h4 x2 = 4 ∧ 16 ≤ x2 ∧ (∀ h5 : Hp, h5 = sI h4 x2 7 (1 : Int) → (∀ h6 : Hp, h6 = sI h5 20 8 (1 : Int) → (Φ none h6)))))))))))))))) : Ev l D Y_Op_call d kc ks 0 [some (vr x0), some (vr 20), some (vr x2)] [] h Φ := by
  refine a_aload_n d_Op_call_0 rfl ?_
  obtain ⟨c1, v⟩ := v
  refine a_getA fl_Op_9 d_Op_call_1 c1 ?_
  refine a_aload_n d_Op_call_4 rfl ?_
  obtain ⟨c2, v⟩ := v
  refine a_getIN fl_Op_36 d_Op_call_5 (beq_iff_eq.mpr c2) ?_
  obtain ⟨c3, c4, c5, v⟩ := v
  refine a_zald d_Op_call_8 c3 c4 c5 ?_
  obtain ⟨vt, vf⟩ := v
  refine a_if_eq (tgt := 19) d_Op_call_9 (by decide) (fun c => ?_) (fun c => ?_)
  · have v := vt (c); clear vt vf
    refine a_aload_n d_Op_call_19 rfl ?_
    obtain ⟨c6, v⟩ := v
    refine a_getA fl_Op_9 d_Op_call_20 c6 ?_
    refine a_aload_n d_Op_call_23 rfl ?_
    obtain ⟨c7, v⟩ := v
    refine a_getIN fl_Op_36 d_Op_call_24 (beq_iff_eq.mpr c7) ?_
    refine a_iconst d_Op_call_27 ⟨by decide, by decide⟩ ?_
    obtain ⟨c8, c9, c10, c11, v⟩ := v
    have v := v _ rfl
    refine a_zast d_Op_call_28 c8 c9 c10 c11 (Or.inr rfl) ?_
    refine a_aload_n d_Op_call_29 rfl ?_
    refine a_iconst d_Op_call_30 ⟨by decide, by decide⟩ ?_
    obtain ⟨c12, c13, v⟩ := v
    have v := v _ rfl
    refine a_putZN fl_Op_39 d_Op_call_31 (beq_iff_eq.mpr c12) c13 (Or.inr rfl) ?_
    refine a_aload_n d_Op_call_34 rfl ?_
    refine a_iconst d_Op_call_35 ⟨by decide, by decide⟩ ?_
    have v := v _ rfl
    refine a_putZN fl_Op_43 d_Op_call_36 (beq_iff_eq.mpr (KNG_20 hM)) (by decide) (Or.inr rfl) ?_
    exact a_vret d_Op_call_39 rfl v
  · have v := vf (c); clear vt vf
    refine a_aload_n d_Op_call_12 rfl ?_
    obtain ⟨c16, v⟩ := v
    refine a_getZN fl_Op_39 d_Op_call_13 (beq_iff_eq.mpr c16) ?_
    obtain ⟨vt, vf⟩ := v
    refine a_if_ne (tgt := 39) d_Op_call_16 (by decide) (fun c => ?_) (fun c => ?_)
    · have v := vt (c); clear vt vf
      exact a_vret d_Op_call_39 rfl v
    · have v := vf (Classical.not_not.mp c); clear vt vf
      refine a_aload_n d_Op_call_19 rfl ?_
      obtain ⟨c17, v⟩ := v
      refine a_getA fl_Op_9 d_Op_call_20 c17 ?_
      refine a_aload_n d_Op_call_23 rfl ?_
      obtain ⟨c18, v⟩ := v
      refine a_getIN fl_Op_36 d_Op_call_24 (beq_iff_eq.mpr c18) ?_
      refine a_iconst d_Op_call_27 ⟨by decide, by decide⟩ ?_
      obtain ⟨c19, c20, c21, c22, v⟩ := v
      have v := v _ rfl
      refine a_zast d_Op_call_28 c19 c20 c21 c22 (Or.inr rfl) ?_
      refine a_aload_n d_Op_call_29 rfl ?_
      refine a_iconst d_Op_call_30 ⟨by decide, by decide⟩ ?_
      obtain ⟨c23, c24, v⟩ := v
      have v := v _ rfl
      refine a_putZN fl_Op_39 d_Op_call_31 (beq_iff_eq.mpr c23) c24 (Or.inr rfl) ?_
      refine a_aload_n d_Op_call_34 rfl ?_
      refine a_iconst d_Op_call_35 ⟨by decide, by decide⟩ ?_
      have v := v _ rfl
      refine a_putZN fl_Op_43 d_Op_call_36 (beq_iff_eq.mpr (KNG_20 hM)) (by decide) (Or.inr rfl) ?_
      exact a_vret d_Op_call_39 rfl v
theorem d_Op_fault_0 : decode Y_Op_fault.2.1 0 = .ok (.aload_n 0, 1) := by decide +kernel
theorem d_Op_fault_1 : decode Y_Op_fault.2.1 1 = .ok (.getfield 15, 3) := by decide +kernel
theorem d_Op_fault_4 : decode Y_Op_fault.2.1 4 = .ok (.iload_n 1, 1) := by decide +kernel
theorem d_Op_fault_5 : decode Y_Op_fault.2.1 5 = .ok (.ineg, 1) := by decide +kernel
theorem d_Op_fault_6 : decode Y_Op_fault.2.1 6 = .ok (.iconst 2, 1) := by decide +kernel
theorem d_Op_fault_7 : decode Y_Op_fault.2.1 7 = .ok (.isub, 1) := by decide +kernel
theorem d_Op_fault_8 : decode Y_Op_fault.2.1 8 = .ok (.dup2, 1) := by decide +kernel
theorem d_Op_fault_9 : decode Y_Op_fault.2.1 9 = .ok (.iaload, 1) := by decide +kernel
theorem d_Op_fault_10 : decode Y_Op_fault.2.1 10 = .ok (.iconst 1, 1) := by decide +kernel
theorem d_Op_fault_11 : decode Y_Op_fault.2.1 11 = .ok (.iadd, 1) := by decide +kernel
theorem d_Op_fault_12 : decode Y_Op_fault.2.1 12 = .ok (.iastore, 1) := by decide +kernel
theorem d_Op_fault_13 : decode Y_Op_fault.2.1 13 = .ok (.return_, 1) := by decide +kernel
theorem s_Op_fault_0 {l : Launch} {D : DD} {d kc ks : Nat} {h : Hp} {Φ : Option AV → Hp → Prop} {x0 : Nat} {x1 : Int} (v : opk (xK h x0) = true ∧ (xK h (xR h x0 3) = 20 ∧ 0 ≤ wr ((wr (-x1)) - (2 : Int)) ∧ wr ((wr (-x1)) - (2 : Int)) < xN h (xR h x0 3) ∧ (xK h (xR h x0 3) = 20 ∧ 16 ≤ xR h x0 3 ∧ 0 ≤ wr ((wr (-x1)) - (2 : Int)) ∧ wr ((wr (-x1)) - (2 : Int)) < xN h (xR h x0 3) ∧ (∀ h1 : Hp, h1 = sI h (xR h x0 3) (wr ((wr (-x1)) - (2 : Int))).toNat (wr ((xI h (xR h x0 3) (wr ((wr (-x1)) - (2 : Int))).toNat) + (1 : Int))) → (Φ none h1))))) : Ev l D Y_Op_fault d kc ks 0 [some (vr x0), some (vi x1)] [] h Φ := by
  refine a_aload_n d_Op_fault_0 rfl ?_
  obtain ⟨c1, v⟩ := v
  refine a_getA fl_Op_15 d_Op_fault_1 c1 ?_
  refine a_iload_n d_Op_fault_4 rfl ?_
  refine a_ineg d_Op_fault_5 ?_
  refine a_iconst d_Op_fault_6 ⟨by decide, by decide⟩ ?_
  refine a_isub d_Op_fault_7 ?_
  refine a_dup2 d_Op_fault_8 rfl rfl ?_
  obtain ⟨c2, c3, c4, v⟩ := v
  refine a_iald d_Op_fault_9 (Or.inl c2) c3 c4 ?_
  refine a_iconst d_Op_fault_10 ⟨by decide, by decide⟩ ?_
  refine a_iadd d_Op_fault_11 ?_
  obtain ⟨c5, c6, c7, c8, v⟩ := v
  have v := v _ rfl
  refine a_iast d_Op_fault_12 c5 c6 c7 c8 ?_
  exact a_vret d_Op_fault_13 rfl v
theorem d_New_init_0 : decode Y_New_init.2.1 0 = .ok (.aload_n 0, 1) := by decide +kernel
theorem d_New_init_1 : decode Y_New_init.2.1 1 = .ok (.iload_n 1, 1) := by decide +kernel
theorem d_New_init_2 : decode Y_New_init.2.1 2 = .ok (.aload_n 2, 1) := by decide +kernel
theorem d_New_init_3 : decode Y_New_init.2.1 3 = .ok (.invokespecial 1, 3) := by decide +kernel
theorem d_New_init_6 : decode Y_New_init.2.1 6 = .ok (.aload_n 0, 1) := by decide +kernel
theorem d_New_init_7 : decode Y_New_init.2.1 7 = .ok (.aload_n 3, 1) := by decide +kernel
theorem d_New_init_8 : decode Y_New_init.2.1 8 = .ok (.putfield 7, 3) := by decide +kernel
theorem d_New_init_11 : decode Y_New_init.2.1 11 = .ok (.return_, 1) := by decide +kernel
theorem s_New_init_0 {l : Launch} {D : DD} {d kc ks : Nat} {h : Hp} {Φ : Option AV → Hp → Prop} {x0 : Nat} {x1 : Int} {x2 : Nat} {x3 : Nat} (v : ¬ xK h x0 = 0 ∧ Ev l D Y_Op_init d 2 52 0 [some (vr x0), some (vi x1), some (vr x2)] [] h (kv (fun h1 => xK h1 x0 = 5 ∧ 16 ≤ x0 ∧ (∀ h2 : Hp, h2 = sR h1 x0 4 x3 → (Φ none h2))))) : Ev l D Y_New_init (d + 1) (kc + 2) (ks + 52) 0 [some (vr x0), some (vi x1), some (vr x2), some (vr x3)] [] h Φ := by
  refine a_aload_n d_New_init_0 rfl ?_
  refine a_iload_n d_New_init_1 rfl ?_
  refine a_aload_n d_New_init_2 rfl ?_
  obtain ⟨c3, v⟩ := v
  refine b_callI (as := [vi x1, vr x2]) (b := x0) (st := []) (kc1 := 2) (ks1 := 52) (kc2 := kc) (ks2 := ks) (d' := d) ml_New_1 rfl d_New_init_3 rfl rfl (Nat.le_of_ble_eq_true rfl) rfl (Nat.le_refl _) (by omega) (by omega) c3 ?_
  refine Ev.mono v ?_
  intro u h1 v
  obtain ⟨rfl, v⟩ := kv_el v
  change Ev l D Y_New_init _ _ _ 6 [some (vr x0), some (vi x1), some (vr x2), some (vr x3)] [] _ _
  refine a_aload_n d_New_init_6 rfl ?_
  refine a_aload_n d_New_init_7 rfl ?_
  obtain ⟨c1, c2, v⟩ := v
  have v := v _ rfl
  refine a_putRF fl_New_7 rfl (dc1 rfl) d_New_init_8 (beq_iff_eq.mpr c1) c2 ?_
  exact a_vret d_New_init_11 rfl v
theorem d_Call_init_0 : decode Y_Call_init.2.1 0 = .ok (.aload_n 0, 1) := by decide +kernel
theorem d_Call_init_1 : decode Y_Call_init.2.1 1 = .ok (.iload_n 1, 1) := by decide +kernel
theorem d_Call_init_2 : decode Y_Call_init.2.1 2 = .ok (.aload_n 2, 1) := by decide +kernel
theorem d_Call_init_3 : decode Y_Call_init.2.1 3 = .ok (.invokespecial 3, 3) := by decide +kernel
theorem d_Call_init_6 : decode Y_Call_init.2.1 6 = .ok (.aload_n 0, 1) := by decide +kernel
theorem d_Call_init_7 : decode Y_Call_init.2.1 7 = .ok (.aload_n 3, 1) := by decide +kernel
theorem d_Call_init_8 : decode Y_Call_init.2.1 8 = .ok (.putfield 9, 3) := by decide +kernel
theorem d_Call_init_11 : decode Y_Call_init.2.1 11 = .ok (.aload_n 0, 1) := by decide +kernel
theorem d_Call_init_12 : decode Y_Call_init.2.1 12 = .ok (.iload 4, 2) := by decide +kernel
theorem d_Call_init_14 : decode Y_Call_init.2.1 14 = .ok (.putfield 15, 3) := by decide +kernel
theorem d_Call_init_17 : decode Y_Call_init.2.1 17 = .ok (.return_, 1) := by decide +kernel
theorem s_Call_init_0 {l : Launch} {D : DD} {d kc ks : Nat} {h : Hp} {Φ : Option AV → Hp → Prop} {x0 : Nat} {x1 : Int} {x2 : Nat} {x3 : Nat} {x4 : Int} (v : ¬ xK h x0 = 0 ∧ Ev l D Y_Op_init d 2 52 0 [some (vr x0), some (vi x1), some (vr x2)] [] h (kv (fun h1 => xK h1 x0 = 6 ∧ 16 ≤ x0 ∧ (∀ h2 : Hp, h2 = sR h1 x0 4 x3 → (xK h2 x0 = 6 ∧ 16 ≤ x0 ∧ (∀ h3 : Hp, h3 = sI h2 x0 5 x4 → (Φ none h3))))))) : Ev l D Y_Call_init (d + 1) (kc + 2) (ks + 52) 0 [some (vr x0), some (vi x1), some (vr x2), some (vr x3), some (vi x4)] [] h Φ := by
  refine a_aload_n d_Call_init_0 rfl ?_
  refine a_iload_n d_Call_init_1 rfl ?_
  refine a_aload_n d_Call_init_2 rfl ?_
  obtain ⟨c5, v⟩ := v
  refine b_callI (as := [vi x1, vr x2]) (b := x0) (st := []) (kc1 := 2) (ks1 := 52) (kc2 := kc) (ks2 := ks) (d' := d) ml_Call_3 rfl d_Call_init_3 rfl rfl (Nat.le_of_ble_eq_true rfl) rfl (Nat.le_refl _) (by omega) (by omega) c5 ?_
  refine Ev.mono v ?_
  intro u h1 v
  obtain ⟨rfl, v⟩ := kv_el v
  change Ev l D Y_Call_init _ _ _ 6 [some (vr x0), some (vi x1), some (vr x2), some (vr x3), some (vi x4)] [] _ _
  refine a_aload_n d_Call_init_6 rfl ?_
  refine a_aload_n d_Call_init_7 rfl ?_
  obtain ⟨c1, c2, v⟩ := v
  have v := v _ rfl
  refine a_putRF fl_Call_9 rfl (dc1 rfl) d_Call_init_8 (beq_iff_eq.mpr c1) c2 ?_
  refine a_aload_n d_Call_init_11 rfl ?_
  refine a_iload d_Call_init_12 rfl ?_
  obtain ⟨c3, c4, v⟩ := v
  have v := v _ rfl
  refine a_putIF fl_Call_15 rfl (dc1 rfl) d_Call_init_14 (beq_iff_eq.mpr c3) c4 ?_
  exact a_vret d_Call_init_17 rfl v
theorem d_Up_init_0 : decode Y_Up_init.2.1 0 = .ok (.aload_n 0, 1) := by decide +kernel
theorem d_Up_init_1 : decode Y_Up_init.2.1 1 = .ok (.iload_n 1, 1) := by decide +kernel
theorem d_Up_init_2 : decode Y_Up_init.2.1 2 = .ok (.aload_n 2, 1) := by decide +kernel
theorem d_Up_init_3 : decode Y_Up_init.2.1 3 = .ok (.invokespecial 1, 3) := by decide +kernel
theorem d_Up_init_6 : decode Y_Up_init.2.1 6 = .ok (.aload_n 0, 1) := by decide +kernel
theorem d_Up_init_7 : decode Y_Up_init.2.1 7 = .ok (.aload_n 3, 1) := by decide +kernel
theorem d_Up_init_8 : decode Y_Up_init.2.1 8 = .ok (.putfield 7, 3) := by decide +kernel
theorem d_Up_init_11 : decode Y_Up_init.2.1 11 = .ok (.aload_n 0, 1) := by decide +kernel
theorem d_Up_init_12 : decode Y_Up_init.2.1 12 = .ok (.iload 4, 2) := by decide +kernel
theorem d_Up_init_14 : decode Y_Up_init.2.1 14 = .ok (.putfield 13, 3) := by decide +kernel
theorem d_Up_init_17 : decode Y_Up_init.2.1 17 = .ok (.return_, 1) := by decide +kernel
theorem s_Up_init_0 {l : Launch} {D : DD} {d kc ks : Nat} {h : Hp} {Φ : Option AV → Hp → Prop} {x0 : Nat} {x1 : Int} {x2 : Nat} {x3 : Nat} {x4 : Int} (v : ¬ xK h x0 = 0 ∧ Ev l D Y_Op_init d 2 52 0 [some (vr x0), some (vi x1), some (vr x2)] [] h (kv (fun h1 => xK h1 x0 = 7 ∧ 16 ≤ x0 ∧ (∀ h2 : Hp, h2 = sR h1 x0 4 x3 → (xK h2 x0 = 7 ∧ 16 ≤ x0 ∧ (∀ h3 : Hp, h3 = sI h2 x0 5 x4 → (Φ none h3))))))) : Ev l D Y_Up_init (d + 1) (kc + 2) (ks + 52) 0 [some (vr x0), some (vi x1), some (vr x2), some (vr x3), some (vi x4)] [] h Φ := by
  refine a_aload_n d_Up_init_0 rfl ?_
  refine a_iload_n d_Up_init_1 rfl ?_
  refine a_aload_n d_Up_init_2 rfl ?_
  obtain ⟨c5, v⟩ := v
  refine b_callI (as := [vi x1, vr x2]) (b := x0) (st := []) (kc1 := 2) (ks1 := 52) (kc2 := kc) (ks2 := ks) (d' := d) ml_Up_1 rfl d_Up_init_3 rfl rfl (Nat.le_of_ble_eq_true rfl) rfl (Nat.le_refl _) (by omega) (by omega) c5 ?_
  refine Ev.mono v ?_
  intro u h1 v
  obtain ⟨rfl, v⟩ := kv_el v
  change Ev l D Y_Up_init _ _ _ 6 [some (vr x0), some (vi x1), some (vr x2), some (vr x3), some (vi x4)] [] _ _
  refine a_aload_n d_Up_init_6 rfl ?_
  refine a_aload_n d_Up_init_7 rfl ?_
  obtain ⟨c1, c2, v⟩ := v
  have v := v _ rfl
  refine a_putRF fl_Up_7 rfl (dc1 rfl) d_Up_init_8 (beq_iff_eq.mpr c1) c2 ?_
  refine a_aload_n d_Up_init_11 rfl ?_
  refine a_iload d_Up_init_12 rfl ?_
  obtain ⟨c3, c4, v⟩ := v
  have v := v _ rfl
  refine a_putIF fl_Up_13 rfl (dc1 rfl) d_Up_init_14 (beq_iff_eq.mpr c3) c4 ?_
  exact a_vret d_Up_init_17 rfl v
theorem d_Static_init_0 : decode Y_Static_init.2.1 0 = .ok (.aload_n 0, 1) := by decide +kernel
theorem d_Static_init_1 : decode Y_Static_init.2.1 1 = .ok (.iload_n 1, 1) := by decide +kernel
theorem d_Static_init_2 : decode Y_Static_init.2.1 2 = .ok (.aload_n 2, 1) := by decide +kernel
theorem d_Static_init_3 : decode Y_Static_init.2.1 3 = .ok (.invokespecial 3, 3) := by decide +kernel
theorem d_Static_init_6 : decode Y_Static_init.2.1 6 = .ok (.aload_n 0, 1) := by decide +kernel
theorem d_Static_init_7 : decode Y_Static_init.2.1 7 = .ok (.aload_n 3, 1) := by decide +kernel
theorem d_Static_init_8 : decode Y_Static_init.2.1 8 = .ok (.putfield 9, 3) := by decide +kernel
theorem d_Static_init_11 : decode Y_Static_init.2.1 11 = .ok (.aload_n 0, 1) := by decide +kernel
theorem d_Static_init_12 : decode Y_Static_init.2.1 12 = .ok (.iload 4, 2) := by decide +kernel
theorem d_Static_init_14 : decode Y_Static_init.2.1 14 = .ok (.putfield 15, 3) := by decide +kernel
theorem d_Static_init_17 : decode Y_Static_init.2.1 17 = .ok (.return_, 1) := by decide +kernel
theorem s_Static_init_0 {l : Launch} {D : DD} {d kc ks : Nat} {h : Hp} {Φ : Option AV → Hp → Prop} {x0 : Nat} {x1 : Int} {x2 : Nat} {x3 : Nat} {x4 : Int} (v : ¬ xK h x0 = 0 ∧ Ev l D Y_Op_init d 2 52 0 [some (vr x0), some (vi x1), some (vr x2)] [] h (kv (fun h1 => xK h1 x0 = 8 ∧ 16 ≤ x0 ∧ (∀ h2 : Hp, h2 = sR h1 x0 4 x3 → (xK h2 x0 = 8 ∧ 16 ≤ x0 ∧ (∀ h3 : Hp, h3 = sI h2 x0 5 x4 → (Φ none h3))))))) : Ev l D Y_Static_init (d + 1) (kc + 2) (ks + 52) 0 [some (vr x0), some (vi x1), some (vr x2), some (vr x3), some (vi x4)] [] h Φ := by
  refine a_aload_n d_Static_init_0 rfl ?_
  refine a_iload_n d_Static_init_1 rfl ?_
  refine a_aload_n d_Static_init_2 rfl ?_
  obtain ⟨c5, v⟩ := v
  refine b_callI (as := [vi x1, vr x2]) (b := x0) (st := []) (kc1 := 2) (ks1 := 52) (kc2 := kc) (ks2 := ks) (d' := d) ml_Static_3 rfl d_Static_init_3 rfl rfl (Nat.le_of_ble_eq_true rfl) rfl (Nat.le_refl _) (by omega) (by omega) c5 ?_
  refine Ev.mono v ?_
  intro u h1 v
  obtain ⟨rfl, v⟩ := kv_el v
  change Ev l D Y_Static_init _ _ _ 6 [some (vr x0), some (vi x1), some (vr x2), some (vr x3), some (vi x4)] [] _ _
  refine a_aload_n d_Static_init_6 rfl ?_
  refine a_aload_n d_Static_init_7 rfl ?_
  obtain ⟨c1, c2, v⟩ := v
  have v := v _ rfl
  refine a_putRF fl_Static_9 rfl (dc1 rfl) d_Static_init_8 (beq_iff_eq.mpr c1) c2 ?_
  refine a_aload_n d_Static_init_11 rfl ?_
  refine a_iload d_Static_init_12 rfl ?_
  obtain ⟨c3, c4, v⟩ := v
  have v := v _ rfl
  refine a_putIF fl_Static_15 rfl (dc1 rfl) d_Static_init_14 (beq_iff_eq.mpr c3) c4 ?_
  exact a_vret d_Static_init_17 rfl v
theorem d_Put_init_0 : decode Y_Put_init.2.1 0 = .ok (.aload_n 0, 1) := by decide +kernel
theorem d_Put_init_1 : decode Y_Put_init.2.1 1 = .ok (.iload_n 1, 1) := by decide +kernel
theorem d_Put_init_2 : decode Y_Put_init.2.1 2 = .ok (.aload_n 2, 1) := by decide +kernel
theorem d_Put_init_3 : decode Y_Put_init.2.1 3 = .ok (.invokespecial 1, 3) := by decide +kernel
theorem d_Put_init_6 : decode Y_Put_init.2.1 6 = .ok (.aload_n 0, 1) := by decide +kernel
theorem d_Put_init_7 : decode Y_Put_init.2.1 7 = .ok (.iload_n 3, 1) := by decide +kernel
theorem d_Put_init_8 : decode Y_Put_init.2.1 8 = .ok (.putfield 7, 3) := by decide +kernel
theorem d_Put_init_11 : decode Y_Put_init.2.1 11 = .ok (.aload_n 0, 1) := by decide +kernel
theorem d_Put_init_12 : decode Y_Put_init.2.1 12 = .ok (.aload 4, 2) := by decide +kernel
theorem d_Put_init_14 : decode Y_Put_init.2.1 14 = .ok (.putfield 13, 3) := by decide +kernel
theorem d_Put_init_17 : decode Y_Put_init.2.1 17 = .ok (.return_, 1) := by decide +kernel
theorem s_Put_init_0 {l : Launch} {D : DD} {d kc ks : Nat} {h : Hp} {Φ : Option AV → Hp → Prop} {x0 : Nat} {x1 : Int} {x2 : Nat} {x3 : Int} {x4 : Nat} (v : ¬ xK h x0 = 0 ∧ Ev l D Y_Op_init d 2 52 0 [some (vr x0), some (vi x1), some (vr x2)] [] h (kv (fun h1 => xK h1 x0 = 9 ∧ 16 ≤ x0 ∧ (∀ h2 : Hp, h2 = sI h1 x0 4 x3 → (xK h2 x0 = 9 ∧ 16 ≤ x0 ∧ (∀ h3 : Hp, h3 = sR h2 x0 5 x4 → (Φ none h3))))))) : Ev l D Y_Put_init (d + 1) (kc + 2) (ks + 52) 0 [some (vr x0), some (vi x1), some (vr x2), some (vi x3), some (vr x4)] [] h Φ := by
  refine a_aload_n d_Put_init_0 rfl ?_
  refine a_iload_n d_Put_init_1 rfl ?_
  refine a_aload_n d_Put_init_2 rfl ?_
  obtain ⟨c5, v⟩ := v
  refine b_callI (as := [vi x1, vr x2]) (b := x0) (st := []) (kc1 := 2) (ks1 := 52) (kc2 := kc) (ks2 := ks) (d' := d) ml_Put_1 rfl d_Put_init_3 rfl rfl (Nat.le_of_ble_eq_true rfl) rfl (Nat.le_refl _) (by omega) (by omega) c5 ?_
  refine Ev.mono v ?_
  intro u h1 v
  obtain ⟨rfl, v⟩ := kv_el v
  change Ev l D Y_Put_init _ _ _ 6 [some (vr x0), some (vi x1), some (vr x2), some (vi x3), some (vr x4)] [] _ _
  refine a_aload_n d_Put_init_6 rfl ?_
  refine a_iload_n d_Put_init_7 rfl ?_
  obtain ⟨c1, c2, v⟩ := v
  have v := v _ rfl
  refine a_putIF fl_Put_7 rfl (dc1 rfl) d_Put_init_8 (beq_iff_eq.mpr c1) c2 ?_
  refine a_aload_n d_Put_init_11 rfl ?_
  refine a_aload d_Put_init_12 rfl ?_
  obtain ⟨c3, c4, v⟩ := v
  have v := v _ rfl
  refine a_putRF fl_Put_13 rfl (dc1 rfl) d_Put_init_14 (beq_iff_eq.mpr c3) c4 ?_
  exact a_vret d_Put_init_17 rfl v
theorem d_Out_init_0 : decode Y_Out_init.2.1 0 = .ok (.aload_n 0, 1) := by decide +kernel
theorem d_Out_init_1 : decode Y_Out_init.2.1 1 = .ok (.iload_n 1, 1) := by decide +kernel
theorem d_Out_init_2 : decode Y_Out_init.2.1 2 = .ok (.aload_n 2, 1) := by decide +kernel
theorem d_Out_init_3 : decode Y_Out_init.2.1 3 = .ok (.invokespecial 3, 3) := by decide +kernel
theorem d_Out_init_6 : decode Y_Out_init.2.1 6 = .ok (.aload_n 0, 1) := by decide +kernel
theorem d_Out_init_7 : decode Y_Out_init.2.1 7 = .ok (.iload_n 3, 1) := by decide +kernel
theorem d_Out_init_8 : decode Y_Out_init.2.1 8 = .ok (.putfield 9, 3) := by decide +kernel
theorem d_Out_init_11 : decode Y_Out_init.2.1 11 = .ok (.return_, 1) := by decide +kernel
theorem s_Out_init_0 {l : Launch} {D : DD} {d kc ks : Nat} {h : Hp} {Φ : Option AV → Hp → Prop} {x0 : Nat} {x1 : Int} {x2 : Nat} {x3 : Int} (v : ¬ xK h x0 = 0 ∧ Ev l D Y_Op_init d 2 52 0 [some (vr x0), some (vi x1), some (vr x2)] [] h (kv (fun h1 => xK h1 x0 = 10 ∧ 16 ≤ x0 ∧ (∀ h2 : Hp, h2 = sI h1 x0 4 x3 → (Φ none h2))))) : Ev l D Y_Out_init (d + 1) (kc + 2) (ks + 52) 0 [some (vr x0), some (vi x1), some (vr x2), some (vi x3)] [] h Φ := by
  refine a_aload_n d_Out_init_0 rfl ?_
  refine a_iload_n d_Out_init_1 rfl ?_
  refine a_aload_n d_Out_init_2 rfl ?_
  obtain ⟨c3, v⟩ := v
  refine b_callI (as := [vi x1, vr x2]) (b := x0) (st := []) (kc1 := 2) (ks1 := 52) (kc2 := kc) (ks2 := ks) (d' := d) ml_Out_3 rfl d_Out_init_3 rfl rfl (Nat.le_of_ble_eq_true rfl) rfl (Nat.le_refl _) (by omega) (by omega) c3 ?_
  refine Ev.mono v ?_
  intro u h1 v
  obtain ⟨rfl, v⟩ := kv_el v
  change Ev l D Y_Out_init _ _ _ 6 [some (vr x0), some (vi x1), some (vr x2), some (vi x3)] [] _ _
  refine a_aload_n d_Out_init_6 rfl ?_
  refine a_iload_n d_Out_init_7 rfl ?_
  obtain ⟨c1, c2, v⟩ := v
  have v := v _ rfl
  refine a_putIF fl_Out_9 rfl (dc1 rfl) d_Out_init_8 (beq_iff_eq.mpr c1) c2 ?_
  exact a_vret d_Out_init_11 rfl v
theorem d_Any_init_0 : decode Y_Any_init.2.1 0 = .ok (.aload_n 0, 1) := by decide +kernel
theorem d_Any_init_1 : decode Y_Any_init.2.1 1 = .ok (.iload_n 1, 1) := by decide +kernel
theorem d_Any_init_2 : decode Y_Any_init.2.1 2 = .ok (.aload_n 2, 1) := by decide +kernel
theorem d_Any_init_3 : decode Y_Any_init.2.1 3 = .ok (.invokespecial 1, 3) := by decide +kernel
theorem d_Any_init_6 : decode Y_Any_init.2.1 6 = .ok (.aload_n 0, 1) := by decide +kernel
theorem d_Any_init_7 : decode Y_Any_init.2.1 7 = .ok (.iload_n 3, 1) := by decide +kernel
theorem d_Any_init_8 : decode Y_Any_init.2.1 8 = .ok (.putfield 7, 3) := by decide +kernel
theorem d_Any_init_11 : decode Y_Any_init.2.1 11 = .ok (.return_, 1) := by decide +kernel
theorem s_Any_init_0 {l : Launch} {D : DD} {d kc ks : Nat} {h : Hp} {Φ : Option AV → Hp → Prop} {x0 : Nat} {x1 : Int} {x2 : Nat} {x3 : Int} (v : ¬ xK h x0 = 0 ∧ Ev l D Y_Op_init d 2 52 0 [some (vr x0), some (vi x1), some (vr x2)] [] h (kv (fun h1 => xK h1 x0 = 11 ∧ 16 ≤ x0 ∧ (∀ h2 : Hp, h2 = sI h1 x0 4 x3 → (Φ none h2))))) : Ev l D Y_Any_init (d + 1) (kc + 2) (ks + 52) 0 [some (vr x0), some (vi x1), some (vr x2), some (vi x3)] [] h Φ := by
  refine a_aload_n d_Any_init_0 rfl ?_
  refine a_iload_n d_Any_init_1 rfl ?_
  refine a_aload_n d_Any_init_2 rfl ?_
  obtain ⟨c3, v⟩ := v
  refine b_callI (as := [vi x1, vr x2]) (b := x0) (st := []) (kc1 := 2) (ks1 := 52) (kc2 := kc) (ks2 := ks) (d' := d) ml_Any_1 rfl d_Any_init_3 rfl rfl (Nat.le_of_ble_eq_true rfl) rfl (Nat.le_refl _) (by omega) (by omega) c3 ?_
  refine Ev.mono v ?_
  intro u h1 v
  obtain ⟨rfl, v⟩ := kv_el v
  change Ev l D Y_Any_init _ _ _ 6 [some (vr x0), some (vi x1), some (vr x2), some (vi x3)] [] _ _
  refine a_aload_n d_Any_init_6 rfl ?_
  refine a_iload_n d_Any_init_7 rfl ?_
  obtain ⟨c1, c2, v⟩ := v
  have v := v _ rfl
  refine a_putIF fl_Any_7 rfl (dc1 rfl) d_Any_init_8 (beq_iff_eq.mpr c1) c2 ?_
  exact a_vret d_Any_init_11 rfl v
theorem d_Run_init_0 : decode Y_Run_init.2.1 0 = .ok (.aload_n 0, 1) := by decide +kernel
theorem d_Run_init_1 : decode Y_Run_init.2.1 1 = .ok (.invokespecial 3, 3) := by decide +kernel
theorem d_Run_init_4 : decode Y_Run_init.2.1 4 = .ok (.aload_n 0, 1) := by decide +kernel
theorem d_Run_init_5 : decode Y_Run_init.2.1 5 = .ok (.bipush 20, 2) := by decide +kernel
theorem d_Run_init_7 : decode Y_Run_init.2.1 7 = .ok (.anewarray 9, 3) := by decide +kernel
theorem d_Run_init_10 : decode Y_Run_init.2.1 10 = .ok (.putfield 11, 3) := by decide +kernel
theorem d_Run_init_13 : decode Y_Run_init.2.1 13 = .ok (.aload_n 0, 1) := by decide +kernel
theorem d_Run_init_14 : decode Y_Run_init.2.1 14 = .ok (.bipush 16, 2) := by decide +kernel
theorem d_Run_init_16 : decode Y_Run_init.2.1 16 = .ok (.newarray .boolean, 2) := by decide +kernel
theorem d_Run_init_18 : decode Y_Run_init.2.1 18 = .ok (.putfield 17, 3) := by decide +kernel
theorem d_Run_init_21 : decode Y_Run_init.2.1 21 = .ok (.aload_n 0, 1) := by decide +kernel
theorem d_Run_init_22 : decode Y_Run_init.2.1 22 = .ok (.sipush 192, 3) := by decide +kernel
theorem d_Run_init_25 : decode Y_Run_init.2.1 25 = .ok (.anewarray 21, 3) := by decide +kernel
theorem d_Run_init_28 : decode Y_Run_init.2.1 28 = .ok (.putfield 23, 3) := by decide +kernel
theorem d_Run_init_31 : decode Y_Run_init.2.1 31 = .ok (.aload_n 0, 1) := by decide +kernel
theorem d_Run_init_32 : decode Y_Run_init.2.1 32 = .ok (.iconst 4, 1) := by decide +kernel
theorem d_Run_init_33 : decode Y_Run_init.2.1 33 = .ok (.newarray .int, 2) := by decide +kernel
theorem d_Run_init_35 : decode Y_Run_init.2.1 35 = .ok (.putfield 27, 3) := by decide +kernel
theorem d_Run_init_38 : decode Y_Run_init.2.1 38 = .ok (.aload_n 0, 1) := by decide +kernel
theorem d_Run_init_39 : decode Y_Run_init.2.1 39 = .ok (.bipush 48, 2) := by decide +kernel
theorem d_Run_init_41 : decode Y_Run_init.2.1 41 = .ok (.newarray .boolean, 2) := by decide +kernel
theorem d_Run_init_43 : decode Y_Run_init.2.1 43 = .ok (.putfield 31, 3) := by decide +kernel
theorem d_Run_init_46 : decode Y_Run_init.2.1 46 = .ok (.return_, 1) := by decide +kernel
theorem s_Run_init_0 {l : Launch} {D : DD} {d kc ks : Nat} {h : Hp} {Φ : Option AV → Hp → Prop} {x0 : Nat} (v : ¬ xK h x0 = 0 ∧ (∃ a1 : Nat, 16 ≤ a1 ∧ xK h a1 = 0 ∧ (∀ h1 : Hp, h1 = nw h a1 22 ((20 : Int)).toNat → (xK h1 x0 = 2 ∧ 16 ≤ x0 ∧ (∀ h2 : Hp, h2 = sR h1 x0 2 a1 → (∃ a2 : Nat, 16 ≤ a2 ∧ xK h2 a2 = 0 ∧ (∀ h3 : Hp, h3 = nw h2 a2 21 ((16 : Int)).toNat → (xK h3 x0 = 2 ∧ 16 ≤ x0 ∧ (∀ h4 : Hp, h4 = sR h3 x0 4 a2 → (∃ a3 : Nat, 16 ≤ a3 ∧ xK h4 a3 = 0 ∧ (∀ h5 : Hp, h5 = nw h4 a3 23 ((192 : Int)).toNat → (xK h5 x0 = 2 ∧ 16 ≤ x0 ∧ (∀ h6 : Hp, h6 = sR h5 x0 5 a3 → (∃ a4 : Nat, 16 ≤ a4 ∧ xK h6 a4 = 0 ∧ (∀ h7 : Hp, h7 = nw h6 a4 20 ((4 : Int)).toNat → (xK h7 x0 = 2 ∧ 16 ≤ x0 ∧ (∀ h8 : Hp, h8 = sR h7 x0 6 a4 → (∃ a5 : Nat, 16 ≤ a5 ∧ xK h8 a5 = 0 ∧ (∀ h9 : Hp, h9 = nw h8 a5 21 ((48 : Int)).toNat → (xK h9 x0 = 2 ∧ 16 ≤ x0 ∧ (∀ h10 : Hp, h10 = sR h9 x0 7 a5 → (Φ none h10)))))))))))))))))))))) : Ev l D Y_Run_init (d + 1) (kc + 5) (ks + 280) 0 [some (vr x0)] [] h Φ := by
  refine a_aload_n d_Run_init_0 rfl ?_
  obtain ⟨c1, v⟩ := v
  refine a_objInit d_Run_init_1 ml_Run_3 oi_inst oi_code rfl (by omega) c1 ?_
  refine a_aload_n d_Run_init_4 rfl ?_
  refine a_bipush d_Run_init_5 ⟨by decide, by decide⟩ (by decide) ?_
  obtain ⟨a1, c2, c3, v⟩ := v
  have v := v _ rfl
  refine a_anew (kd := 22) (kc' := kc + 4) (ks' := ks + 260) a1 d_Run_init_7 (by decide) cl_Run_9 ao_Type (by decide) (by omega) (by show _ + 20 ≤ _; omega) c2 c3 ?_
  obtain ⟨c4, c5, v⟩ := v
  have v := v _ rfl
  refine a_putAF fl_Run_11 rfl (dc1 rfl) d_Run_init_10 (beq_iff_eq.mpr c4) c5 ?_
  refine a_aload_n d_Run_init_13 rfl ?_
  refine a_bipush d_Run_init_14 ⟨by decide, by decide⟩ (by decide) ?_
  obtain ⟨a2, c6, c7, v⟩ := v
  have v := v _ rfl
  refine a_newarr (kd := 21) (kc' := kc + 3) (ks' := ks + 244) a2 d_Run_init_16 (by decide) rfl ac_boolean (by decide) (by omega) (by show _ + 16 ≤ _; omega) c6 c7 ?_
  obtain ⟨c8, c9, v⟩ := v
  have v := v _ rfl
  refine a_putAF fl_Run_17 rfl (dc1 rfl) d_Run_init_18 (beq_iff_eq.mpr c8) c9 ?_
  refine a_aload_n d_Run_init_21 rfl ?_
  refine a_sipush d_Run_init_22 ⟨by decide, by decide⟩ (by decide) ?_
  obtain ⟨a3, c10, c11, v⟩ := v
  have v := v _ rfl
  refine a_anew (kd := 23) (kc' := kc + 2) (ks' := ks + 52) a3 d_Run_init_25 (by decide) cl_Run_21 ao_Member (by decide) (by omega) (by show _ + 192 ≤ _; omega) c10 c11 ?_
  obtain ⟨c12, c13, v⟩ := v
  have v := v _ rfl
  refine a_putAF fl_Run_23 rfl (dc1 rfl) d_Run_init_28 (beq_iff_eq.mpr c12) c13 ?_
  refine a_aload_n d_Run_init_31 rfl ?_
  refine a_iconst d_Run_init_32 ⟨by decide, by decide⟩ ?_
  obtain ⟨a4, c14, c15, v⟩ := v
  have v := v _ rfl
  refine a_newarr (kd := 20) (kc' := kc + 1) (ks' := ks + 48) a4 d_Run_init_33 (by decide) rfl ac_int (by decide) (by omega) (by show _ + 4 ≤ _; omega) c14 c15 ?_
  obtain ⟨c16, c17, v⟩ := v
  have v := v _ rfl
  refine a_putAF fl_Run_27 rfl (dc1 rfl) d_Run_init_35 (beq_iff_eq.mpr c16) c17 ?_
  refine a_aload_n d_Run_init_38 rfl ?_
  refine a_bipush d_Run_init_39 ⟨by decide, by decide⟩ (by decide) ?_
  obtain ⟨a5, c18, c19, v⟩ := v
  have v := v _ rfl
  refine a_newarr (kd := 21) (kc' := kc) (ks' := ks) a5 d_Run_init_41 (by decide) rfl ac_boolean (by decide) (by omega) (by show _ + 48 ≤ _; omega) c18 c19 ?_
  obtain ⟨c20, c21, v⟩ := v
  have v := v _ rfl
  refine a_putAF fl_Run_31 rfl (dc1 rfl) d_Run_init_43 (beq_iff_eq.mpr c20) c21 ?_
  exact a_vret d_Run_init_46 rfl v
