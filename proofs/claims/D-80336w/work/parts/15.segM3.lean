theorem d_M_isCallee_0 : decode Y_M_isCallee.2.1 0 = .ok (.aload_n 0, 1) := by decide +kernel
theorem d_M_isCallee_1 : decode Y_M_isCallee.2.1 1 = .ok (.getfield 86, 3) := by decide +kernel
theorem d_M_isCallee_4 : decode Y_M_isCallee.2.1 4 = .ok (.bipush 48, 2) := by decide +kernel
theorem d_M_isCallee_6 : decode Y_M_isCallee.2.1 6 = .ok (.iload_n 1, 1) := by decide +kernel
theorem d_M_isCallee_7 : decode Y_M_isCallee.2.1 7 = .ok (.imul, 1) := by decide +kernel
theorem d_M_isCallee_8 : decode Y_M_isCallee.2.1 8 = .ok (.iload_n 2, 1) := by decide +kernel
theorem d_M_isCallee_9 : decode Y_M_isCallee.2.1 9 = .ok (.iadd, 1) := by decide +kernel
theorem d_M_isCallee_10 : decode Y_M_isCallee.2.1 10 = .ok (.baload, 1) := by decide +kernel
theorem d_M_isCallee_11 : decode Y_M_isCallee.2.1 11 = .ok (.ireturn, 1) := by decide +kernel
theorem m_M_isCallee_0 {l : Launch} {D : DD} {d kc ks : Nat} {h : Hp} {Φ : Option AV → Hp → Prop} {x1 : Int} {x2 : Int} (hM : MS h) (v : 0 ≤ wr ((wr ((48 : Int) * x1)) + x2) ∧ wr ((wr ((48 : Int) * x1)) + x2) < 2304 ∧ ((xI h 132 (wr ((wr ((48 : Int) * x1)) + x2)).toNat = 0 ∨ xI h 132 (wr ((wr ((48 : Int) * x1)) + x2)).toNat = 1) ∧ Φ (some (vi (xI h 132 (wr ((wr ((48 : Int) * x1)) + x2)).toNat))) h)) : Ev l D Y_M_isCallee d kc ks 0 [some (vr 100), some (vi x1), some (vi x2)] [] h Φ := by
  refine a_aload_n d_M_isCallee_0 rfl ?_
  refine a_getAe fl_M_86 d_M_isCallee_1 (beq_iff_eq.mpr (KNM_100 hM)) (KRM_100_31 hM) ?_
  refine a_bipush d_M_isCallee_4 ⟨by decide, by decide⟩ (by decide) ?_
  refine a_iload_n d_M_isCallee_6 rfl ?_
  refine a_imul d_M_isCallee_7 ?_
  refine a_iload_n d_M_isCallee_8 rfl ?_
  refine a_iadd d_M_isCallee_9 ?_
  obtain ⟨c2, c3, v⟩ := v
  refine a_zald d_M_isCallee_10 (KNM_132 hM) c2 (lt_len (NNM_132 hM) c3) ?_
  exact a_zret d_M_isCallee_11 rfl v.1 v.2
theorem d_M_findComes_0 : decode Y_M_findComes.2.1 0 = .ok (.iconst 0, 1) := by decide +kernel
theorem d_M_findComes_1 : decode Y_M_findComes.2.1 1 = .ok (.istore_n 1, 1) := by decide +kernel
theorem d_M_findComes_2 : decode Y_M_findComes.2.1 2 = .ok (.iload_n 1, 1) := by decide +kernel
theorem d_M_findComes_3 : decode Y_M_findComes.2.1 3 = .ok (.aload_n 0, 1) := by decide +kernel
theorem d_M_findComes_4 : decode Y_M_findComes.2.1 4 = .ok (.getfield 131, 3) := by decide +kernel
theorem d_M_findComes_7 : decode Y_M_findComes.2.1 7 = .ok (.if_icmp .ge 115, 3) := by decide +kernel
theorem d_M_findComes_10 : decode Y_M_findComes.2.1 10 = .ok (.iconst 0, 1) := by decide +kernel
theorem d_M_findComes_11 : decode Y_M_findComes.2.1 11 = .ok (.istore_n 2, 1) := by decide +kernel
theorem d_M_findComes_12 : decode Y_M_findComes.2.1 12 = .ok (.iload_n 2, 1) := by decide +kernel
theorem d_M_findComes_13 : decode Y_M_findComes.2.1 13 = .ok (.aload_n 0, 1) := by decide +kernel
theorem d_M_findComes_14 : decode Y_M_findComes.2.1 14 = .ok (.getfield 131, 3) := by decide +kernel
theorem d_M_findComes_17 : decode Y_M_findComes.2.1 17 = .ok (.if_icmp .ge 99, 3) := by decide +kernel
theorem d_M_findComes_20 : decode Y_M_findComes.2.1 20 = .ok (.iconst 0, 1) := by decide +kernel
theorem d_M_findComes_21 : decode Y_M_findComes.2.1 21 = .ok (.istore_n 3, 1) := by decide +kernel
theorem d_M_findComes_22 : decode Y_M_findComes.2.1 22 = .ok (.iconst 0, 1) := by decide +kernel
theorem d_M_findComes_23 : decode Y_M_findComes.2.1 23 = .ok (.istore 4, 2) := by decide +kernel
theorem d_M_findComes_25 : decode Y_M_findComes.2.1 25 = .ok (.iload 4, 2) := by decide +kernel
theorem d_M_findComes_27 : decode Y_M_findComes.2.1 27 = .ok (.aload_n 0, 1) := by decide +kernel
theorem d_M_findComes_28 : decode Y_M_findComes.2.1 28 = .ok (.getfield 35, 3) := by decide +kernel
theorem d_M_findComes_31 : decode Y_M_findComes.2.1 31 = .ok (.iload_n 1, 1) := by decide +kernel
theorem d_M_findComes_32 : decode Y_M_findComes.2.1 32 = .ok (.iaload, 1) := by decide +kernel
theorem d_M_findComes_33 : decode Y_M_findComes.2.1 33 = .ok (.if_icmp .ge 53, 3) := by decide +kernel
theorem d_M_findComes_36 : decode Y_M_findComes.2.1 36 = .ok (.aload_n 0, 1) := by decide +kernel
theorem d_M_findComes_37 : decode Y_M_findComes.2.1 37 = .ok (.getfield 50, 3) := by decide +kernel
theorem d_M_findComes_40 : decode Y_M_findComes.2.1 40 = .ok (.iload_n 1, 1) := by decide +kernel
theorem d_M_findComes_41 : decode Y_M_findComes.2.1 41 = .ok (.baload, 1) := by decide +kernel
theorem d_M_findComes_42 : decode Y_M_findComes.2.1 42 = .ok (.ifCond .eq 44, 3) := by decide +kernel
theorem d_M_findComes_45 : decode Y_M_findComes.2.1 45 = .ok (.iload_n 3, 1) := by decide +kernel
theorem d_M_findComes_46 : decode Y_M_findComes.2.1 46 = .ok (.ifCond .ne 28, 3) := by decide +kernel
theorem d_M_findComes_49 : decode Y_M_findComes.2.1 49 = .ok (.aload_n 0, 1) := by decide +kernel
theorem d_M_findComes_50 : decode Y_M_findComes.2.1 50 = .ok (.getfield 62, 3) := by decide +kernel
theorem d_M_findComes_53 : decode Y_M_findComes.2.1 53 = .ok (.bipush 48, 2) := by decide +kernel
theorem d_M_findComes_55 : decode Y_M_findComes.2.1 55 = .ok (.aload_n 0, 1) := by decide +kernel
theorem d_M_findComes_56 : decode Y_M_findComes.2.1 56 = .ok (.getfield 38, 3) := by decide +kernel
theorem d_M_findComes_59 : decode Y_M_findComes.2.1 59 = .ok (.bipush 24, 2) := by decide +kernel
theorem d_M_findComes_61 : decode Y_M_findComes.2.1 61 = .ok (.iload_n 1, 1) := by decide +kernel
theorem d_M_findComes_62 : decode Y_M_findComes.2.1 62 = .ok (.imul, 1) := by decide +kernel
theorem d_M_findComes_63 : decode Y_M_findComes.2.1 63 = .ok (.iload 4, 2) := by decide +kernel
theorem d_M_findComes_65 : decode Y_M_findComes.2.1 65 = .ok (.iadd, 1) := by decide +kernel
theorem d_M_findComes_66 : decode Y_M_findComes.2.1 66 = .ok (.iaload, 1) := by decide +kernel
theorem d_M_findComes_67 : decode Y_M_findComes.2.1 67 = .ok (.imul, 1) := by decide +kernel
theorem d_M_findComes_68 : decode Y_M_findComes.2.1 68 = .ok (.iload_n 2, 1) := by decide +kernel
theorem d_M_findComes_69 : decode Y_M_findComes.2.1 69 = .ok (.iadd, 1) := by decide +kernel
theorem d_M_findComes_70 : decode Y_M_findComes.2.1 70 = .ok (.baload, 1) := by decide +kernel
theorem d_M_findComes_71 : decode Y_M_findComes.2.1 71 = .ok (.ifCond .eq 7, 3) := by decide +kernel
theorem d_M_findComes_74 : decode Y_M_findComes.2.1 74 = .ok (.iconst 1, 1) := by decide +kernel
theorem d_M_findComes_75 : decode Y_M_findComes.2.1 75 = .ok (.goto 4, 3) := by decide +kernel
theorem d_M_findComes_78 : decode Y_M_findComes.2.1 78 = .ok (.iconst 0, 1) := by decide +kernel
theorem d_M_findComes_79 : decode Y_M_findComes.2.1 79 = .ok (.istore_n 3, 1) := by decide +kernel
theorem d_M_findComes_80 : decode Y_M_findComes.2.1 80 = .ok (.iinc 4 1, 3) := by decide +kernel
theorem d_M_findComes_83 : decode Y_M_findComes.2.1 83 = .ok (.goto (-58), 3) := by decide +kernel
theorem d_M_findComes_86 : decode Y_M_findComes.2.1 86 = .ok (.aload_n 0, 1) := by decide +kernel
theorem d_M_findComes_87 : decode Y_M_findComes.2.1 87 = .ok (.getfield 86, 3) := by decide +kernel
theorem d_M_findComes_90 : decode Y_M_findComes.2.1 90 = .ok (.bipush 48, 2) := by decide +kernel
theorem d_M_findComes_92 : decode Y_M_findComes.2.1 92 = .ok (.iload_n 1, 1) := by decide +kernel
theorem d_M_findComes_93 : decode Y_M_findComes.2.1 93 = .ok (.imul, 1) := by decide +kernel
theorem d_M_findComes_94 : decode Y_M_findComes.2.1 94 = .ok (.iload_n 2, 1) := by decide +kernel
theorem d_M_findComes_95 : decode Y_M_findComes.2.1 95 = .ok (.iadd, 1) := by decide +kernel
theorem d_M_findComes_96 : decode Y_M_findComes.2.1 96 = .ok (.iload_n 3, 1) := by decide +kernel
theorem d_M_findComes_97 : decode Y_M_findComes.2.1 97 = .ok (.bastore, 1) := by decide +kernel
theorem d_M_findComes_98 : decode Y_M_findComes.2.1 98 = .ok (.aload_n 0, 1) := by decide +kernel
theorem d_M_findComes_99 : decode Y_M_findComes.2.1 99 = .ok (.getfield 83, 3) := by decide +kernel
theorem d_M_findComes_102 : decode Y_M_findComes.2.1 102 = .ok (.bipush 48, 2) := by decide +kernel
theorem d_M_findComes_104 : decode Y_M_findComes.2.1 104 = .ok (.iload_n 1, 1) := by decide +kernel
theorem d_M_findComes_105 : decode Y_M_findComes.2.1 105 = .ok (.imul, 1) := by decide +kernel
theorem d_M_findComes_106 : decode Y_M_findComes.2.1 106 = .ok (.iload_n 2, 1) := by decide +kernel
theorem d_M_findComes_107 : decode Y_M_findComes.2.1 107 = .ok (.iadd, 1) := by decide +kernel
theorem d_M_findComes_108 : decode Y_M_findComes.2.1 108 = .ok (.iload_n 3, 1) := by decide +kernel
theorem d_M_findComes_109 : decode Y_M_findComes.2.1 109 = .ok (.bastore, 1) := by decide +kernel
theorem d_M_findComes_110 : decode Y_M_findComes.2.1 110 = .ok (.iinc 2 1, 3) := by decide +kernel
theorem d_M_findComes_113 : decode Y_M_findComes.2.1 113 = .ok (.goto (-101), 3) := by decide +kernel
theorem d_M_findComes_116 : decode Y_M_findComes.2.1 116 = .ok (.iinc 1 1, 3) := by decide +kernel
theorem d_M_findComes_119 : decode Y_M_findComes.2.1 119 = .ok (.goto (-117), 3) := by decide +kernel
theorem d_M_findComes_122 : decode Y_M_findComes.2.1 122 = .ok (.iconst 0, 1) := by decide +kernel
theorem d_M_findComes_123 : decode Y_M_findComes.2.1 123 = .ok (.istore_n 1, 1) := by decide +kernel
theorem d_M_findComes_124 : decode Y_M_findComes.2.1 124 = .ok (.iload_n 1, 1) := by decide +kernel
theorem d_M_findComes_125 : decode Y_M_findComes.2.1 125 = .ok (.aload_n 0, 1) := by decide +kernel
theorem d_M_findComes_126 : decode Y_M_findComes.2.1 126 = .ok (.getfield 131, 3) := by decide +kernel
theorem d_M_findComes_129 : decode Y_M_findComes.2.1 129 = .ok (.if_icmp .ge 99, 3) := by decide +kernel
theorem d_M_findComes_132 : decode Y_M_findComes.2.1 132 = .ok (.iconst 0, 1) := by decide +kernel
theorem d_M_findComes_133 : decode Y_M_findComes.2.1 133 = .ok (.istore_n 2, 1) := by decide +kernel
theorem d_M_findComes_134 : decode Y_M_findComes.2.1 134 = .ok (.iload_n 2, 1) := by decide +kernel
theorem d_M_findComes_135 : decode Y_M_findComes.2.1 135 = .ok (.aload_n 0, 1) := by decide +kernel
theorem d_M_findComes_136 : decode Y_M_findComes.2.1 136 = .ok (.getfield 131, 3) := by decide +kernel
theorem d_M_findComes_139 : decode Y_M_findComes.2.1 139 = .ok (.if_icmp .ge 83, 3) := by decide +kernel
theorem d_M_findComes_142 : decode Y_M_findComes.2.1 142 = .ok (.iconst 0, 1) := by decide +kernel
theorem d_M_findComes_143 : decode Y_M_findComes.2.1 143 = .ok (.istore_n 3, 1) := by decide +kernel
theorem d_M_findComes_144 : decode Y_M_findComes.2.1 144 = .ok (.iload_n 3, 1) := by decide +kernel
theorem d_M_findComes_145 : decode Y_M_findComes.2.1 145 = .ok (.aload_n 0, 1) := by decide +kernel
theorem d_M_findComes_146 : decode Y_M_findComes.2.1 146 = .ok (.getfield 131, 3) := by decide +kernel
theorem d_M_findComes_149 : decode Y_M_findComes.2.1 149 = .ok (.if_icmp .ge 67, 3) := by decide +kernel
theorem d_M_findComes_152 : decode Y_M_findComes.2.1 152 = .ok (.aload_n 0, 1) := by decide +kernel
theorem d_M_findComes_153 : decode Y_M_findComes.2.1 153 = .ok (.getfield 83, 3) := by decide +kernel
theorem d_M_findComes_156 : decode Y_M_findComes.2.1 156 = .ok (.bipush 48, 2) := by decide +kernel
theorem d_M_findComes_158 : decode Y_M_findComes.2.1 158 = .ok (.iload_n 2, 1) := by decide +kernel
theorem d_M_findComes_159 : decode Y_M_findComes.2.1 159 = .ok (.imul, 1) := by decide +kernel
theorem d_M_findComes_160 : decode Y_M_findComes.2.1 160 = .ok (.iload_n 1, 1) := by decide +kernel
theorem d_M_findComes_161 : decode Y_M_findComes.2.1 161 = .ok (.iadd, 1) := by decide +kernel
theorem d_M_findComes_162 : decode Y_M_findComes.2.1 162 = .ok (.baload, 1) := by decide +kernel
theorem d_M_findComes_163 : decode Y_M_findComes.2.1 163 = .ok (.ifCond .eq 53, 3) := by decide +kernel
theorem d_M_findComes_166 : decode Y_M_findComes.2.1 166 = .ok (.aload_n 0, 1) := by decide +kernel
theorem d_M_findComes_167 : decode Y_M_findComes.2.1 167 = .ok (.getfield 83, 3) := by decide +kernel
theorem d_M_findComes_170 : decode Y_M_findComes.2.1 170 = .ok (.bipush 48, 2) := by decide +kernel
theorem d_M_findComes_172 : decode Y_M_findComes.2.1 172 = .ok (.iload_n 2, 1) := by decide +kernel
theorem d_M_findComes_173 : decode Y_M_findComes.2.1 173 = .ok (.imul, 1) := by decide +kernel
theorem d_M_findComes_174 : decode Y_M_findComes.2.1 174 = .ok (.iload_n 3, 1) := by decide +kernel
theorem d_M_findComes_175 : decode Y_M_findComes.2.1 175 = .ok (.iadd, 1) := by decide +kernel
theorem d_M_findComes_176 : decode Y_M_findComes.2.1 176 = .ok (.aload_n 0, 1) := by decide +kernel
theorem d_M_findComes_177 : decode Y_M_findComes.2.1 177 = .ok (.getfield 83, 3) := by decide +kernel
theorem d_M_findComes_180 : decode Y_M_findComes.2.1 180 = .ok (.bipush 48, 2) := by decide +kernel
theorem d_M_findComes_182 : decode Y_M_findComes.2.1 182 = .ok (.iload_n 2, 1) := by decide +kernel
theorem d_M_findComes_183 : decode Y_M_findComes.2.1 183 = .ok (.imul, 1) := by decide +kernel
theorem d_M_findComes_184 : decode Y_M_findComes.2.1 184 = .ok (.iload_n 3, 1) := by decide +kernel
theorem d_M_findComes_185 : decode Y_M_findComes.2.1 185 = .ok (.iadd, 1) := by decide +kernel
theorem d_M_findComes_186 : decode Y_M_findComes.2.1 186 = .ok (.baload, 1) := by decide +kernel
theorem d_M_findComes_187 : decode Y_M_findComes.2.1 187 = .ok (.ifCond .ne 17, 3) := by decide +kernel
theorem d_M_findComes_190 : decode Y_M_findComes.2.1 190 = .ok (.aload_n 0, 1) := by decide +kernel
theorem d_M_findComes_191 : decode Y_M_findComes.2.1 191 = .ok (.getfield 83, 3) := by decide +kernel
theorem d_M_findComes_194 : decode Y_M_findComes.2.1 194 = .ok (.bipush 48, 2) := by decide +kernel
theorem d_M_findComes_196 : decode Y_M_findComes.2.1 196 = .ok (.iload_n 1, 1) := by decide +kernel
theorem d_M_findComes_197 : decode Y_M_findComes.2.1 197 = .ok (.imul, 1) := by decide +kernel
theorem d_M_findComes_198 : decode Y_M_findComes.2.1 198 = .ok (.iload_n 3, 1) := by decide +kernel
theorem d_M_findComes_199 : decode Y_M_findComes.2.1 199 = .ok (.iadd, 1) := by decide +kernel
theorem d_M_findComes_200 : decode Y_M_findComes.2.1 200 = .ok (.baload, 1) := by decide +kernel
theorem d_M_findComes_201 : decode Y_M_findComes.2.1 201 = .ok (.ifCond .eq 7, 3) := by decide +kernel
theorem d_M_findComes_204 : decode Y_M_findComes.2.1 204 = .ok (.iconst 1, 1) := by decide +kernel
theorem d_M_findComes_205 : decode Y_M_findComes.2.1 205 = .ok (.goto 4, 3) := by decide +kernel
theorem d_M_findComes_208 : decode Y_M_findComes.2.1 208 = .ok (.iconst 0, 1) := by decide +kernel
theorem d_M_findComes_209 : decode Y_M_findComes.2.1 209 = .ok (.bastore, 1) := by decide +kernel
theorem d_M_findComes_210 : decode Y_M_findComes.2.1 210 = .ok (.iinc 3 1, 3) := by decide +kernel
theorem d_M_findComes_213 : decode Y_M_findComes.2.1 213 = .ok (.goto (-69), 3) := by decide +kernel
theorem d_M_findComes_216 : decode Y_M_findComes.2.1 216 = .ok (.iinc 2 1, 3) := by decide +kernel
theorem d_M_findComes_219 : decode Y_M_findComes.2.1 219 = .ok (.goto (-85), 3) := by decide +kernel
theorem d_M_findComes_222 : decode Y_M_findComes.2.1 222 = .ok (.iinc 1 1, 3) := by decide +kernel
theorem d_M_findComes_225 : decode Y_M_findComes.2.1 225 = .ok (.goto (-101), 3) := by decide +kernel
theorem d_M_findComes_228 : decode Y_M_findComes.2.1 228 = .ok (.return_, 1) := by decide +kernel
theorem m_M_findComes_0 {l : Launch} {D : DD} {d kc ks : Nat} {h : Hp} {Φ : Option AV → Hp → Prop} (hM : MS h) (v : Ev l D Y_M_findComes d kc ks 2 [some (vr 100), some (vi (0 : Int)), none, none, none] [] h Φ) : Ev l D Y_M_findComes d kc ks 0 [some (vr 100), none, none, none, none] [] h Φ := by
  refine a_iconst d_M_findComes_0 ⟨by decide, by decide⟩ ?_
  refine a_istore_n (L' := [some (vr 100), some (vi (0 : Int)), none, none, none]) d_M_findComes_1 (Nat.le_of_ble_eq_true rfl) rfl rfl ?_
  exact v
theorem m_M_findComes_2 {l : Launch} {D : DD} {d kc ks : Nat} {h : Hp} {Φ : Option AV → Hp → Prop} {x1 : Int} (hM : MS h) (v : (x1 ≥ xI h 100 5 → (Ev l D Y_M_findComes d kc ks 124 [some (vr 100), some (vi (0 : Int)), none, none, none] [] h Φ)) ∧ (x1 < xI h 100 5 → (Ev l D Y_M_findComes d kc ks 12 [some (vr 100), some (vi x1), some (vi (0 : Int)), none, none] [] h Φ))) : Ev l D Y_M_findComes d kc ks 2 [some (vr 100), some (vi x1), none, none, none] [] h Φ := by
  refine a_iload_n d_M_findComes_2 rfl ?_
  refine a_aload_n d_M_findComes_3 rfl ?_
  refine a_getI fl_M_131 d_M_findComes_4 (beq_iff_eq.mpr (KNM_100 hM)) ?_
  obtain ⟨vt, vf⟩ := v
  refine a_icmp_ge (tgt := 122) d_M_findComes_7 (by decide) (fun c => ?_) (fun c => ?_)
  · have v := vt (c); clear vt vf
    refine a_iconst d_M_findComes_122 ⟨by decide, by decide⟩ ?_
    refine a_istore_n (L' := [some (vr 100), some (vi (0 : Int)), none, none, none]) d_M_findComes_123 (Nat.le_of_ble_eq_true rfl) rfl rfl ?_
    exact v
  · have v := vf (Int.not_le.mp c); clear vt vf
    refine a_iconst d_M_findComes_10 ⟨by decide, by decide⟩ ?_
    refine a_istore_n (L' := [some (vr 100), some (vi x1), some (vi (0 : Int)), none, none]) d_M_findComes_11 (Nat.le_of_ble_eq_true rfl) rfl rfl ?_
    exact v
theorem m_M_findComes_124 {l : Launch} {D : DD} {d kc ks : Nat} {h : Hp} {Φ : Option AV → Hp → Prop} {x1 : Int} (hM : MS h) (v : (x1 ≥ xI h 100 5 → (Φ none h)) ∧ (x1 < xI h 100 5 → (Ev l D Y_M_findComes d kc ks 134 [some (vr 100), some (vi x1), some (vi (0 : Int)), none, none] [] h Φ))) : Ev l D Y_M_findComes d kc ks 124 [some (vr 100), some (vi x1), none, none, none] [] h Φ := by
  refine a_iload_n d_M_findComes_124 rfl ?_
  refine a_aload_n d_M_findComes_125 rfl ?_
  refine a_getI fl_M_131 d_M_findComes_126 (beq_iff_eq.mpr (KNM_100 hM)) ?_
  obtain ⟨vt, vf⟩ := v
  refine a_icmp_ge (tgt := 228) d_M_findComes_129 (by decide) (fun c => ?_) (fun c => ?_)
  · have v := vt (c); clear vt vf
    exact a_vret d_M_findComes_228 rfl v
  · have v := vf (Int.not_le.mp c); clear vt vf
    refine a_iconst d_M_findComes_132 ⟨by decide, by decide⟩ ?_
    refine a_istore_n (L' := [some (vr 100), some (vi x1), some (vi (0 : Int)), none, none]) d_M_findComes_133 (Nat.le_of_ble_eq_true rfl) rfl rfl ?_
    exact v
theorem m_M_findComes_12 {l : Launch} {D : DD} {d kc ks : Nat} {h : Hp} {Φ : Option AV → Hp → Prop} {x1 : Int} {x2 : Int} (hM : MS h) (v : (x2 ≥ xI h 100 5 → (Ev l D Y_M_findComes d kc ks 2 [some (vr 100), some (vi (wr (x1 + (1 : Int)))), none, none, none] [] h Φ)) ∧ (x2 < xI h 100 5 → (Ev l D Y_M_findComes d kc ks 25 [some (vr 100), some (vi x1), some (vi x2), some (vi (0 : Int)), some (vi (0 : Int))] [] h Φ))) : Ev l D Y_M_findComes d kc ks 12 [some (vr 100), some (vi x1), some (vi x2), none, none] [] h Φ := by
  refine a_iload_n d_M_findComes_12 rfl ?_
  refine a_aload_n d_M_findComes_13 rfl ?_
  refine a_getI fl_M_131 d_M_findComes_14 (beq_iff_eq.mpr (KNM_100 hM)) ?_
  obtain ⟨vt, vf⟩ := v
  refine a_icmp_ge (tgt := 116) d_M_findComes_17 (by decide) (fun c => ?_) (fun c => ?_)
  · have v := vt (c); clear vt vf
    refine a_iinc (L' := [some (vr 100), some (vi (wr (x1 + (1 : Int)))), some (vi x2), none, none]) d_M_findComes_116 rfl (Nat.le_of_ble_eq_true rfl) rfl rfl ?_
    refine a_goto (tgt := 2) d_M_findComes_119 (by decide) ?_
    exact Ev.weak v ⟨rfl, rfl, trivial⟩
  · have v := vf (Int.not_le.mp c); clear vt vf
    refine a_iconst d_M_findComes_20 ⟨by decide, by decide⟩ ?_
    refine a_istore_n (L' := [some (vr 100), some (vi x1), some (vi x2), some (vi (0 : Int)), none]) d_M_findComes_21 (Nat.le_of_ble_eq_true rfl) rfl rfl ?_
    refine a_iconst d_M_findComes_22 ⟨by decide, by decide⟩ ?_
    refine a_istore (L' := [some (vr 100), some (vi x1), some (vi x2), some (vi (0 : Int)), some (vi (0 : Int))]) d_M_findComes_23 (Nat.le_of_ble_eq_true rfl) rfl rfl ?_
    exact v
theorem m_M_findComes_134 {l : Launch} {D : DD} {d kc ks : Nat} {h : Hp} {Φ : Option AV → Hp → Prop} {x1 : Int} {x2 : Int} (hM : MS h) (v : (x2 ≥ xI h 100 5 → (Ev l D Y_M_findComes d kc ks 124 [some (vr 100), some (vi (wr (x1 + (1 : Int)))), none, none, none] [] h Φ)) ∧ (x2 < xI h 100 5 → (Ev l D Y_M_findComes d kc ks 144 [some (vr 100), some (vi x1), some (vi x2), some (vi (0 : Int)), none] [] h Φ))) : Ev l D Y_M_findComes d kc ks 134 [some (vr 100), some (vi x1), some (vi x2), none, none] [] h Φ := by
  refine a_iload_n d_M_findComes_134 rfl ?_
  refine a_aload_n d_M_findComes_135 rfl ?_
  refine a_getI fl_M_131 d_M_findComes_136 (beq_iff_eq.mpr (KNM_100 hM)) ?_
  obtain ⟨vt, vf⟩ := v
  refine a_icmp_ge (tgt := 222) d_M_findComes_139 (by decide) (fun c => ?_) (fun c => ?_)
  · have v := vt (c); clear vt vf
    refine a_iinc (L' := [some (vr 100), some (vi (wr (x1 + (1 : Int)))), some (vi x2), none, none]) d_M_findComes_222 rfl (Nat.le_of_ble_eq_true rfl) rfl rfl ?_
    refine a_goto (tgt := 124) d_M_findComes_225 (by decide) ?_
    exact Ev.weak v ⟨rfl, rfl, trivial⟩
  · have v := vf (Int.not_le.mp c); clear vt vf
    refine a_iconst d_M_findComes_142 ⟨by decide, by decide⟩ ?_
    refine a_istore_n (L' := [some (vr 100), some (vi x1), some (vi x2), some (vi (0 : Int)), none]) d_M_findComes_143 (Nat.le_of_ble_eq_true rfl) rfl rfl ?_
    exact v
theorem m_M_findComes_25 {l : Launch} {D : DD} {d kc ks : Nat} {h : Hp} {Φ : Option AV → Hp → Prop} {x1 : Int} {x2 : Int} {x3 : Int} {x4 : Int} (hM : MS h) (v : 0 ≤ x1 ∧ x1 < 48 ∧ ((x4 ≥ xI h 111 (x1).toNat → (0 ≤ wr ((wr ((48 : Int) * x1)) + x2) ∧ wr ((wr ((48 : Int) * x1)) + x2) < 2304 ∧ (x3 = 0 ∨ x3 = 1) ∧ (∀ h1 : Hp, h1 = sI h 132 (wr ((wr ((48 : Int) * x1)) + x2)).toNat x3 → (0 ≤ wr ((wr ((48 : Int) * x1)) + x2) ∧ wr ((wr ((48 : Int) * x1)) + x2) < 2304 ∧ (x3 = 0 ∨ x3 = 1) ∧ (∀ h2 : Hp, h2 = sI h1 131 (wr ((wr ((48 : Int) * x1)) + x2)).toNat x3 → (Ev l D Y_M_findComes d kc ks 12 [some (vr 100), some (vi x1), some (vi (wr (x2 + (1 : Int)))), none, none] [] h2 Φ)))))) ∧ (x4 < xI h 111 (x1).toNat → (0 ≤ x1 ∧ x1 < 48 ∧ ((xI h 119 (x1).toNat = 0 → (0 ≤ wr ((wr ((48 : Int) * x1)) + x2) ∧ wr ((wr ((48 : Int) * x1)) + x2) < 2304 ∧ (x3 = 0 ∨ x3 = 1) ∧ (∀ h3 : Hp, h3 = sI h 132 (wr ((wr ((48 : Int) * x1)) + x2)).toNat x3 → (0 ≤ wr ((wr ((48 : Int) * x1)) + x2) ∧ wr ((wr ((48 : Int) * x1)) + x2) < 2304 ∧ (x3 = 0 ∨ x3 = 1) ∧ (∀ h4 : Hp, h4 = sI h3 131 (wr ((wr ((48 : Int) * x1)) + x2)).toNat x3 → (Ev l D Y_M_findComes d kc ks 12 [some (vr 100), some (vi x1), some (vi (wr (x2 + (1 : Int)))), none, none] [] h4 Φ)))))) ∧ (¬ xI h 119 (x1).toNat = 0 → ((¬ x3 = 0 → (Ev l D Y_M_findComes d kc ks 79 [some (vr 100), some (vi x1), some (vi x2), some (vi x3), some (vi x4)] [vi (1 : Int)] h Φ)) ∧ (x3 = 0 → (0 ≤ wr ((wr ((24 : Int) * x1)) + x4) ∧ wr ((wr ((24 : Int) * x1)) + x4) < 1152 ∧ (0 ≤ wr ((wr ((48 : Int) * (xI h 112 (wr ((wr ((24 : Int) * x1)) + x4)).toNat))) + x2) ∧ wr ((wr ((48 : Int) * (xI h 112 (wr ((wr ((24 : Int) * x1)) + x4)).toNat))) + x2) < 7680 ∧ ((xI h 123 (wr ((wr ((48 : Int) * (xI h 112 (wr ((wr ((24 : Int) * x1)) + x4)).toNat))) + x2)).toNat = 0 → (Ev l D Y_M_findComes d kc ks 79 [some (vr 100), some (vi x1), some (vi x2), some (vi x3), some (vi x4)] [vi (0 : Int)] h Φ)) ∧ (¬ xI h 123 (wr ((wr ((48 : Int) * (xI h 112 (wr ((wr ((24 : Int) * x1)) + x4)).toNat))) + x2)).toNat = 0 → (Ev l D Y_M_findComes d kc ks 79 [some (vr 100), some (vi x1), some (vi x2), some (vi x3), some (vi x4)] [vi (1 : Int)] h Φ))))))))))))) : Ev l D Y_M_findComes d kc ks 25 [some (vr 100), some (vi x1), some (vi x2), some (vi x3), some (vi x4)] [] h Φ := by
  refine a_iload d_M_findComes_25 rfl ?_
  refine a_aload_n d_M_findComes_27 rfl ?_
  refine a_getAe fl_M_35 d_M_findComes_28 (beq_iff_eq.mpr (KNM_100 hM)) (KRM_100_10 hM) ?_
  refine a_iload_n d_M_findComes_31 rfl ?_
  obtain ⟨c2, c3, v⟩ := v
  refine a_iald d_M_findComes_32 (Or.inl (KNM_111 hM)) c2 (lt_len (NNM_111 hM) c3) ?_
  obtain ⟨vt, vf⟩ := v
  refine a_icmp_ge (tgt := 86) d_M_findComes_33 (by decide) (fun c => ?_) (fun c => ?_)
  · have v := vt (c); clear vt vf
    refine a_aload_n d_M_findComes_86 rfl ?_
    refine a_getAe fl_M_86 d_M_findComes_87 (beq_iff_eq.mpr (KNM_100 hM)) (KRM_100_31 hM) ?_
    refine a_bipush d_M_findComes_90 ⟨by decide, by decide⟩ (by decide) ?_
    refine a_iload_n d_M_findComes_92 rfl ?_
    refine a_imul d_M_findComes_93 ?_
    refine a_iload_n d_M_findComes_94 rfl ?_
    refine a_iadd d_M_findComes_95 ?_
    refine a_iload_n d_M_findComes_96 rfl ?_
    obtain ⟨c6, c7, c8, v⟩ := v
    have v := v _ rfl
    refine a_zast d_M_findComes_97 (KNM_132 hM) (by decide) c6 (lt_len (NNM_132 hM) c7) c8 ?_
    refine a_aload_n d_M_findComes_98 rfl ?_
    refine a_getAe fl_M_83 d_M_findComes_99 (beq_iff_eq.mpr (KNM_100 hM)) (KRM_100_30 hM) ?_
    refine a_bipush d_M_findComes_102 ⟨by decide, by decide⟩ (by decide) ?_
    refine a_iload_n d_M_findComes_104 rfl ?_
    refine a_imul d_M_findComes_105 ?_
    refine a_iload_n d_M_findComes_106 rfl ?_
    refine a_iadd d_M_findComes_107 ?_
    refine a_iload_n d_M_findComes_108 rfl ?_
    obtain ⟨c11, c12, c13, v⟩ := v
    have v := v _ rfl
    refine a_zast d_M_findComes_109 (KNM_131 hM) (by decide) c11 (lt_len (NNM_131 hM) c12) c13 ?_
    refine a_iinc (L' := [some (vr 100), some (vi x1), some (vi (wr (x2 + (1 : Int)))), some (vi x3), some (vi x4)]) d_M_findComes_110 rfl (Nat.le_of_ble_eq_true rfl) rfl rfl ?_
    refine a_goto (tgt := 12) d_M_findComes_113 (by decide) ?_
    exact Ev.weak v ⟨rfl, rfl, rfl, trivial⟩
  · have v := vf (Int.not_le.mp c); clear vt vf
    refine a_aload_n d_M_findComes_36 rfl ?_
    refine a_getAe fl_M_50 d_M_findComes_37 (beq_iff_eq.mpr (KNM_100 hM)) (KRM_100_18 hM) ?_
    refine a_iload_n d_M_findComes_40 rfl ?_
    obtain ⟨c15, c16, v⟩ := v
    refine a_zald d_M_findComes_41 (KNM_119 hM) c15 (lt_len (NNM_119 hM) c16) ?_
    obtain ⟨vt, vf⟩ := v
    refine a_if_eq (tgt := 86) d_M_findComes_42 (by decide) (fun c => ?_) (fun c => ?_)
    · have v := vt (c); clear vt vf
      refine a_aload_n d_M_findComes_86 rfl ?_
      refine a_getAe fl_M_86 d_M_findComes_87 (beq_iff_eq.mpr (KNM_100 hM)) (KRM_100_31 hM) ?_
      refine a_bipush d_M_findComes_90 ⟨by decide, by decide⟩ (by decide) ?_
      refine a_iload_n d_M_findComes_92 rfl ?_
      refine a_imul d_M_findComes_93 ?_
      refine a_iload_n d_M_findComes_94 rfl ?_
      refine a_iadd d_M_findComes_95 ?_
      refine a_iload_n d_M_findComes_96 rfl ?_
      obtain ⟨c19, c20, c21, v⟩ := v
      have v := v _ rfl
      refine a_zast d_M_findComes_97 (KNM_132 hM) (by decide) c19 (lt_len (NNM_132 hM) c20) c21 ?_
      refine a_aload_n d_M_findComes_98 rfl ?_
      refine a_getAe fl_M_83 d_M_findComes_99 (beq_iff_eq.mpr (KNM_100 hM)) (KRM_100_30 hM) ?_
      refine a_bipush d_M_findComes_102 ⟨by decide, by decide⟩ (by decide) ?_
      refine a_iload_n d_M_findComes_104 rfl ?_
      refine a_imul d_M_findComes_105 ?_
      refine a_iload_n d_M_findComes_106 rfl ?_
      refine a_iadd d_M_findComes_107 ?_
      refine a_iload_n d_M_findComes_108 rfl ?_
      obtain ⟨c24, c25, c26, v⟩ := v
      have v := v _ rfl
      refine a_zast d_M_findComes_109 (KNM_131 hM) (by decide) c24 (lt_len (NNM_131 hM) c25) c26 ?_
      refine a_iinc (L' := [some (vr 100), some (vi x1), some (vi (wr (x2 + (1 : Int)))), some (vi x3), some (vi x4)]) d_M_findComes_110 rfl (Nat.le_of_ble_eq_true rfl) rfl rfl ?_
      refine a_goto (tgt := 12) d_M_findComes_113 (by decide) ?_
      exact Ev.weak v ⟨rfl, rfl, rfl, trivial⟩
    · have v := vf (c); clear vt vf
      refine a_iload_n d_M_findComes_45 rfl ?_
      obtain ⟨vt, vf⟩ := v
      refine a_if_ne (tgt := 74) d_M_findComes_46 (by decide) (fun c => ?_) (fun c => ?_)
      · have v := vt (c); clear vt vf
        refine a_iconst d_M_findComes_74 ⟨by decide, by decide⟩ ?_
        refine a_goto (tgt := 79) d_M_findComes_75 (by decide) ?_
        exact v
      · have v := vf (Classical.not_not.mp c); clear vt vf
        refine a_aload_n d_M_findComes_49 rfl ?_
        refine a_getAe fl_M_62 d_M_findComes_50 (beq_iff_eq.mpr (KNM_100 hM)) (KRM_100_22 hM) ?_
        refine a_bipush d_M_findComes_53 ⟨by decide, by decide⟩ (by decide) ?_
        refine a_aload_n d_M_findComes_55 rfl ?_
        refine a_getAe fl_M_38 d_M_findComes_56 (beq_iff_eq.mpr (KNM_100 hM)) (KRM_100_11 hM) ?_
        refine a_bipush d_M_findComes_59 ⟨by decide, by decide⟩ (by decide) ?_
        refine a_iload_n d_M_findComes_61 rfl ?_
        refine a_imul d_M_findComes_62 ?_
        refine a_iload d_M_findComes_63 rfl ?_
        refine a_iadd d_M_findComes_65 ?_
        obtain ⟨c28, c29, v⟩ := v
        refine a_iald d_M_findComes_66 (Or.inl (KNM_112 hM)) c28 (lt_len (NNM_112 hM) c29) ?_
        refine a_imul d_M_findComes_67 ?_
        refine a_iload_n d_M_findComes_68 rfl ?_
        refine a_iadd d_M_findComes_69 ?_
        obtain ⟨c31, c32, v⟩ := v
        refine a_zald d_M_findComes_70 (KNM_123 hM) c31 (lt_len (NNM_123 hM) c32) ?_
        obtain ⟨vt, vf⟩ := v
        refine a_if_eq (tgt := 78) d_M_findComes_71 (by decide) (fun c => ?_) (fun c => ?_)
        · have v := vt (c); clear vt vf
          refine a_iconst d_M_findComes_78 ⟨by decide, by decide⟩ ?_
          exact v
        · have v := vf (c); clear vt vf
          refine a_iconst d_M_findComes_74 ⟨by decide, by decide⟩ ?_
          refine a_goto (tgt := 79) d_M_findComes_75 (by decide) ?_
          exact v
theorem m_M_findComes_144 {l : Launch} {D : DD} {d kc ks : Nat} {h : Hp} {Φ : Option AV → Hp → Prop} {x1 : Int} {x2 : Int} {x3 : Int} (hM : MS h) (v : (x3 ≥ xI h 100 5 → (Ev l D Y_M_findComes d kc ks 134 [some (vr 100), some (vi x1), some (vi (wr (x2 + (1 : Int)))), none, none] [] h Φ)) ∧ (x3 < xI h 100 5 → (0 ≤ wr ((wr ((48 : Int) * x2)) + x1) ∧ wr ((wr ((48 : Int) * x2)) + x1) < 2304 ∧ ((xI h 131 (wr ((wr ((48 : Int) * x2)) + x1)).toNat = 0 → (Ev l D Y_M_findComes d kc ks 134 [some (vr 100), some (vi x1), some (vi (wr (x2 + (1 : Int)))), none, none] [] h Φ)) ∧ (¬ xI h 131 (wr ((wr ((48 : Int) * x2)) + x1)).toNat = 0 → (0 ≤ wr ((wr ((48 : Int) * x2)) + x3) ∧ wr ((wr ((48 : Int) * x2)) + x3) < 2304 ∧ ((¬ xI h 131 (wr ((wr ((48 : Int) * x2)) + x3)).toNat = 0 → (Ev l D Y_M_findComes d kc ks 209 [some (vr 100), some (vi x1), some (vi x2), some (vi x3), none] [vi (1 : Int), vi (wr ((wr ((48 : Int) * x2)) + x3)), vr 131] h Φ)) ∧ (xI h 131 (wr ((wr ((48 : Int) * x2)) + x3)).toNat = 0 → (0 ≤ wr ((wr ((48 : Int) * x1)) + x3) ∧ wr ((wr ((48 : Int) * x1)) + x3) < 2304 ∧ ((xI h 131 (wr ((wr ((48 : Int) * x1)) + x3)).toNat = 0 → (Ev l D Y_M_findComes d kc ks 209 [some (vr 100), some (vi x1), some (vi x2), some (vi x3), none] [vi (0 : Int), vi (wr ((wr ((48 : Int) * x2)) + x3)), vr 131] h Φ)) ∧ (¬ xI h 131 (wr ((wr ((48 : Int) * x1)) + x3)).toNat = 0 → (Ev l D Y_M_findComes d kc ks 209 [some (vr 100), some (vi x1), some (vi x2), some (vi x3), none] [vi (1 : Int), vi (wr ((wr ((48 : Int) * x2)) + x3)), vr 131] h Φ)))))))))))) : Ev l D Y_M_findComes d kc ks 144 [some (vr 100), some (vi x1), some (vi x2), some (vi x3), none] [] h Φ := by
  refine a_iload_n d_M_findComes_144 rfl ?_
  refine a_aload_n d_M_findComes_145 rfl ?_
  refine a_getI fl_M_131 d_M_findComes_146 (beq_iff_eq.mpr (KNM_100 hM)) ?_
  obtain ⟨vt, vf⟩ := v
  refine a_icmp_ge (tgt := 216) d_M_findComes_149 (by decide) (fun c => ?_) (fun c => ?_)
  · have v := vt (c); clear vt vf
    refine a_iinc (L' := [some (vr 100), some (vi x1), some (vi (wr (x2 + (1 : Int)))), some (vi x3), none]) d_M_findComes_216 rfl (Nat.le_of_ble_eq_true rfl) rfl rfl ?_
    refine a_goto (tgt := 134) d_M_findComes_219 (by decide) ?_
    exact Ev.weak v ⟨rfl, rfl, rfl, trivial⟩
  · have v := vf (Int.not_le.mp c); clear vt vf
    refine a_aload_n d_M_findComes_152 rfl ?_
    refine a_getAe fl_M_83 d_M_findComes_153 (beq_iff_eq.mpr (KNM_100 hM)) (KRM_100_30 hM) ?_
    refine a_bipush d_M_findComes_156 ⟨by decide, by decide⟩ (by decide) ?_
    refine a_iload_n d_M_findComes_158 rfl ?_
    refine a_imul d_M_findComes_159 ?_
    refine a_iload_n d_M_findComes_160 rfl ?_
    refine a_iadd d_M_findComes_161 ?_
    obtain ⟨c2, c3, v⟩ := v
    refine a_zald d_M_findComes_162 (KNM_131 hM) c2 (lt_len (NNM_131 hM) c3) ?_
    obtain ⟨vt, vf⟩ := v
    refine a_if_eq (tgt := 216) d_M_findComes_163 (by decide) (fun c => ?_) (fun c => ?_)
    · have v := vt (c); clear vt vf
      refine a_iinc (L' := [some (vr 100), some (vi x1), some (vi (wr (x2 + (1 : Int)))), some (vi x3), none]) d_M_findComes_216 rfl (Nat.le_of_ble_eq_true rfl) rfl rfl ?_
      refine a_goto (tgt := 134) d_M_findComes_219 (by decide) ?_
      exact Ev.weak v ⟨rfl, rfl, rfl, trivial⟩
    · have v := vf (c); clear vt vf
      refine a_aload_n d_M_findComes_166 rfl ?_
      refine a_getAe fl_M_83 d_M_findComes_167 (beq_iff_eq.mpr (KNM_100 hM)) (KRM_100_30 hM) ?_
      refine a_bipush d_M_findComes_170 ⟨by decide, by decide⟩ (by decide) ?_
      refine a_iload_n d_M_findComes_172 rfl ?_
      refine a_imul d_M_findComes_173 ?_
      refine a_iload_n d_M_findComes_174 rfl ?_
      refine a_iadd d_M_findComes_175 ?_
      refine a_aload_n d_M_findComes_176 rfl ?_
      refine a_getAe fl_M_83 d_M_findComes_177 (beq_iff_eq.mpr (KNM_100 hM)) (KRM_100_30 hM) ?_
      refine a_bipush d_M_findComes_180 ⟨by decide, by decide⟩ (by decide) ?_
      refine a_iload_n d_M_findComes_182 rfl ?_
      refine a_imul d_M_findComes_183 ?_
      refine a_iload_n d_M_findComes_184 rfl ?_
      refine a_iadd d_M_findComes_185 ?_
      obtain ⟨c5, c6, v⟩ := v
      refine a_zald d_M_findComes_186 (KNM_131 hM) c5 (lt_len (NNM_131 hM) c6) ?_
      obtain ⟨vt, vf⟩ := v
      refine a_if_ne (tgt := 204) d_M_findComes_187 (by decide) (fun c => ?_) (fun c => ?_)
      · have v := vt (c); clear vt vf
        refine a_iconst d_M_findComes_204 ⟨by decide, by decide⟩ ?_
        refine a_goto (tgt := 209) d_M_findComes_205 (by decide) ?_
        exact v
      · have v := vf (Classical.not_not.mp c); clear vt vf
        refine a_aload_n d_M_findComes_190 rfl ?_
        refine a_getAe fl_M_83 d_M_findComes_191 (beq_iff_eq.mpr (KNM_100 hM)) (KRM_100_30 hM) ?_
        refine a_bipush d_M_findComes_194 ⟨by decide, by decide⟩ (by decide) ?_
        refine a_iload_n d_M_findComes_196 rfl ?_
        refine a_imul d_M_findComes_197 ?_
        refine a_iload_n d_M_findComes_198 rfl ?_
        refine a_iadd d_M_findComes_199 ?_
        obtain ⟨c8, c9, v⟩ := v
        refine a_zald d_M_findComes_200 (KNM_131 hM) c8 (lt_len (NNM_131 hM) c9) ?_
        obtain ⟨vt, vf⟩ := v
        refine a_if_eq (tgt := 208) d_M_findComes_201 (by decide) (fun c => ?_) (fun c => ?_)
        · have v := vt (c); clear vt vf
          refine a_iconst d_M_findComes_208 ⟨by decide, by decide⟩ ?_
          exact v
        · have v := vf (c); clear vt vf
          refine a_iconst d_M_findComes_204 ⟨by decide, by decide⟩ ?_
          refine a_goto (tgt := 209) d_M_findComes_205 (by decide) ?_
          exact v
theorem m_M_findComes_79 {l : Launch} {D : DD} {d kc ks : Nat} {h : Hp} {Φ : Option AV → Hp → Prop} {x1 : Int} {x2 : Int} {x3 : Int} {x4 : Int} {y0 : Int} (hM : MS h) (v : Ev l D Y_M_findComes d kc ks 25 [some (vr 100), some (vi x1), some (vi x2), some (vi y0), some (vi (wr (x4 + (1 : Int))))] [] h Φ) : Ev l D Y_M_findComes d kc ks 79 [some (vr 100), some (vi x1), some (vi x2), some (vi x3), some (vi x4)] [vi y0] h Φ := by
  refine a_istore_n (L' := [some (vr 100), some (vi x1), some (vi x2), some (vi y0), some (vi x4)]) d_M_findComes_79 (Nat.le_of_ble_eq_true rfl) rfl rfl ?_
  refine a_iinc (L' := [some (vr 100), some (vi x1), some (vi x2), some (vi y0), some (vi (wr (x4 + (1 : Int))))]) d_M_findComes_80 rfl (Nat.le_of_ble_eq_true rfl) rfl rfl ?_
  refine a_goto (tgt := 25) d_M_findComes_83 (by decide) ?_
  exact v
theorem m_M_findComes_209 {l : Launch} {D : DD} {d kc ks : Nat} {h : Hp} {Φ : Option AV → Hp → Prop} {x1 : Int} {x2 : Int} {x3 : Int} {y0 : Int} {y1 : Int} (hM : MS h) (v : 0 ≤ y1 ∧ y1 < 2304 ∧ (y0 = 0 ∨ y0 = 1) ∧ (∀ h1 : Hp, h1 = sI h 131 (y1).toNat y0 → (Ev l D Y_M_findComes d kc ks 144 [some (vr 100), some (vi x1), some (vi x2), some (vi (wr (x3 + (1 : Int)))), none] [] h1 Φ))) : Ev l D Y_M_findComes d kc ks 209 [some (vr 100), some (vi x1), some (vi x2), some (vi x3), none] [vi y0, vi y1, vr 131] h Φ := by
  obtain ⟨c3, c4, c5, v⟩ := v
  have v := v _ rfl
  refine a_zast d_M_findComes_209 (KNM_131 hM) (by decide) c3 (lt_len (NNM_131 hM) c4) c5 ?_
  refine a_iinc (L' := [some (vr 100), some (vi x1), some (vi x2), some (vi (wr (x3 + (1 : Int)))), none]) d_M_findComes_210 rfl (Nat.le_of_ble_eq_true rfl) rfl rfl ?_
  refine a_goto (tgt := 144) d_M_findComes_213 (by decide) ?_
  exact v
theorem d_M_isRecursive_0 : decode Y_M_isRecursive.2.1 0 = .ok (.aload_n 0, 1) := by decide +kernel
theorem d_M_isRecursive_1 : decode Y_M_isRecursive.2.1 1 = .ok (.getfield 50, 3) := by decide +kernel
theorem d_M_isRecursive_4 : decode Y_M_isRecursive.2.1 4 = .ok (.iload_n 1, 1) := by decide +kernel
theorem d_M_isRecursive_5 : decode Y_M_isRecursive.2.1 5 = .ok (.baload, 1) := by decide +kernel
theorem d_M_isRecursive_6 : decode Y_M_isRecursive.2.1 6 = .ok (.ifCond .eq 21, 3) := by decide +kernel
theorem d_M_isRecursive_9 : decode Y_M_isRecursive.2.1 9 = .ok (.aload_n 0, 1) := by decide +kernel
theorem d_M_isRecursive_10 : decode Y_M_isRecursive.2.1 10 = .ok (.getfield 83, 3) := by decide +kernel
theorem d_M_isRecursive_13 : decode Y_M_isRecursive.2.1 13 = .ok (.bipush 48, 2) := by decide +kernel
theorem d_M_isRecursive_15 : decode Y_M_isRecursive.2.1 15 = .ok (.iload_n 1, 1) := by decide +kernel
theorem d_M_isRecursive_16 : decode Y_M_isRecursive.2.1 16 = .ok (.imul, 1) := by decide +kernel
theorem d_M_isRecursive_17 : decode Y_M_isRecursive.2.1 17 = .ok (.iload_n 1, 1) := by decide +kernel
theorem d_M_isRecursive_18 : decode Y_M_isRecursive.2.1 18 = .ok (.iadd, 1) := by decide +kernel
theorem d_M_isRecursive_19 : decode Y_M_isRecursive.2.1 19 = .ok (.baload, 1) := by decide +kernel
theorem d_M_isRecursive_20 : decode Y_M_isRecursive.2.1 20 = .ok (.ifCond .eq 7, 3) := by decide +kernel
theorem d_M_isRecursive_23 : decode Y_M_isRecursive.2.1 23 = .ok (.iconst 1, 1) := by decide +kernel
theorem d_M_isRecursive_24 : decode Y_M_isRecursive.2.1 24 = .ok (.goto 4, 3) := by decide +kernel
theorem d_M_isRecursive_27 : decode Y_M_isRecursive.2.1 27 = .ok (.iconst 0, 1) := by decide +kernel
theorem d_M_isRecursive_28 : decode Y_M_isRecursive.2.1 28 = .ok (.ireturn, 1) := by decide +kernel
theorem m_M_isRecursive_0 {l : Launch} {D : DD} {d kc ks : Nat} {h : Hp} {Φ : Option AV → Hp → Prop} {x1 : Int} (hM : MS h) (v : 0 ≤ x1 ∧ x1 < 48 ∧ ((xI h 119 (x1).toNat = 0 → (Φ (some (vi (0 : Int))) h)) ∧ (¬ xI h 119 (x1).toNat = 0 → (0 ≤ wr ((wr ((48 : Int) * x1)) + x1) ∧ wr ((wr ((48 : Int) * x1)) + x1) < 2304 ∧ ((xI h 131 (wr ((wr ((48 : Int) * x1)) + x1)).toNat = 0 → (Φ (some (vi (0 : Int))) h)) ∧ (¬ xI h 131 (wr ((wr ((48 : Int) * x1)) + x1)).toNat = 0 → (Φ (some (vi (1 : Int))) h))))))) : Ev l D Y_M_isRecursive d kc ks 0 [some (vr 100), some (vi x1)] [] h Φ := by
  refine a_aload_n d_M_isRecursive_0 rfl ?_
  refine a_getAe fl_M_50 d_M_isRecursive_1 (beq_iff_eq.mpr (KNM_100 hM)) (KRM_100_18 hM) ?_
  refine a_iload_n d_M_isRecursive_4 rfl ?_
  obtain ⟨c2, c3, v⟩ := v
  refine a_zald d_M_isRecursive_5 (KNM_119 hM) c2 (lt_len (NNM_119 hM) c3) ?_
  obtain ⟨vt, vf⟩ := v
  refine a_if_eq (tgt := 27) d_M_isRecursive_6 (by decide) (fun c => ?_) (fun c => ?_)
  · have v := vt (c); clear vt vf
    refine a_iconst d_M_isRecursive_27 ⟨by decide, by decide⟩ ?_
    exact a_zret d_M_isRecursive_28 rfl (Or.inl rfl) v
  · have v := vf (c); clear vt vf
    refine a_aload_n d_M_isRecursive_9 rfl ?_
    refine a_getAe fl_M_83 d_M_isRecursive_10 (beq_iff_eq.mpr (KNM_100 hM)) (KRM_100_30 hM) ?_
    refine a_bipush d_M_isRecursive_13 ⟨by decide, by decide⟩ (by decide) ?_
    refine a_iload_n d_M_isRecursive_15 rfl ?_
    refine a_imul d_M_isRecursive_16 ?_
    refine a_iload_n d_M_isRecursive_17 rfl ?_
    refine a_iadd d_M_isRecursive_18 ?_
    obtain ⟨c5, c6, v⟩ := v
    refine a_zald d_M_isRecursive_19 (KNM_131 hM) c5 (lt_len (NNM_131 hM) c6) ?_
    obtain ⟨vt, vf⟩ := v
    refine a_if_eq (tgt := 27) d_M_isRecursive_20 (by decide) (fun c => ?_) (fun c => ?_)
    · have v := vt (c); clear vt vf
      refine a_iconst d_M_isRecursive_27 ⟨by decide, by decide⟩ ?_
      exact a_zret d_M_isRecursive_28 rfl (Or.inl rfl) v
    · have v := vf (c); clear vt vf
      refine a_iconst d_M_isRecursive_23 ⟨by decide, by decide⟩ ?_
      refine a_goto (tgt := 28) d_M_isRecursive_24 (by decide) ?_
      exact a_zret d_M_isRecursive_28 rfl (Or.inr rfl) v
theorem d_M_isRing_0 : decode Y_M_isRing.2.1 0 = .ok (.aload_n 0, 1) := by decide +kernel
theorem d_M_isRing_1 : decode Y_M_isRing.2.1 1 = .ok (.iload_n 1, 1) := by decide +kernel
theorem d_M_isRing_2 : decode Y_M_isRing.2.1 2 = .ok (.invokevirtual 214, 3) := by decide +kernel
theorem d_M_isRing_5 : decode Y_M_isRing.2.1 5 = .ok (.ifCond .eq 35, 3) := by decide +kernel
theorem d_M_isRing_8 : decode Y_M_isRing.2.1 8 = .ok (.aload_n 0, 1) := by decide +kernel
theorem d_M_isRing_9 : decode Y_M_isRing.2.1 9 = .ok (.getfield 83, 3) := by decide +kernel
theorem d_M_isRing_12 : decode Y_M_isRing.2.1 12 = .ok (.bipush 48, 2) := by decide +kernel
theorem d_M_isRing_14 : decode Y_M_isRing.2.1 14 = .ok (.iload_n 1, 1) := by decide +kernel
theorem d_M_isRing_15 : decode Y_M_isRing.2.1 15 = .ok (.imul, 1) := by decide +kernel
theorem d_M_isRing_16 : decode Y_M_isRing.2.1 16 = .ok (.iload_n 2, 1) := by decide +kernel
theorem d_M_isRing_17 : decode Y_M_isRing.2.1 17 = .ok (.iadd, 1) := by decide +kernel
theorem d_M_isRing_18 : decode Y_M_isRing.2.1 18 = .ok (.baload, 1) := by decide +kernel
theorem d_M_isRing_19 : decode Y_M_isRing.2.1 19 = .ok (.ifCond .eq 21, 3) := by decide +kernel
theorem d_M_isRing_22 : decode Y_M_isRing.2.1 22 = .ok (.aload_n 0, 1) := by decide +kernel
theorem d_M_isRing_23 : decode Y_M_isRing.2.1 23 = .ok (.getfield 83, 3) := by decide +kernel
theorem d_M_isRing_26 : decode Y_M_isRing.2.1 26 = .ok (.bipush 48, 2) := by decide +kernel
theorem d_M_isRing_28 : decode Y_M_isRing.2.1 28 = .ok (.iload_n 2, 1) := by decide +kernel
theorem d_M_isRing_29 : decode Y_M_isRing.2.1 29 = .ok (.imul, 1) := by decide +kernel
theorem d_M_isRing_30 : decode Y_M_isRing.2.1 30 = .ok (.iload_n 1, 1) := by decide +kernel
theorem d_M_isRing_31 : decode Y_M_isRing.2.1 31 = .ok (.iadd, 1) := by decide +kernel
theorem d_M_isRing_32 : decode Y_M_isRing.2.1 32 = .ok (.baload, 1) := by decide +kernel
theorem d_M_isRing_33 : decode Y_M_isRing.2.1 33 = .ok (.ifCond .eq 7, 3) := by decide +kernel
theorem d_M_isRing_36 : decode Y_M_isRing.2.1 36 = .ok (.iconst 1, 1) := by decide +kernel
theorem d_M_isRing_37 : decode Y_M_isRing.2.1 37 = .ok (.goto 4, 3) := by decide +kernel
theorem d_M_isRing_40 : decode Y_M_isRing.2.1 40 = .ok (.iconst 0, 1) := by decide +kernel
theorem d_M_isRing_41 : decode Y_M_isRing.2.1 41 = .ok (.ireturn, 1) := by decide +kernel
theorem m_M_isRing_0 {l : Launch} {D : DD} {d kc ks : Nat} {h : Hp} {Φ : Option AV → Hp → Prop} {x1 : Int} {x2 : Int} (hM : MS h) (v : Ev l D Y_M_isRecursive d 0 0 0 [some (vr 100), some (vi x1)] [] h (ki (fun r1 h1 => MS h1 ∧ ((r1 = 0 → (Φ (some (vi (0 : Int))) h1)) ∧ (¬ r1 = 0 → (0 ≤ wr ((wr ((48 : Int) * x1)) + x2) ∧ wr ((wr ((48 : Int) * x1)) + x2) < 2304 ∧ ((xI h1 131 (wr ((wr ((48 : Int) * x1)) + x2)).toNat = 0 → (Φ (some (vi (0 : Int))) h1)) ∧ (¬ xI h1 131 (wr ((wr ((48 : Int) * x1)) + x2)).toNat = 0 → (0 ≤ wr ((wr ((48 : Int) * x2)) + x1) ∧ wr ((wr ((48 : Int) * x2)) + x1) < 2304 ∧ ((xI h1 131 (wr ((wr ((48 : Int) * x2)) + x1)).toNat = 0 → (Φ (some (vi (0 : Int))) h1)) ∧ (¬ xI h1 131 (wr ((wr ((48 : Int) * x2)) + x1)).toNat = 0 → (Φ (some (vi (1 : Int))) h1)))))))))))) : Ev l D Y_M_isRing (d + 1) kc ks 0 [some (vr 100), some (vi x1), some (vi x2)] [] h Φ := by
  refine a_aload_n d_M_isRing_0 rfl ?_
  refine a_iload_n d_M_isRing_1 rfl ?_
  refine b_callV (as := [vi x1]) (b := 100) (st := []) (kd := 12) (kc1 := 0) (ks1 := 0) (kc2 := kc) (ks2 := ks) (d' := d) ml_M_214 rfl d_M_isRing_2 rfl rfl (Nat.le_of_ble_eq_true rfl) (by decide) rfl (Nat.le_refl _) (by omega) (by omega) (KNM_100 hM) ?_
  refine Ev.mono v ?_
  intro u h1 v
  obtain ⟨r1, rfl, v⟩ := ki_el v
  obtain ⟨hm1, v⟩ := v
  change Ev l D Y_M_isRing _ _ _ 5 [some (vr 100), some (vi x1), some (vi x2)] [vi r1] _ _
  obtain ⟨vt, vf⟩ := v
  refine a_if_eq (tgt := 40) d_M_isRing_5 (by decide) (fun c => ?_) (fun c => ?_)
  · have v := vt (c); clear vt vf
    refine a_iconst d_M_isRing_40 ⟨by decide, by decide⟩ ?_
    exact a_zret d_M_isRing_41 rfl (Or.inl rfl) v
  · have v := vf (c); clear vt vf
    refine a_aload_n d_M_isRing_8 rfl ?_
    refine a_getAe fl_M_83 d_M_isRing_9 (beq_iff_eq.mpr (KNM_100 hm1)) (KRM_100_30 hm1) ?_
    refine a_bipush d_M_isRing_12 ⟨by decide, by decide⟩ (by decide) ?_
    refine a_iload_n d_M_isRing_14 rfl ?_
    refine a_imul d_M_isRing_15 ?_
    refine a_iload_n d_M_isRing_16 rfl ?_
    refine a_iadd d_M_isRing_17 ?_
    obtain ⟨c2, c3, v⟩ := v
    refine a_zald d_M_isRing_18 (KNM_131 hm1) c2 (lt_len (NNM_131 hm1) c3) ?_
    obtain ⟨vt, vf⟩ := v
    refine a_if_eq (tgt := 40) d_M_isRing_19 (by decide) (fun c => ?_) (fun c => ?_)
    · have v := vt (c); clear vt vf
      refine a_iconst d_M_isRing_40 ⟨by decide, by decide⟩ ?_
      exact a_zret d_M_isRing_41 rfl (Or.inl rfl) v
    · have v := vf (c); clear vt vf
      refine a_aload_n d_M_isRing_22 rfl ?_
      refine a_getAe fl_M_83 d_M_isRing_23 (beq_iff_eq.mpr (KNM_100 hm1)) (KRM_100_30 hm1) ?_
      refine a_bipush d_M_isRing_26 ⟨by decide, by decide⟩ (by decide) ?_
      refine a_iload_n d_M_isRing_28 rfl ?_
      refine a_imul d_M_isRing_29 ?_
      refine a_iload_n d_M_isRing_30 rfl ?_
      refine a_iadd d_M_isRing_31 ?_
      obtain ⟨c5, c6, v⟩ := v
      refine a_zald d_M_isRing_32 (KNM_131 hm1) c5 (lt_len (NNM_131 hm1) c6) ?_
      obtain ⟨vt, vf⟩ := v
      refine a_if_eq (tgt := 40) d_M_isRing_33 (by decide) (fun c => ?_) (fun c => ?_)
      · have v := vt (c); clear vt vf
        refine a_iconst d_M_isRing_40 ⟨by decide, by decide⟩ ?_
        exact a_zret d_M_isRing_41 rfl (Or.inl rfl) v
      · have v := vf (c); clear vt vf
        refine a_iconst d_M_isRing_36 ⟨by decide, by decide⟩ ?_
        refine a_goto (tgt := 41) d_M_isRing_37 (by decide) ?_
        exact a_zret d_M_isRing_41 rfl (Or.inr rfl) v
theorem d_M_countIn_0 : decode Y_M_countIn.2.1 0 = .ok (.iconst 0, 1) := by decide +kernel
theorem d_M_countIn_1 : decode Y_M_countIn.2.1 1 = .ok (.istore_n 2, 1) := by decide +kernel
theorem d_M_countIn_2 : decode Y_M_countIn.2.1 2 = .ok (.iconst 0, 1) := by decide +kernel
theorem d_M_countIn_3 : decode Y_M_countIn.2.1 3 = .ok (.istore_n 3, 1) := by decide +kernel
theorem d_M_countIn_4 : decode Y_M_countIn.2.1 4 = .ok (.iload_n 3, 1) := by decide +kernel
theorem d_M_countIn_5 : decode Y_M_countIn.2.1 5 = .ok (.aload_n 0, 1) := by decide +kernel
theorem d_M_countIn_6 : decode Y_M_countIn.2.1 6 = .ok (.getfield 131, 3) := by decide +kernel
theorem d_M_countIn_9 : decode Y_M_countIn.2.1 9 = .ok (.if_icmp .ge 59, 3) := by decide +kernel
theorem d_M_countIn_12 : decode Y_M_countIn.2.1 12 = .ok (.iload_n 2, 1) := by decide +kernel
theorem d_M_countIn_13 : decode Y_M_countIn.2.1 13 = .ok (.iload_n 1, 1) := by decide +kernel
theorem d_M_countIn_14 : decode Y_M_countIn.2.1 14 = .ok (.iconst 3, 1) := by decide +kernel
theorem d_M_countIn_15 : decode Y_M_countIn.2.1 15 = .ok (.if_icmp .ne 12, 3) := by decide +kernel
theorem d_M_countIn_18 : decode Y_M_countIn.2.1 18 = .ok (.aload_n 0, 1) := by decide +kernel
theorem d_M_countIn_19 : decode Y_M_countIn.2.1 19 = .ok (.getfield 31, 3) := by decide +kernel
theorem d_M_countIn_22 : decode Y_M_countIn.2.1 22 = .ok (.iload_n 3, 1) := by decide +kernel
theorem d_M_countIn_23 : decode Y_M_countIn.2.1 23 = .ok (.baload, 1) := by decide +kernel
theorem d_M_countIn_24 : decode Y_M_countIn.2.1 24 = .ok (.ifCond .ne 31, 3) := by decide +kernel
theorem d_M_countIn_27 : decode Y_M_countIn.2.1 27 = .ok (.iload_n 1, 1) := by decide +kernel
theorem d_M_countIn_28 : decode Y_M_countIn.2.1 28 = .ok (.iconst 4, 1) := by decide +kernel
theorem d_M_countIn_29 : decode Y_M_countIn.2.1 29 = .ok (.if_icmp .ne 12, 3) := by decide +kernel
theorem d_M_countIn_32 : decode Y_M_countIn.2.1 32 = .ok (.aload_n 0, 1) := by decide +kernel
theorem d_M_countIn_33 : decode Y_M_countIn.2.1 33 = .ok (.getfield 50, 3) := by decide +kernel
theorem d_M_countIn_36 : decode Y_M_countIn.2.1 36 = .ok (.iload_n 3, 1) := by decide +kernel
theorem d_M_countIn_37 : decode Y_M_countIn.2.1 37 = .ok (.baload, 1) := by decide +kernel
theorem d_M_countIn_38 : decode Y_M_countIn.2.1 38 = .ok (.ifCond .ne 17, 3) := by decide +kernel
theorem d_M_countIn_41 : decode Y_M_countIn.2.1 41 = .ok (.iload_n 1, 1) := by decide +kernel
theorem d_M_countIn_42 : decode Y_M_countIn.2.1 42 = .ok (.bipush 9, 2) := by decide +kernel
theorem d_M_countIn_44 : decode Y_M_countIn.2.1 44 = .ok (.if_icmp .ne 15, 3) := by decide +kernel
theorem d_M_countIn_47 : decode Y_M_countIn.2.1 47 = .ok (.aload_n 0, 1) := by decide +kernel
theorem d_M_countIn_48 : decode Y_M_countIn.2.1 48 = .ok (.iload_n 3, 1) := by decide +kernel
theorem d_M_countIn_49 : decode Y_M_countIn.2.1 49 = .ok (.invokevirtual 214, 3) := by decide +kernel
theorem d_M_countIn_52 : decode Y_M_countIn.2.1 52 = .ok (.ifCond .eq 7, 3) := by decide +kernel
theorem d_M_countIn_55 : decode Y_M_countIn.2.1 55 = .ok (.iconst 1, 1) := by decide +kernel
theorem d_M_countIn_56 : decode Y_M_countIn.2.1 56 = .ok (.goto 4, 3) := by decide +kernel
theorem d_M_countIn_59 : decode Y_M_countIn.2.1 59 = .ok (.iconst 0, 1) := by decide +kernel
theorem d_M_countIn_60 : decode Y_M_countIn.2.1 60 = .ok (.iadd, 1) := by decide +kernel
theorem d_M_countIn_61 : decode Y_M_countIn.2.1 61 = .ok (.istore_n 2, 1) := by decide +kernel
theorem d_M_countIn_62 : decode Y_M_countIn.2.1 62 = .ok (.iinc 3 1, 3) := by decide +kernel
theorem d_M_countIn_65 : decode Y_M_countIn.2.1 65 = .ok (.goto (-61), 3) := by decide +kernel
theorem d_M_countIn_68 : decode Y_M_countIn.2.1 68 = .ok (.iconst 0, 1) := by decide +kernel
theorem d_M_countIn_69 : decode Y_M_countIn.2.1 69 = .ok (.istore_n 3, 1) := by decide +kernel
theorem d_M_countIn_70 : decode Y_M_countIn.2.1 70 = .ok (.iload_n 3, 1) := by decide +kernel
theorem d_M_countIn_71 : decode Y_M_countIn.2.1 71 = .ok (.aload_n 0, 1) := by decide +kernel
theorem d_M_countIn_72 : decode Y_M_countIn.2.1 72 = .ok (.getfield 123, 3) := by decide +kernel
theorem d_M_countIn_75 : decode Y_M_countIn.2.1 75 = .ok (.if_icmp .ge 46, 3) := by decide +kernel
theorem d_M_countIn_78 : decode Y_M_countIn.2.1 78 = .ok (.iload_n 2, 1) := by decide +kernel
theorem d_M_countIn_79 : decode Y_M_countIn.2.1 79 = .ok (.iload_n 1, 1) := by decide +kernel
theorem d_M_countIn_80 : decode Y_M_countIn.2.1 80 = .ok (.iconst 5, 1) := by decide +kernel
theorem d_M_countIn_81 : decode Y_M_countIn.2.1 81 = .ok (.if_icmp .ne 12, 3) := by decide +kernel
theorem d_M_countIn_84 : decode Y_M_countIn.2.1 84 = .ok (.aload_n 0, 1) := by decide +kernel
theorem d_M_countIn_85 : decode Y_M_countIn.2.1 85 = .ok (.getfield 53, 3) := by decide +kernel
theorem d_M_countIn_88 : decode Y_M_countIn.2.1 88 = .ok (.iload_n 3, 1) := by decide +kernel
theorem d_M_countIn_89 : decode Y_M_countIn.2.1 89 = .ok (.baload, 1) := by decide +kernel
theorem d_M_countIn_90 : decode Y_M_countIn.2.1 90 = .ok (.ifCond .ne 18, 3) := by decide +kernel
theorem d_M_countIn_93 : decode Y_M_countIn.2.1 93 = .ok (.iload_n 1, 1) := by decide +kernel
theorem d_M_countIn_94 : decode Y_M_countIn.2.1 94 = .ok (.bipush 6, 2) := by decide +kernel
theorem d_M_countIn_96 : decode Y_M_countIn.2.1 96 = .ok (.if_icmp .ne 16, 3) := by decide +kernel
theorem d_M_countIn_99 : decode Y_M_countIn.2.1 99 = .ok (.aload_n 0, 1) := by decide +kernel
theorem d_M_countIn_100 : decode Y_M_countIn.2.1 100 = .ok (.getfield 56, 3) := by decide +kernel
theorem d_M_countIn_103 : decode Y_M_countIn.2.1 103 = .ok (.iload_n 3, 1) := by decide +kernel
theorem d_M_countIn_104 : decode Y_M_countIn.2.1 104 = .ok (.baload, 1) := by decide +kernel
theorem d_M_countIn_105 : decode Y_M_countIn.2.1 105 = .ok (.ifCond .eq 7, 3) := by decide +kernel
theorem d_M_countIn_108 : decode Y_M_countIn.2.1 108 = .ok (.iconst 1, 1) := by decide +kernel
theorem d_M_countIn_109 : decode Y_M_countIn.2.1 109 = .ok (.goto 4, 3) := by decide +kernel
theorem d_M_countIn_112 : decode Y_M_countIn.2.1 112 = .ok (.iconst 0, 1) := by decide +kernel
theorem d_M_countIn_113 : decode Y_M_countIn.2.1 113 = .ok (.iadd, 1) := by decide +kernel
theorem d_M_countIn_114 : decode Y_M_countIn.2.1 114 = .ok (.istore_n 2, 1) := by decide +kernel
theorem d_M_countIn_115 : decode Y_M_countIn.2.1 115 = .ok (.iinc 3 1, 3) := by decide +kernel
theorem d_M_countIn_118 : decode Y_M_countIn.2.1 118 = .ok (.goto (-48), 3) := by decide +kernel
theorem d_M_countIn_121 : decode Y_M_countIn.2.1 121 = .ok (.iconst 0, 1) := by decide +kernel
theorem d_M_countIn_122 : decode Y_M_countIn.2.1 122 = .ok (.istore_n 3, 1) := by decide +kernel
theorem d_M_countIn_123 : decode Y_M_countIn.2.1 123 = .ok (.iload_n 3, 1) := by decide +kernel
theorem d_M_countIn_124 : decode Y_M_countIn.2.1 124 = .ok (.sipush 7680, 3) := by decide +kernel
theorem d_M_countIn_127 : decode Y_M_countIn.2.1 127 = .ok (.if_icmp .ge 32, 3) := by decide +kernel
theorem d_M_countIn_130 : decode Y_M_countIn.2.1 130 = .ok (.iload_n 1, 1) := by decide +kernel
theorem d_M_countIn_131 : decode Y_M_countIn.2.1 131 = .ok (.bipush 7, 2) := by decide +kernel
theorem d_M_countIn_133 : decode Y_M_countIn.2.1 133 = .ok (.if_icmp .ne 26, 3) := by decide +kernel
theorem d_M_countIn_136 : decode Y_M_countIn.2.1 136 = .ok (.iload_n 2, 1) := by decide +kernel
theorem d_M_countIn_137 : decode Y_M_countIn.2.1 137 = .ok (.aload_n 0, 1) := by decide +kernel
theorem d_M_countIn_138 : decode Y_M_countIn.2.1 138 = .ok (.getfield 62, 3) := by decide +kernel
theorem d_M_countIn_141 : decode Y_M_countIn.2.1 141 = .ok (.iload_n 3, 1) := by decide +kernel
theorem d_M_countIn_142 : decode Y_M_countIn.2.1 142 = .ok (.baload, 1) := by decide +kernel
theorem d_M_countIn_143 : decode Y_M_countIn.2.1 143 = .ok (.ifCond .eq 7, 3) := by decide +kernel
theorem d_M_countIn_146 : decode Y_M_countIn.2.1 146 = .ok (.iconst 1, 1) := by decide +kernel
theorem d_M_countIn_147 : decode Y_M_countIn.2.1 147 = .ok (.goto 4, 3) := by decide +kernel
theorem d_M_countIn_150 : decode Y_M_countIn.2.1 150 = .ok (.iconst 0, 1) := by decide +kernel
theorem d_M_countIn_151 : decode Y_M_countIn.2.1 151 = .ok (.iadd, 1) := by decide +kernel
theorem d_M_countIn_152 : decode Y_M_countIn.2.1 152 = .ok (.istore_n 2, 1) := by decide +kernel
theorem d_M_countIn_153 : decode Y_M_countIn.2.1 153 = .ok (.iinc 3 1, 3) := by decide +kernel
theorem d_M_countIn_156 : decode Y_M_countIn.2.1 156 = .ok (.goto (-33), 3) := by decide +kernel
theorem d_M_countIn_159 : decode Y_M_countIn.2.1 159 = .ok (.iconst 0, 1) := by decide +kernel
theorem d_M_countIn_160 : decode Y_M_countIn.2.1 160 = .ok (.istore_n 3, 1) := by decide +kernel
theorem d_M_countIn_161 : decode Y_M_countIn.2.1 161 = .ok (.iload_n 3, 1) := by decide +kernel
theorem d_M_countIn_162 : decode Y_M_countIn.2.1 162 = .ok (.sipush 640, 3) := by decide +kernel
theorem d_M_countIn_165 : decode Y_M_countIn.2.1 165 = .ok (.if_icmp .ge 24, 3) := by decide +kernel
theorem d_M_countIn_168 : decode Y_M_countIn.2.1 168 = .ok (.iload_n 1, 1) := by decide +kernel
theorem d_M_countIn_169 : decode Y_M_countIn.2.1 169 = .ok (.bipush 8, 2) := by decide +kernel
theorem d_M_countIn_171 : decode Y_M_countIn.2.1 171 = .ok (.if_icmp .ne 18, 3) := by decide +kernel
theorem d_M_countIn_174 : decode Y_M_countIn.2.1 174 = .ok (.iload_n 2, 1) := by decide +kernel
theorem d_M_countIn_175 : decode Y_M_countIn.2.1 175 = .ok (.aload_n 0, 1) := by decide +kernel
theorem d_M_countIn_176 : decode Y_M_countIn.2.1 176 = .ok (.getfield 65, 3) := by decide +kernel
theorem d_M_countIn_179 : decode Y_M_countIn.2.1 179 = .ok (.iload_n 3, 1) := by decide +kernel
theorem d_M_countIn_180 : decode Y_M_countIn.2.1 180 = .ok (.iaload, 1) := by decide +kernel
theorem d_M_countIn_181 : decode Y_M_countIn.2.1 181 = .ok (.iadd, 1) := by decide +kernel
theorem d_M_countIn_182 : decode Y_M_countIn.2.1 182 = .ok (.istore_n 2, 1) := by decide +kernel
theorem d_M_countIn_183 : decode Y_M_countIn.2.1 183 = .ok (.iinc 3 1, 3) := by decide +kernel
theorem d_M_countIn_186 : decode Y_M_countIn.2.1 186 = .ok (.goto (-25), 3) := by decide +kernel
theorem d_M_countIn_189 : decode Y_M_countIn.2.1 189 = .ok (.iload_n 2, 1) := by decide +kernel
theorem d_M_countIn_190 : decode Y_M_countIn.2.1 190 = .ok (.ireturn, 1) := by decide +kernel
theorem m_M_countIn_0 {l : Launch} {D : DD} {d kc ks : Nat} {h : Hp} {Φ : Option AV → Hp → Prop} {x1 : Int} (hM : MS h) (v : Ev l D Y_M_countIn (d + 1) kc ks 4 [some (vr 100), some (vi x1), some (vi (0 : Int)), some (vi (0 : Int))] [] h Φ) : Ev l D Y_M_countIn (d + 1) kc ks 0 [some (vr 100), some (vi x1), none, none] [] h Φ := by
  refine a_iconst d_M_countIn_0 ⟨by decide, by decide⟩ ?_
  refine a_istore_n (L' := [some (vr 100), some (vi x1), some (vi (0 : Int)), none]) d_M_countIn_1 (Nat.le_of_ble_eq_true rfl) rfl rfl ?_
  refine a_iconst d_M_countIn_2 ⟨by decide, by decide⟩ ?_
  refine a_istore_n (L' := [some (vr 100), some (vi x1), some (vi (0 : Int)), some (vi (0 : Int))]) d_M_countIn_3 (Nat.le_of_ble_eq_true rfl) rfl rfl ?_
  exact v
theorem m_M_countIn_4 {l : Launch} {D : DD} {d kc ks : Nat} {h : Hp} {Φ : Option AV → Hp → Prop} {x1 : Int} {x2 : Int} {x3 : Int} (hM : MS h) (v : (x3 ≥ xI h 100 5 → (Ev l D Y_M_countIn (d + 1) kc ks 70 [some (vr 100), some (vi x1), some (vi x2), some (vi (0 : Int))] [] h Φ)) ∧ (x3 < xI h 100 5 → ((¬ x1 = (3 : Int) → ((¬ x1 = (4 : Int) → ((¬ x1 = (9 : Int) → (Ev l D Y_M_countIn (d + 1) kc ks 60 [some (vr 100), some (vi x1), some (vi x2), some (vi x3)] [vi (0 : Int), vi x2] h Φ)) ∧ (x1 = (9 : Int) → (Ev l D Y_M_isRecursive d 0 0 0 [some (vr 100), some (vi x3)] [] h (ki (fun r1 h1 => MS h1 ∧ ((r1 = 0 → (Ev l D Y_M_countIn (d + 1) kc ks 60 [some (vr 100), some (vi x1), some (vi x2), some (vi x3)] [vi (0 : Int), vi x2] h1 Φ)) ∧ (¬ r1 = 0 → (Ev l D Y_M_countIn (d + 1) kc ks 60 [some (vr 100), some (vi x1), some (vi x2), some (vi x3)] [vi (1 : Int), vi x2] h1 Φ))))))))) ∧ (x1 = (4 : Int) → (0 ≤ x3 ∧ x3 < 48 ∧ ((¬ xI h 119 (x3).toNat = 0 → (Ev l D Y_M_countIn (d + 1) kc ks 60 [some (vr 100), some (vi x1), some (vi x2), some (vi x3)] [vi (1 : Int), vi x2] h Φ)) ∧ (xI h 119 (x3).toNat = 0 → ((¬ x1 = (9 : Int) → (Ev l D Y_M_countIn (d + 1) kc ks 60 [some (vr 100), some (vi x1), some (vi x2), some (vi x3)] [vi (0 : Int), vi x2] h Φ)) ∧ (x1 = (9 : Int) → (Ev l D Y_M_isRecursive d 0 0 0 [some (vr 100), some (vi x3)] [] h (ki (fun r2 h2 => MS h2 ∧ ((r2 = 0 → (Ev l D Y_M_countIn (d + 1) kc ks 60 [some (vr 100), some (vi x1), some (vi x2), some (vi x3)] [vi (0 : Int), vi x2] h2 Φ)) ∧ (¬ r2 = 0 → (Ev l D Y_M_countIn (d + 1) kc ks 60 [some (vr 100), some (vi x1), some (vi x2), some (vi x3)] [vi (1 : Int), vi x2] h2 Φ)))))))))))))) ∧ (x1 = (3 : Int) → (0 ≤ x3 ∧ x3 < 48 ∧ ((¬ xI h 110 (x3).toNat = 0 → (Ev l D Y_M_countIn (d + 1) kc ks 60 [some (vr 100), some (vi x1), some (vi x2), some (vi x3)] [vi (1 : Int), vi x2] h Φ)) ∧ (xI h 110 (x3).toNat = 0 → ((¬ x1 = (4 : Int) → ((¬ x1 = (9 : Int) → (Ev l D Y_M_countIn (d + 1) kc ks 60 [some (vr 100), some (vi x1), some (vi x2), some (vi x3)] [vi (0 : Int), vi x2] h Φ)) ∧ (x1 = (9 : Int) → (Ev l D Y_M_isRecursive d 0 0 0 [some (vr 100), some (vi x3)] [] h (ki (fun r3 h3 => MS h3 ∧ ((r3 = 0 → (Ev l D Y_M_countIn (d + 1) kc ks 60 [some (vr 100), some (vi x1), some (vi x2), some (vi x3)] [vi (0 : Int), vi x2] h3 Φ)) ∧ (¬ r3 = 0 → (Ev l D Y_M_countIn (d + 1) kc ks 60 [some (vr 100), some (vi x1), some (vi x2), some (vi x3)] [vi (1 : Int), vi x2] h3 Φ))))))))) ∧ (x1 = (4 : Int) → (0 ≤ x3 ∧ x3 < 48 ∧ ((¬ xI h 119 (x3).toNat = 0 → (Ev l D Y_M_countIn (d + 1) kc ks 60 [some (vr 100), some (vi x1), some (vi x2), some (vi x3)] [vi (1 : Int), vi x2] h Φ)) ∧ (xI h 119 (x3).toNat = 0 → ((¬ x1 = (9 : Int) → (Ev l D Y_M_countIn (d + 1) kc ks 60 [some (vr 100), some (vi x1), some (vi x2), some (vi x3)] [vi (0 : Int), vi x2] h Φ)) ∧ (x1 = (9 : Int) → (Ev l D Y_M_isRecursive d 0 0 0 [some (vr 100), some (vi x3)] [] h (ki (fun r4 h4 => MS h4 ∧ ((r4 = 0 → (Ev l D Y_M_countIn (d + 1) kc ks 60 [some (vr 100), some (vi x1), some (vi x2), some (vi x3)] [vi (0 : Int), vi x2] h4 Φ)) ∧ (¬ r4 = 0 → (Ev l D Y_M_countIn (d + 1) kc ks 60 [some (vr 100), some (vi x1), some (vi x2), some (vi x3)] [vi (1 : Int), vi x2] h4 Φ)))))))))))))))))))) : Ev l D Y_M_countIn (d + 1) kc ks 4 [some (vr 100), some (vi x1), some (vi x2), some (vi x3)] [] h Φ := by
  refine a_iload_n d_M_countIn_4 rfl ?_
  refine a_aload_n d_M_countIn_5 rfl ?_
  refine a_getI fl_M_131 d_M_countIn_6 (beq_iff_eq.mpr (KNM_100 hM)) ?_
  obtain ⟨vt, vf⟩ := v
  refine a_icmp_ge (tgt := 68) d_M_countIn_9 (by decide) (fun c => ?_) (fun c => ?_)
  · have v := vt (c); clear vt vf
    refine a_iconst d_M_countIn_68 ⟨by decide, by decide⟩ ?_
    refine a_istore_n (L' := [some (vr 100), some (vi x1), some (vi x2), some (vi (0 : Int))]) d_M_countIn_69 (Nat.le_of_ble_eq_true rfl) rfl rfl ?_
    exact v
  · have v := vf (Int.not_le.mp c); clear vt vf
    refine a_iload_n d_M_countIn_12 rfl ?_
    refine a_iload_n d_M_countIn_13 rfl ?_
    refine a_iconst d_M_countIn_14 ⟨by decide, by decide⟩ ?_
    obtain ⟨vt, vf⟩ := v
    refine a_icmp_ne (tgt := 27) d_M_countIn_15 (by decide) (fun c => ?_) (fun c => ?_)
    · have v := vt (c); clear vt vf
      refine a_iload_n d_M_countIn_27 rfl ?_
      refine a_iconst d_M_countIn_28 ⟨by decide, by decide⟩ ?_
      obtain ⟨vt, vf⟩ := v
      refine a_icmp_ne (tgt := 41) d_M_countIn_29 (by decide) (fun c => ?_) (fun c => ?_)
      · have v := vt (c); clear vt vf
        refine a_iload_n d_M_countIn_41 rfl ?_
        refine a_bipush d_M_countIn_42 ⟨by decide, by decide⟩ (by decide) ?_
        obtain ⟨vt, vf⟩ := v
        refine a_icmp_ne (tgt := 59) d_M_countIn_44 (by decide) (fun c => ?_) (fun c => ?_)
        · have v := vt (c); clear vt vf
          refine a_iconst d_M_countIn_59 ⟨by decide, by decide⟩ ?_
          exact v
        · have v := vf (Classical.not_not.mp c); clear vt vf
          refine a_aload_n d_M_countIn_47 rfl ?_
          refine a_iload_n d_M_countIn_48 rfl ?_
          refine b_callV (as := [vi x3]) (b := 100) (st := [vi x2]) (kd := 12) (kc1 := 0) (ks1 := 0) (kc2 := kc) (ks2 := ks) (d' := d) ml_M_214 rfl d_M_countIn_49 rfl rfl (Nat.le_of_ble_eq_true rfl) (by decide) rfl (Nat.le_refl _) (by omega) (by omega) (KNM_100 hM) ?_
          refine Ev.mono v ?_
          intro u h1 v
          obtain ⟨r1, rfl, v⟩ := ki_el v
          obtain ⟨hm1, v⟩ := v
          change Ev l D Y_M_countIn _ _ _ 52 [some (vr 100), some (vi x1), some (vi x2), some (vi x3)] [vi r1, vi x2] _ _
          obtain ⟨vt, vf⟩ := v
          refine a_if_eq (tgt := 59) d_M_countIn_52 (by decide) (fun c => ?_) (fun c => ?_)
          · have v := vt (c); clear vt vf
            refine a_iconst d_M_countIn_59 ⟨by decide, by decide⟩ ?_
            exact v
          · have v := vf (c); clear vt vf
            refine a_iconst d_M_countIn_55 ⟨by decide, by decide⟩ ?_
            refine a_goto (tgt := 60) d_M_countIn_56 (by decide) ?_
            exact v
      · have v := vf (Classical.not_not.mp c); clear vt vf
        refine a_aload_n d_M_countIn_32 rfl ?_
        refine a_getAe fl_M_50 d_M_countIn_33 (beq_iff_eq.mpr (KNM_100 hM)) (KRM_100_18 hM) ?_
        refine a_iload_n d_M_countIn_36 rfl ?_
        obtain ⟨c3, c4, v⟩ := v
        refine a_zald d_M_countIn_37 (KNM_119 hM) c3 (lt_len (NNM_119 hM) c4) ?_
        obtain ⟨vt, vf⟩ := v
        refine a_if_ne (tgt := 55) d_M_countIn_38 (by decide) (fun c => ?_) (fun c => ?_)
        · have v := vt (c); clear vt vf
          refine a_iconst d_M_countIn_55 ⟨by decide, by decide⟩ ?_
          refine a_goto (tgt := 60) d_M_countIn_56 (by decide) ?_
          exact v
        · have v := vf (Classical.not_not.mp c); clear vt vf
          refine a_iload_n d_M_countIn_41 rfl ?_
          refine a_bipush d_M_countIn_42 ⟨by decide, by decide⟩ (by decide) ?_
          obtain ⟨vt, vf⟩ := v
          refine a_icmp_ne (tgt := 59) d_M_countIn_44 (by decide) (fun c => ?_) (fun c => ?_)
          · have v := vt (c); clear vt vf
            refine a_iconst d_M_countIn_59 ⟨by decide, by decide⟩ ?_
            exact v
          · have v := vf (Classical.not_not.mp c); clear vt vf
            refine a_aload_n d_M_countIn_47 rfl ?_
            refine a_iload_n d_M_countIn_48 rfl ?_
            refine b_callV (as := [vi x3]) (b := 100) (st := [vi x2]) (kd := 12) (kc1 := 0) (ks1 := 0) (kc2 := kc) (ks2 := ks) (d' := d) ml_M_214 rfl d_M_countIn_49 rfl rfl (Nat.le_of_ble_eq_true rfl) (by decide) rfl (Nat.le_refl _) (by omega) (by omega) (KNM_100 hM) ?_
            refine Ev.mono v ?_
            intro u h2 v
            obtain ⟨r2, rfl, v⟩ := ki_el v
            obtain ⟨hm2, v⟩ := v
            change Ev l D Y_M_countIn _ _ _ 52 [some (vr 100), some (vi x1), some (vi x2), some (vi x3)] [vi r2, vi x2] _ _
            obtain ⟨vt, vf⟩ := v
            refine a_if_eq (tgt := 59) d_M_countIn_52 (by decide) (fun c => ?_) (fun c => ?_)
            · have v := vt (c); clear vt vf
              refine a_iconst d_M_countIn_59 ⟨by decide, by decide⟩ ?_
              exact v
            · have v := vf (c); clear vt vf
              refine a_iconst d_M_countIn_55 ⟨by decide, by decide⟩ ?_
              refine a_goto (tgt := 60) d_M_countIn_56 (by decide) ?_
              exact v
    · have v := vf (Classical.not_not.mp c); clear vt vf
      refine a_aload_n d_M_countIn_18 rfl ?_
      refine a_getAe fl_M_31 d_M_countIn_19 (beq_iff_eq.mpr (KNM_100 hM)) (KRM_100_9 hM) ?_
      refine a_iload_n d_M_countIn_22 rfl ?_
      obtain ⟨c7, c8, v⟩ := v
      refine a_zald d_M_countIn_23 (KNM_110 hM) c7 (lt_len (NNM_110 hM) c8) ?_
      obtain ⟨vt, vf⟩ := v
      refine a_if_ne (tgt := 55) d_M_countIn_24 (by decide) (fun c => ?_) (fun c => ?_)
      · have v := vt (c); clear vt vf
        refine a_iconst d_M_countIn_55 ⟨by decide, by decide⟩ ?_
        refine a_goto (tgt := 60) d_M_countIn_56 (by decide) ?_
        exact v
      · have v := vf (Classical.not_not.mp c); clear vt vf
        refine a_iload_n d_M_countIn_27 rfl ?_
        refine a_iconst d_M_countIn_28 ⟨by decide, by decide⟩ ?_
        obtain ⟨vt, vf⟩ := v
        refine a_icmp_ne (tgt := 41) d_M_countIn_29 (by decide) (fun c => ?_) (fun c => ?_)
        · have v := vt (c); clear vt vf
          refine a_iload_n d_M_countIn_41 rfl ?_
          refine a_bipush d_M_countIn_42 ⟨by decide, by decide⟩ (by decide) ?_
          obtain ⟨vt, vf⟩ := v
          refine a_icmp_ne (tgt := 59) d_M_countIn_44 (by decide) (fun c => ?_) (fun c => ?_)
          · have v := vt (c); clear vt vf
            refine a_iconst d_M_countIn_59 ⟨by decide, by decide⟩ ?_
            exact v
          · have v := vf (Classical.not_not.mp c); clear vt vf
            refine a_aload_n d_M_countIn_47 rfl ?_
            refine a_iload_n d_M_countIn_48 rfl ?_
            refine b_callV (as := [vi x3]) (b := 100) (st := [vi x2]) (kd := 12) (kc1 := 0) (ks1 := 0) (kc2 := kc) (ks2 := ks) (d' := d) ml_M_214 rfl d_M_countIn_49 rfl rfl (Nat.le_of_ble_eq_true rfl) (by decide) rfl (Nat.le_refl _) (by omega) (by omega) (KNM_100 hM) ?_
            refine Ev.mono v ?_
            intro u h3 v
            obtain ⟨r3, rfl, v⟩ := ki_el v
            obtain ⟨hm3, v⟩ := v
            change Ev l D Y_M_countIn _ _ _ 52 [some (vr 100), some (vi x1), some (vi x2), some (vi x3)] [vi r3, vi x2] _ _
            obtain ⟨vt, vf⟩ := v
            refine a_if_eq (tgt := 59) d_M_countIn_52 (by decide) (fun c => ?_) (fun c => ?_)
            · have v := vt (c); clear vt vf
              refine a_iconst d_M_countIn_59 ⟨by decide, by decide⟩ ?_
              exact v
            · have v := vf (c); clear vt vf
              refine a_iconst d_M_countIn_55 ⟨by decide, by decide⟩ ?_
              refine a_goto (tgt := 60) d_M_countIn_56 (by decide) ?_
              exact v
        · have v := vf (Classical.not_not.mp c); clear vt vf
          refine a_aload_n d_M_countIn_32 rfl ?_
          refine a_getAe fl_M_50 d_M_countIn_33 (beq_iff_eq.mpr (KNM_100 hM)) (KRM_100_18 hM) ?_
          refine a_iload_n d_M_countIn_36 rfl ?_
          obtain ⟨c11, c12, v⟩ := v
          refine a_zald d_M_countIn_37 (KNM_119 hM) c11 (lt_len (NNM_119 hM) c12) ?_
          obtain ⟨vt, vf⟩ := v
          refine a_if_ne (tgt := 55) d_M_countIn_38 (by decide) (fun c => ?_) (fun c => ?_)
          · have v := vt (c); clear vt vf
            refine a_iconst d_M_countIn_55 ⟨by decide, by decide⟩ ?_
            refine a_goto (tgt := 60) d_M_countIn_56 (by decide) ?_
            exact v
          · have v := vf (Classical.not_not.mp c); clear vt vf
            refine a_iload_n d_M_countIn_41 rfl ?_
            refine a_bipush d_M_countIn_42 ⟨by decide, by decide⟩ (by decide) ?_
            obtain ⟨vt, vf⟩ := v
            refine a_icmp_ne (tgt := 59) d_M_countIn_44 (by decide) (fun c => ?_) (fun c => ?_)
            · have v := vt (c); clear vt vf
              refine a_iconst d_M_countIn_59 ⟨by decide, by decide⟩ ?_
              exact v
            · have v := vf (Classical.not_not.mp c); clear vt vf
              refine a_aload_n d_M_countIn_47 rfl ?_
              refine a_iload_n d_M_countIn_48 rfl ?_
              refine b_callV (as := [vi x3]) (b := 100) (st := [vi x2]) (kd := 12) (kc1 := 0) (ks1 := 0) (kc2 := kc) (ks2 := ks) (d' := d) ml_M_214 rfl d_M_countIn_49 rfl rfl (Nat.le_of_ble_eq_true rfl) (by decide) rfl (Nat.le_refl _) (by omega) (by omega) (KNM_100 hM) ?_
              refine Ev.mono v ?_
              intro u h4 v
              obtain ⟨r4, rfl, v⟩ := ki_el v
              obtain ⟨hm4, v⟩ := v
              change Ev l D Y_M_countIn _ _ _ 52 [some (vr 100), some (vi x1), some (vi x2), some (vi x3)] [vi r4, vi x2] _ _
              obtain ⟨vt, vf⟩ := v
              refine a_if_eq (tgt := 59) d_M_countIn_52 (by decide) (fun c => ?_) (fun c => ?_)
              · have v := vt (c); clear vt vf
                refine a_iconst d_M_countIn_59 ⟨by decide, by decide⟩ ?_
                exact v
              · have v := vf (c); clear vt vf
                refine a_iconst d_M_countIn_55 ⟨by decide, by decide⟩ ?_
                refine a_goto (tgt := 60) d_M_countIn_56 (by decide) ?_
                exact v
theorem m_M_countIn_70 {l : Launch} {D : DD} {d kc ks : Nat} {h : Hp} {Φ : Option AV → Hp → Prop} {x1 : Int} {x2 : Int} {x3 : Int} (hM : MS h) (v : (x3 ≥ xI h 100 0 → (Ev l D Y_M_countIn (d + 1) kc ks 123 [some (vr 100), some (vi x1), some (vi x2), some (vi (0 : Int))] [] h Φ)) ∧ (x3 < xI h 100 0 → ((¬ x1 = (5 : Int) → ((¬ x1 = (6 : Int) → (Ev l D Y_M_countIn (d + 1) kc ks 113 [some (vr 100), some (vi x1), some (vi x2), some (vi x3)] [vi (0 : Int), vi x2] h Φ)) ∧ (x1 = (6 : Int) → (0 ≤ x3 ∧ x3 < 16 ∧ ((xI h 121 (x3).toNat = 0 → (Ev l D Y_M_countIn (d + 1) kc ks 113 [some (vr 100), some (vi x1), some (vi x2), some (vi x3)] [vi (0 : Int), vi x2] h Φ)) ∧ (¬ xI h 121 (x3).toNat = 0 → (Ev l D Y_M_countIn (d + 1) kc ks 113 [some (vr 100), some (vi x1), some (vi x2), some (vi x3)] [vi (1 : Int), vi x2] h Φ))))))) ∧ (x1 = (5 : Int) → (0 ≤ x3 ∧ x3 < 16 ∧ ((¬ xI h 120 (x3).toNat = 0 → (Ev l D Y_M_countIn (d + 1) kc ks 113 [some (vr 100), some (vi x1), some (vi x2), some (vi x3)] [vi (1 : Int), vi x2] h Φ)) ∧ (xI h 120 (x3).toNat = 0 → ((¬ x1 = (6 : Int) → (Ev l D Y_M_countIn (d + 1) kc ks 113 [some (vr 100), some (vi x1), some (vi x2), some (vi x3)] [vi (0 : Int), vi x2] h Φ)) ∧ (x1 = (6 : Int) → (0 ≤ x3 ∧ x3 < 16 ∧ ((xI h 121 (x3).toNat = 0 → (Ev l D Y_M_countIn (d + 1) kc ks 113 [some (vr 100), some (vi x1), some (vi x2), some (vi x3)] [vi (0 : Int), vi x2] h Φ)) ∧ (¬ xI h 121 (x3).toNat = 0 → (Ev l D Y_M_countIn (d + 1) kc ks 113 [some (vr 100), some (vi x1), some (vi x2), some (vi x3)] [vi (1 : Int), vi x2] h Φ))))))))))))) : Ev l D Y_M_countIn (d + 1) kc ks 70 [some (vr 100), some (vi x1), some (vi x2), some (vi x3)] [] h Φ := by
  refine a_iload_n d_M_countIn_70 rfl ?_
  refine a_aload_n d_M_countIn_71 rfl ?_
  refine a_getI fl_M_123 d_M_countIn_72 (beq_iff_eq.mpr (KNM_100 hM)) ?_
  obtain ⟨vt, vf⟩ := v
  refine a_icmp_ge (tgt := 121) d_M_countIn_75 (by decide) (fun c => ?_) (fun c => ?_)
  · have v := vt (c); clear vt vf
    refine a_iconst d_M_countIn_121 ⟨by decide, by decide⟩ ?_
    refine a_istore_n (L' := [some (vr 100), some (vi x1), some (vi x2), some (vi (0 : Int))]) d_M_countIn_122 (Nat.le_of_ble_eq_true rfl) rfl rfl ?_
    exact v
  · have v := vf (Int.not_le.mp c); clear vt vf
    refine a_iload_n d_M_countIn_78 rfl ?_
    refine a_iload_n d_M_countIn_79 rfl ?_
    refine a_iconst d_M_countIn_80 ⟨by decide, by decide⟩ ?_
    obtain ⟨vt, vf⟩ := v
    refine a_icmp_ne (tgt := 93) d_M_countIn_81 (by decide) (fun c => ?_) (fun c => ?_)
    · have v := vt (c); clear vt vf
      refine a_iload_n d_M_countIn_93 rfl ?_
      refine a_bipush d_M_countIn_94 ⟨by decide, by decide⟩ (by decide) ?_
      obtain ⟨vt, vf⟩ := v
      refine a_icmp_ne (tgt := 112) d_M_countIn_96 (by decide) (fun c => ?_) (fun c => ?_)
      · have v := vt (c); clear vt vf
        refine a_iconst d_M_countIn_112 ⟨by decide, by decide⟩ ?_
        exact v
      · have v := vf (Classical.not_not.mp c); clear vt vf
        refine a_aload_n d_M_countIn_99 rfl ?_
        refine a_getAe fl_M_56 d_M_countIn_100 (beq_iff_eq.mpr (KNM_100 hM)) (KRM_100_20 hM) ?_
        refine a_iload_n d_M_countIn_103 rfl ?_
        obtain ⟨c2, c3, v⟩ := v
        refine a_zald d_M_countIn_104 (KNM_121 hM) c2 (lt_len (NNM_121 hM) c3) ?_
        obtain ⟨vt, vf⟩ := v
        refine a_if_eq (tgt := 112) d_M_countIn_105 (by decide) (fun c => ?_) (fun c => ?_)
        · have v := vt (c); clear vt vf
          refine a_iconst d_M_countIn_112 ⟨by decide, by decide⟩ ?_
          exact v
        · have v := vf (c); clear vt vf
          refine a_iconst d_M_countIn_108 ⟨by decide, by decide⟩ ?_
          refine a_goto (tgt := 113) d_M_countIn_109 (by decide) ?_
          exact v
    · have v := vf (Classical.not_not.mp c); clear vt vf
      refine a_aload_n d_M_countIn_84 rfl ?_
      refine a_getAe fl_M_53 d_M_countIn_85 (beq_iff_eq.mpr (KNM_100 hM)) (KRM_100_19 hM) ?_
      refine a_iload_n d_M_countIn_88 rfl ?_
      obtain ⟨c5, c6, v⟩ := v
      refine a_zald d_M_countIn_89 (KNM_120 hM) c5 (lt_len (NNM_120 hM) c6) ?_
      obtain ⟨vt, vf⟩ := v
      refine a_if_ne (tgt := 108) d_M_countIn_90 (by decide) (fun c => ?_) (fun c => ?_)
      · have v := vt (c); clear vt vf
        refine a_iconst d_M_countIn_108 ⟨by decide, by decide⟩ ?_
        refine a_goto (tgt := 113) d_M_countIn_109 (by decide) ?_
        exact v
      · have v := vf (Classical.not_not.mp c); clear vt vf
        refine a_iload_n d_M_countIn_93 rfl ?_
        refine a_bipush d_M_countIn_94 ⟨by decide, by decide⟩ (by decide) ?_
        obtain ⟨vt, vf⟩ := v
        refine a_icmp_ne (tgt := 112) d_M_countIn_96 (by decide) (fun c => ?_) (fun c => ?_)
        · have v := vt (c); clear vt vf
          refine a_iconst d_M_countIn_112 ⟨by decide, by decide⟩ ?_
          exact v
        · have v := vf (Classical.not_not.mp c); clear vt vf
          refine a_aload_n d_M_countIn_99 rfl ?_
          refine a_getAe fl_M_56 d_M_countIn_100 (beq_iff_eq.mpr (KNM_100 hM)) (KRM_100_20 hM) ?_
          refine a_iload_n d_M_countIn_103 rfl ?_
          obtain ⟨c8, c9, v⟩ := v
          refine a_zald d_M_countIn_104 (KNM_121 hM) c8 (lt_len (NNM_121 hM) c9) ?_
          obtain ⟨vt, vf⟩ := v
          refine a_if_eq (tgt := 112) d_M_countIn_105 (by decide) (fun c => ?_) (fun c => ?_)
          · have v := vt (c); clear vt vf
            refine a_iconst d_M_countIn_112 ⟨by decide, by decide⟩ ?_
            exact v
          · have v := vf (c); clear vt vf
            refine a_iconst d_M_countIn_108 ⟨by decide, by decide⟩ ?_
            refine a_goto (tgt := 113) d_M_countIn_109 (by decide) ?_
            exact v
theorem m_M_countIn_60 {l : Launch} {D : DD} {d kc ks : Nat} {h : Hp} {Φ : Option AV → Hp → Prop} {x1 : Int} {x2 : Int} {x3 : Int} {y0 : Int} {y1 : Int} (hM : MS h) (v : Ev l D Y_M_countIn (d + 1) kc ks 4 [some (vr 100), some (vi x1), some (vi (wr (y1 + y0))), some (vi (wr (x3 + (1 : Int))))] [] h Φ) : Ev l D Y_M_countIn (d + 1) kc ks 60 [some (vr 100), some (vi x1), some (vi x2), some (vi x3)] [vi y0, vi y1] h Φ := by
  refine a_iadd d_M_countIn_60 ?_
  refine a_istore_n (L' := [some (vr 100), some (vi x1), some (vi (wr (y1 + y0))), some (vi x3)]) d_M_countIn_61 (Nat.le_of_ble_eq_true rfl) rfl rfl ?_
  refine a_iinc (L' := [some (vr 100), some (vi x1), some (vi (wr (y1 + y0))), some (vi (wr (x3 + (1 : Int))))]) d_M_countIn_62 rfl (Nat.le_of_ble_eq_true rfl) rfl rfl ?_
  refine a_goto (tgt := 4) d_M_countIn_65 (by decide) ?_
  exact v
theorem m_M_countIn_123 {l : Launch} {D : DD} {d kc ks : Nat} {h : Hp} {Φ : Option AV → Hp → Prop} {x1 : Int} {x2 : Int} {x3 : Int} (hM : MS h) (v : (x3 ≥ (7680 : Int) → (Ev l D Y_M_countIn (d + 1) kc ks 161 [some (vr 100), some (vi x1), some (vi x2), some (vi (0 : Int))] [] h Φ)) ∧ (x3 < (7680 : Int) → ((¬ x1 = (7 : Int) → (Ev l D Y_M_countIn (d + 1) kc ks 161 [some (vr 100), some (vi x1), some (vi x2), some (vi (0 : Int))] [] h Φ)) ∧ (x1 = (7 : Int) → (0 ≤ x3 ∧ x3 < 7680 ∧ ((xI h 123 (x3).toNat = 0 → (Ev l D Y_M_countIn (d + 1) kc ks 123 [some (vr 100), some (vi x1), some (vi (wr (x2 + (0 : Int)))), some (vi (wr (x3 + (1 : Int))))] [] h Φ)) ∧ (¬ xI h 123 (x3).toNat = 0 → (Ev l D Y_M_countIn (d + 1) kc ks 123 [some (vr 100), some (vi x1), some (vi (wr (x2 + (1 : Int)))), some (vi (wr (x3 + (1 : Int))))] [] h Φ)))))))) : Ev l D Y_M_countIn (d + 1) kc ks 123 [some (vr 100), some (vi x1), some (vi x2), some (vi x3)] [] h Φ := by
  refine a_iload_n d_M_countIn_123 rfl ?_
  refine a_sipush d_M_countIn_124 ⟨by decide, by decide⟩ (by decide) ?_
  obtain ⟨vt, vf⟩ := v
  refine a_icmp_ge (tgt := 159) d_M_countIn_127 (by decide) (fun c => ?_) (fun c => ?_)
  · have v := vt (c); clear vt vf
    refine a_iconst d_M_countIn_159 ⟨by decide, by decide⟩ ?_
    refine a_istore_n (L' := [some (vr 100), some (vi x1), some (vi x2), some (vi (0 : Int))]) d_M_countIn_160 (Nat.le_of_ble_eq_true rfl) rfl rfl ?_
    exact v
  · have v := vf (Int.not_le.mp c); clear vt vf
    refine a_iload_n d_M_countIn_130 rfl ?_
    refine a_bipush d_M_countIn_131 ⟨by decide, by decide⟩ (by decide) ?_
    obtain ⟨vt, vf⟩ := v
    refine a_icmp_ne (tgt := 159) d_M_countIn_133 (by decide) (fun c => ?_) (fun c => ?_)
    · have v := vt (c); clear vt vf
      refine a_iconst d_M_countIn_159 ⟨by decide, by decide⟩ ?_
      refine a_istore_n (L' := [some (vr 100), some (vi x1), some (vi x2), some (vi (0 : Int))]) d_M_countIn_160 (Nat.le_of_ble_eq_true rfl) rfl rfl ?_
      exact v
    · have v := vf (Classical.not_not.mp c); clear vt vf
      refine a_iload_n d_M_countIn_136 rfl ?_
      refine a_aload_n d_M_countIn_137 rfl ?_
      refine a_getAe fl_M_62 d_M_countIn_138 (beq_iff_eq.mpr (KNM_100 hM)) (KRM_100_22 hM) ?_
      refine a_iload_n d_M_countIn_141 rfl ?_
      obtain ⟨c2, c3, v⟩ := v
      refine a_zald d_M_countIn_142 (KNM_123 hM) c2 (lt_len (NNM_123 hM) c3) ?_
      obtain ⟨vt, vf⟩ := v
      refine a_if_eq (tgt := 150) d_M_countIn_143 (by decide) (fun c => ?_) (fun c => ?_)
      · have v := vt (c); clear vt vf
        refine a_iconst d_M_countIn_150 ⟨by decide, by decide⟩ ?_
        refine a_iadd d_M_countIn_151 ?_
        refine a_istore_n (L' := [some (vr 100), some (vi x1), some (vi (wr (x2 + (0 : Int)))), some (vi x3)]) d_M_countIn_152 (Nat.le_of_ble_eq_true rfl) rfl rfl ?_
        refine a_iinc (L' := [some (vr 100), some (vi x1), some (vi (wr (x2 + (0 : Int)))), some (vi (wr (x3 + (1 : Int))))]) d_M_countIn_153 rfl (Nat.le_of_ble_eq_true rfl) rfl rfl ?_
        refine a_goto (tgt := 123) d_M_countIn_156 (by decide) ?_
        exact v
      · have v := vf (c); clear vt vf
        refine a_iconst d_M_countIn_146 ⟨by decide, by decide⟩ ?_
        refine a_goto (tgt := 151) d_M_countIn_147 (by decide) ?_
        refine a_iadd d_M_countIn_151 ?_
        refine a_istore_n (L' := [some (vr 100), some (vi x1), some (vi (wr (x2 + (1 : Int)))), some (vi x3)]) d_M_countIn_152 (Nat.le_of_ble_eq_true rfl) rfl rfl ?_
        refine a_iinc (L' := [some (vr 100), some (vi x1), some (vi (wr (x2 + (1 : Int)))), some (vi (wr (x3 + (1 : Int))))]) d_M_countIn_153 rfl (Nat.le_of_ble_eq_true rfl) rfl rfl ?_
        refine a_goto (tgt := 123) d_M_countIn_156 (by decide) ?_
        exact v
theorem m_M_countIn_113 {l : Launch} {D : DD} {d kc ks : Nat} {h : Hp} {Φ : Option AV → Hp → Prop} {x1 : Int} {x2 : Int} {x3 : Int} {y0 : Int} {y1 : Int} (hM : MS h) (v : Ev l D Y_M_countIn (d + 1) kc ks 70 [some (vr 100), some (vi x1), some (vi (wr (y1 + y0))), some (vi (wr (x3 + (1 : Int))))] [] h Φ) : Ev l D Y_M_countIn (d + 1) kc ks 113 [some (vr 100), some (vi x1), some (vi x2), some (vi x3)] [vi y0, vi y1] h Φ := by
  refine a_iadd d_M_countIn_113 ?_
  refine a_istore_n (L' := [some (vr 100), some (vi x1), some (vi (wr (y1 + y0))), some (vi x3)]) d_M_countIn_114 (Nat.le_of_ble_eq_true rfl) rfl rfl ?_
  refine a_iinc (L' := [some (vr 100), some (vi x1), some (vi (wr (y1 + y0))), some (vi (wr (x3 + (1 : Int))))]) d_M_countIn_115 rfl (Nat.le_of_ble_eq_true rfl) rfl rfl ?_
  refine a_goto (tgt := 70) d_M_countIn_118 (by decide) ?_
  exact v
theorem m_M_countIn_161 {l : Launch} {D : DD} {d kc ks : Nat} {h : Hp} {Φ : Option AV → Hp → Prop} {x1 : Int} {x2 : Int} {x3 : Int} (hM : MS h) (v : (x3 ≥ (640 : Int) → (Φ (some (vi x2)) h)) ∧ (x3 < (640 : Int) → ((¬ x1 = (8 : Int) → (Φ (some (vi x2)) h)) ∧ (x1 = (8 : Int) → (0 ≤ x3 ∧ x3 < 640 ∧ (Ev l D Y_M_countIn (d + 1) kc ks 161 [some (vr 100), some (vi x1), some (vi (wr (x2 + (xI h 124 (x3).toNat)))), some (vi (wr (x3 + (1 : Int))))] [] h Φ)))))) : Ev l D Y_M_countIn (d + 1) kc ks 161 [some (vr 100), some (vi x1), some (vi x2), some (vi x3)] [] h Φ := by
  refine a_iload_n d_M_countIn_161 rfl ?_
  refine a_sipush d_M_countIn_162 ⟨by decide, by decide⟩ (by decide) ?_
  obtain ⟨vt, vf⟩ := v
  refine a_icmp_ge (tgt := 189) d_M_countIn_165 (by decide) (fun c => ?_) (fun c => ?_)
  · have v := vt (c); clear vt vf
    refine a_iload_n d_M_countIn_189 rfl ?_
    exact a_iret d_M_countIn_190 rfl v
  · have v := vf (Int.not_le.mp c); clear vt vf
    refine a_iload_n d_M_countIn_168 rfl ?_
    refine a_bipush d_M_countIn_169 ⟨by decide, by decide⟩ (by decide) ?_
    obtain ⟨vt, vf⟩ := v
    refine a_icmp_ne (tgt := 189) d_M_countIn_171 (by decide) (fun c => ?_) (fun c => ?_)
    · have v := vt (c); clear vt vf
      refine a_iload_n d_M_countIn_189 rfl ?_
      exact a_iret d_M_countIn_190 rfl v
    · have v := vf (Classical.not_not.mp c); clear vt vf
      refine a_iload_n d_M_countIn_174 rfl ?_
      refine a_aload_n d_M_countIn_175 rfl ?_
      refine a_getAe fl_M_65 d_M_countIn_176 (beq_iff_eq.mpr (KNM_100 hM)) (KRM_100_23 hM) ?_
      refine a_iload_n d_M_countIn_179 rfl ?_
      obtain ⟨c2, c3, v⟩ := v
      refine a_iald d_M_countIn_180 (Or.inl (KNM_124 hM)) c2 (lt_len (NNM_124 hM) c3) ?_
      refine a_iadd d_M_countIn_181 ?_
      refine a_istore_n (L' := [some (vr 100), some (vi x1), some (vi (wr (x2 + (xI h 124 (x3).toNat)))), some (vi x3)]) d_M_countIn_182 (Nat.le_of_ble_eq_true rfl) rfl rfl ?_
      refine a_iinc (L' := [some (vr 100), some (vi x1), some (vi (wr (x2 + (xI h 124 (x3).toNat)))), some (vi (wr (x3 + (1 : Int))))]) d_M_countIn_183 rfl (Nat.le_of_ble_eq_true rfl) rfl rfl ?_
      refine a_goto (tgt := 161) d_M_countIn_186 (by decide) ?_
      exact v
theorem d_M_count_0 : decode Y_M_count.2.1 0 = .ok (.aload_n 0, 1) := by decide +kernel
theorem d_M_count_1 : decode Y_M_count.2.1 1 = .ok (.invokevirtual 217, 3) := by decide +kernel
theorem d_M_count_4 : decode Y_M_count.2.1 4 = .ok (.iload_n 1, 1) := by decide +kernel
theorem d_M_count_5 : decode Y_M_count.2.1 5 = .ok (.ifCond .ne 10, 3) := by decide +kernel
theorem d_M_count_8 : decode Y_M_count.2.1 8 = .ok (.aload_n 0, 1) := by decide +kernel
theorem d_M_count_9 : decode Y_M_count.2.1 9 = .ok (.getfield 123, 3) := by decide +kernel
theorem d_M_count_12 : decode Y_M_count.2.1 12 = .ok (.goto 47, 3) := by decide +kernel
theorem d_M_count_15 : decode Y_M_count.2.1 15 = .ok (.iload_n 1, 1) := by decide +kernel
theorem d_M_count_16 : decode Y_M_count.2.1 16 = .ok (.iconst 1, 1) := by decide +kernel
theorem d_M_count_17 : decode Y_M_count.2.1 17 = .ok (.if_icmp .ne 10, 3) := by decide +kernel
theorem d_M_count_20 : decode Y_M_count.2.1 20 = .ok (.aload_n 0, 1) := by decide +kernel
theorem d_M_count_21 : decode Y_M_count.2.1 21 = .ok (.getfield 131, 3) := by decide +kernel
theorem d_M_count_24 : decode Y_M_count.2.1 24 = .ok (.goto 35, 3) := by decide +kernel
theorem d_M_count_27 : decode Y_M_count.2.1 27 = .ok (.iload_n 1, 1) := by decide +kernel
theorem d_M_count_28 : decode Y_M_count.2.1 28 = .ok (.iconst 2, 1) := by decide +kernel
theorem d_M_count_29 : decode Y_M_count.2.1 29 = .ok (.if_icmp .ne 10, 3) := by decide +kernel
theorem d_M_count_32 : decode Y_M_count.2.1 32 = .ok (.aload_n 0, 1) := by decide +kernel
theorem d_M_count_33 : decode Y_M_count.2.1 33 = .ok (.getfield 163, 3) := by decide +kernel
theorem d_M_count_36 : decode Y_M_count.2.1 36 = .ok (.goto 23, 3) := by decide +kernel
theorem d_M_count_39 : decode Y_M_count.2.1 39 = .ok (.iload_n 1, 1) := by decide +kernel
theorem d_M_count_40 : decode Y_M_count.2.1 40 = .ok (.iconst 3, 1) := by decide +kernel
theorem d_M_count_41 : decode Y_M_count.2.1 41 = .ok (.bipush 9, 2) := by decide +kernel
theorem d_M_count_43 : decode Y_M_count.2.1 43 = .ok (.invokestatic 127, 3) := by decide +kernel
theorem d_M_count_46 : decode Y_M_count.2.1 46 = .ok (.ifCond .eq 11, 3) := by decide +kernel
theorem d_M_count_49 : decode Y_M_count.2.1 49 = .ok (.aload_n 0, 1) := by decide +kernel
theorem d_M_count_50 : decode Y_M_count.2.1 50 = .ok (.iload_n 1, 1) := by decide +kernel
theorem d_M_count_51 : decode Y_M_count.2.1 51 = .ok (.invokevirtual 220, 3) := by decide +kernel
theorem d_M_count_54 : decode Y_M_count.2.1 54 = .ok (.goto 5, 3) := by decide +kernel
theorem d_M_count_57 : decode Y_M_count.2.1 57 = .ok (.bipush (-102), 2) := by decide +kernel
theorem d_M_count_59 : decode Y_M_count.2.1 59 = .ok (.ireturn, 1) := by decide +kernel
theorem m_M_count_0 {l : Launch} {D : DD} {d kc ks : Nat} {h : Hp} {Φ : Option AV → Hp → Prop} {x1 : Int} (hM : MS h) (v : Ev l D Y_M_freshen d 0 0 0 [some (vr 100), none, none] [] h (kv (fun h1 => MS h1 ∧ ((¬ x1 = 0 → ((¬ x1 = (1 : Int) → ((¬ x1 = (2 : Int) → (Ev l D Y_M_in d 0 0 0 [some (vi x1), some (vi (3 : Int)), some (vi (9 : Int))] [] h1 (ki (fun r1 h2 => MS h2 ∧ ((r1 = 0 → (Φ (some (vi (-102 : Int))) h2)) ∧ (¬ r1 = 0 → (Ev l D Y_M_countIn d 0 0 0 [some (vr 100), some (vi x1), none, none] [] h2 (ki (fun r2 h3 => MS h3 ∧ (Φ (some (vi r2)) h3)))))))))) ∧ (x1 = (2 : Int) → (Φ (some (vi (xI h1 100 12))) h1)))) ∧ (x1 = (1 : Int) → (Φ (some (vi (xI h1 100 5))) h1)))) ∧ (x1 = 0 → (Φ (some (vi (xI h1 100 0))) h1)))))) : Ev l D Y_M_count (d + 1) kc ks 0 [some (vr 100), some (vi x1)] [] h Φ := by
  refine a_aload_n d_M_count_0 rfl ?_
  refine b_callV (as := []) (b := 100) (st := []) (kd := 12) (kc1 := 0) (ks1 := 0) (kc2 := kc) (ks2 := ks) (d' := d) ml_M_217 rfl d_M_count_1 rfl rfl (Nat.le_of_ble_eq_true rfl) (by decide) rfl (Nat.le_refl _) (by omega) (by omega) (KNM_100 hM) ?_
  refine Ev.mono v ?_
  intro u h1 v
  obtain ⟨rfl, v⟩ := kv_el v
  obtain ⟨hm1, v⟩ := v
  change Ev l D Y_M_count _ _ _ 4 [some (vr 100), some (vi x1)] [] _ _
  refine a_iload_n d_M_count_4 rfl ?_
  obtain ⟨vt, vf⟩ := v
  refine a_if_ne (tgt := 15) d_M_count_5 (by decide) (fun c => ?_) (fun c => ?_)
  · have v := vt (c); clear vt vf
    refine a_iload_n d_M_count_15 rfl ?_
    refine a_iconst d_M_count_16 ⟨by decide, by decide⟩ ?_
    obtain ⟨vt, vf⟩ := v
    refine a_icmp_ne (tgt := 27) d_M_count_17 (by decide) (fun c => ?_) (fun c => ?_)
    · have v := vt (c); clear vt vf
      refine a_iload_n d_M_count_27 rfl ?_
      refine a_iconst d_M_count_28 ⟨by decide, by decide⟩ ?_
      obtain ⟨vt, vf⟩ := v
      refine a_icmp_ne (tgt := 39) d_M_count_29 (by decide) (fun c => ?_) (fun c => ?_)
      · have v := vt (c); clear vt vf
        refine a_iload_n d_M_count_39 rfl ?_
        refine a_iconst d_M_count_40 ⟨by decide, by decide⟩ ?_
        refine a_bipush d_M_count_41 ⟨by decide, by decide⟩ (by decide) ?_
        refine b_callS (as := [vi x1, vi (3 : Int), vi (9 : Int)]) (st := []) (kc1 := 0) (ks1 := 0) (kc2 := kc) (ks2 := ks) (d' := d) ml_M_127 rfl d_M_count_43 rfl rfl (Nat.le_of_ble_eq_true rfl) rfl (Nat.le_refl _) (by omega) (by omega) ?_
        refine Ev.mono v ?_
        intro u h2 v
        obtain ⟨r1, rfl, v⟩ := ki_el v
        obtain ⟨hm2, v⟩ := v
        change Ev l D Y_M_count _ _ _ 46 [some (vr 100), some (vi x1)] [vi r1] _ _
        obtain ⟨vt, vf⟩ := v
        refine a_if_eq (tgt := 57) d_M_count_46 (by decide) (fun c => ?_) (fun c => ?_)
        · have v := vt (c); clear vt vf
          refine a_bipush d_M_count_57 ⟨by decide, by decide⟩ (by decide) ?_
          exact a_iret d_M_count_59 rfl v
        · have v := vf (c); clear vt vf
          refine a_aload_n d_M_count_49 rfl ?_
          refine a_iload_n d_M_count_50 rfl ?_
          refine b_callV (as := [vi x1]) (b := 100) (st := []) (kd := 12) (kc1 := 0) (ks1 := 0) (kc2 := kc) (ks2 := ks) (d' := d) ml_M_220 rfl d_M_count_51 rfl rfl (Nat.le_of_ble_eq_true rfl) (by decide) rfl (Nat.le_refl _) (by omega) (by omega) (KNM_100 hm2) ?_
          refine Ev.mono v ?_
          intro u h3 v
          obtain ⟨r2, rfl, v⟩ := ki_el v
          obtain ⟨hm3, v⟩ := v
          change Ev l D Y_M_count _ _ _ 54 [some (vr 100), some (vi x1)] [vi r2] _ _
          refine a_goto (tgt := 59) d_M_count_54 (by decide) ?_
          exact a_iret d_M_count_59 rfl v
      · have v := vf (Classical.not_not.mp c); clear vt vf
        refine a_aload_n d_M_count_32 rfl ?_
        refine a_getI fl_M_163 d_M_count_33 (beq_iff_eq.mpr (KNM_100 hm1)) ?_
        refine a_goto (tgt := 59) d_M_count_36 (by decide) ?_
        exact a_iret d_M_count_59 rfl v
    · have v := vf (Classical.not_not.mp c); clear vt vf
      refine a_aload_n d_M_count_20 rfl ?_
      refine a_getI fl_M_131 d_M_count_21 (beq_iff_eq.mpr (KNM_100 hm1)) ?_
      refine a_goto (tgt := 59) d_M_count_24 (by decide) ?_
      exact a_iret d_M_count_59 rfl v
  · have v := vf (Classical.not_not.mp c); clear vt vf
    refine a_aload_n d_M_count_8 rfl ?_
    refine a_getI fl_M_123 d_M_count_9 (beq_iff_eq.mpr (KNM_100 hm1)) ?_
    refine a_goto (tgt := 59) d_M_count_12 (by decide) ?_
    exact a_iret d_M_count_59 rfl v
theorem d_M_callersOf_0 : decode Y_M_callersOf.2.1 0 = .ok (.iconst 0, 1) := by decide +kernel
theorem d_M_callersOf_1 : decode Y_M_callersOf.2.1 1 = .ok (.istore_n 3, 1) := by decide +kernel
theorem d_M_callersOf_2 : decode Y_M_callersOf.2.1 2 = .ok (.iconst 0, 1) := by decide +kernel
theorem d_M_callersOf_3 : decode Y_M_callersOf.2.1 3 = .ok (.istore 4, 2) := by decide +kernel
theorem d_M_callersOf_5 : decode Y_M_callersOf.2.1 5 = .ok (.iload 4, 2) := by decide +kernel
theorem d_M_callersOf_7 : decode Y_M_callersOf.2.1 7 = .ok (.iload_n 2, 1) := by decide +kernel
theorem d_M_callersOf_8 : decode Y_M_callersOf.2.1 8 = .ok (.if_icmp .ge 27, 3) := by decide +kernel
theorem d_M_callersOf_11 : decode Y_M_callersOf.2.1 11 = .ok (.iload_n 3, 1) := by decide +kernel
theorem d_M_callersOf_12 : decode Y_M_callersOf.2.1 12 = .ok (.aload_n 0, 1) := by decide +kernel
theorem d_M_callersOf_13 : decode Y_M_callersOf.2.1 13 = .ok (.iload 4, 2) := by decide +kernel
theorem d_M_callersOf_15 : decode Y_M_callersOf.2.1 15 = .ok (.iload_n 1, 1) := by decide +kernel
theorem d_M_callersOf_16 : decode Y_M_callersOf.2.1 16 = .ok (.invokevirtual 224, 3) := by decide +kernel
theorem d_M_callersOf_19 : decode Y_M_callersOf.2.1 19 = .ok (.ifCond .eq 7, 3) := by decide +kernel
theorem d_M_callersOf_22 : decode Y_M_callersOf.2.1 22 = .ok (.iconst 1, 1) := by decide +kernel
theorem d_M_callersOf_23 : decode Y_M_callersOf.2.1 23 = .ok (.goto 4, 3) := by decide +kernel
theorem d_M_callersOf_26 : decode Y_M_callersOf.2.1 26 = .ok (.iconst 0, 1) := by decide +kernel
theorem d_M_callersOf_27 : decode Y_M_callersOf.2.1 27 = .ok (.iadd, 1) := by decide +kernel
theorem d_M_callersOf_28 : decode Y_M_callersOf.2.1 28 = .ok (.istore_n 3, 1) := by decide +kernel
theorem d_M_callersOf_29 : decode Y_M_callersOf.2.1 29 = .ok (.iinc 4 1, 3) := by decide +kernel
theorem d_M_callersOf_32 : decode Y_M_callersOf.2.1 32 = .ok (.goto (-27), 3) := by decide +kernel
theorem d_M_callersOf_35 : decode Y_M_callersOf.2.1 35 = .ok (.iload_n 3, 1) := by decide +kernel
theorem d_M_callersOf_36 : decode Y_M_callersOf.2.1 36 = .ok (.ireturn, 1) := by decide +kernel
theorem m_M_callersOf_0 {l : Launch} {D : DD} {d kc ks : Nat} {h : Hp} {Φ : Option AV → Hp → Prop} {x1 : Int} {x2 : Int} (hM : MS h) (v : Ev l D Y_M_callersOf (d + 1) kc ks 5 [some (vr 100), some (vi x1), some (vi x2), some (vi (0 : Int)), some (vi (0 : Int))] [] h Φ) : Ev l D Y_M_callersOf (d + 1) kc ks 0 [some (vr 100), some (vi x1), some (vi x2), none, none] [] h Φ := by
  refine a_iconst d_M_callersOf_0 ⟨by decide, by decide⟩ ?_
  refine a_istore_n (L' := [some (vr 100), some (vi x1), some (vi x2), some (vi (0 : Int)), none]) d_M_callersOf_1 (Nat.le_of_ble_eq_true rfl) rfl rfl ?_
  refine a_iconst d_M_callersOf_2 ⟨by decide, by decide⟩ ?_
  refine a_istore (L' := [some (vr 100), some (vi x1), some (vi x2), some (vi (0 : Int)), some (vi (0 : Int))]) d_M_callersOf_3 (Nat.le_of_ble_eq_true rfl) rfl rfl ?_
  exact v
theorem m_M_callersOf_5 {l : Launch} {D : DD} {d kc ks : Nat} {h : Hp} {Φ : Option AV → Hp → Prop} {x1 : Int} {x2 : Int} {x3 : Int} {x4 : Int} (hM : MS h) (v : (x4 ≥ x2 → (Φ (some (vi x3)) h)) ∧ (x4 < x2 → (Ev l D Y_M_isCallee d 0 0 0 [some (vr 100), some (vi x4), some (vi x1)] [] h (ki (fun r1 h1 => MS h1 ∧ ((r1 = 0 → (Ev l D Y_M_callersOf (d + 1) kc ks 5 [some (vr 100), some (vi x1), some (vi x2), some (vi (wr (x3 + (0 : Int)))), some (vi (wr (x4 + (1 : Int))))] [] h1 Φ)) ∧ (¬ r1 = 0 → (Ev l D Y_M_callersOf (d + 1) kc ks 5 [some (vr 100), some (vi x1), some (vi x2), some (vi (wr (x3 + (1 : Int)))), some (vi (wr (x4 + (1 : Int))))] [] h1 Φ)))))))) : Ev l D Y_M_callersOf (d + 1) kc ks 5 [some (vr 100), some (vi x1), some (vi x2), some (vi x3), some (vi x4)] [] h Φ := by
  refine a_iload d_M_callersOf_5 rfl ?_
  refine a_iload_n d_M_callersOf_7 rfl ?_
  obtain ⟨vt, vf⟩ := v
  refine a_icmp_ge (tgt := 35) d_M_callersOf_8 (by decide) (fun c => ?_) (fun c => ?_)
  · have v := vt (c); clear vt vf
    refine a_iload_n d_M_callersOf_35 rfl ?_
    exact a_iret d_M_callersOf_36 rfl v
  · have v := vf (Int.not_le.mp c); clear vt vf
    refine a_iload_n d_M_callersOf_11 rfl ?_
    refine a_aload_n d_M_callersOf_12 rfl ?_
    refine a_iload d_M_callersOf_13 rfl ?_
    refine a_iload_n d_M_callersOf_15 rfl ?_
    refine b_callV (as := [vi x4, vi x1]) (b := 100) (st := [vi x3]) (kd := 12) (kc1 := 0) (ks1 := 0) (kc2 := kc) (ks2 := ks) (d' := d) ml_M_224 rfl d_M_callersOf_16 rfl rfl (Nat.le_of_ble_eq_true rfl) (by decide) rfl (Nat.le_refl _) (by omega) (by omega) (KNM_100 hM) ?_
    refine Ev.mono v ?_
    intro u h1 v
    obtain ⟨r1, rfl, v⟩ := ki_el v
    obtain ⟨hm1, v⟩ := v
    change Ev l D Y_M_callersOf _ _ _ 19 [some (vr 100), some (vi x1), some (vi x2), some (vi x3), some (vi x4)] [vi r1, vi x3] _ _
    obtain ⟨vt, vf⟩ := v
    refine a_if_eq (tgt := 26) d_M_callersOf_19 (by decide) (fun c => ?_) (fun c => ?_)
    · have v := vt (c); clear vt vf
      refine a_iconst d_M_callersOf_26 ⟨by decide, by decide⟩ ?_
      refine a_iadd d_M_callersOf_27 ?_
      refine a_istore_n (L' := [some (vr 100), some (vi x1), some (vi x2), some (vi (wr (x3 + (0 : Int)))), some (vi x4)]) d_M_callersOf_28 (Nat.le_of_ble_eq_true rfl) rfl rfl ?_
      refine a_iinc (L' := [some (vr 100), some (vi x1), some (vi x2), some (vi (wr (x3 + (0 : Int)))), some (vi (wr (x4 + (1 : Int))))]) d_M_callersOf_29 rfl (Nat.le_of_ble_eq_true rfl) rfl rfl ?_
      refine a_goto (tgt := 5) d_M_callersOf_32 (by decide) ?_
      exact v
    · have v := vf (c); clear vt vf
      refine a_iconst d_M_callersOf_22 ⟨by decide, by decide⟩ ?_
      refine a_goto (tgt := 27) d_M_callersOf_23 (by decide) ?_
      refine a_iadd d_M_callersOf_27 ?_
      refine a_istore_n (L' := [some (vr 100), some (vi x1), some (vi x2), some (vi (wr (x3 + (1 : Int)))), some (vi x4)]) d_M_callersOf_28 (Nat.le_of_ble_eq_true rfl) rfl rfl ?_
      refine a_iinc (L' := [some (vr 100), some (vi x1), some (vi x2), some (vi (wr (x3 + (1 : Int)))), some (vi (wr (x4 + (1 : Int))))]) d_M_callersOf_29 rfl (Nat.le_of_ble_eq_true rfl) rfl rfl ?_
      refine a_goto (tgt := 5) d_M_callersOf_32 (by decide) ?_
      exact v
theorem d_M_about_0 : decode Y_M_about.2.1 0 = .ok (.aload_n 0, 1) := by decide +kernel
theorem d_M_about_1 : decode Y_M_about.2.1 1 = .ok (.iload_n 1, 1) := by decide +kernel
theorem d_M_about_2 : decode Y_M_about.2.1 2 = .ok (.invokevirtual 156, 3) := by decide +kernel
theorem d_M_about_5 : decode Y_M_about.2.1 5 = .ok (.ifCond .ne 6, 3) := by decide +kernel
theorem d_M_about_8 : decode Y_M_about.2.1 8 = .ok (.bipush (-101), 2) := by decide +kernel
theorem d_M_about_10 : decode Y_M_about.2.1 10 = .ok (.ireturn, 1) := by decide +kernel
theorem d_M_about_11 : decode Y_M_about.2.1 11 = .ok (.aload_n 0, 1) := by decide +kernel
theorem d_M_about_12 : decode Y_M_about.2.1 12 = .ok (.invokevirtual 217, 3) := by decide +kernel
theorem d_M_about_15 : decode Y_M_about.2.1 15 = .ok (.iconst 0, 1) := by decide +kernel
theorem d_M_about_16 : decode Y_M_about.2.1 16 = .ok (.istore_n 3, 1) := by decide +kernel
theorem d_M_about_17 : decode Y_M_about.2.1 17 = .ok (.iconst (-1), 1) := by decide +kernel
theorem d_M_about_18 : decode Y_M_about.2.1 18 = .ok (.istore 4, 2) := by decide +kernel
theorem d_M_about_20 : decode Y_M_about.2.1 20 = .ok (.aload_n 0, 1) := by decide +kernel
theorem d_M_about_21 : decode Y_M_about.2.1 21 = .ok (.getfield 131, 3) := by decide +kernel
theorem d_M_about_24 : decode Y_M_about.2.1 24 = .ok (.iconst 1, 1) := by decide +kernel
theorem d_M_about_25 : decode Y_M_about.2.1 25 = .ok (.isub, 1) := by decide +kernel
theorem d_M_about_26 : decode Y_M_about.2.1 26 = .ok (.istore 5, 2) := by decide +kernel
theorem d_M_about_28 : decode Y_M_about.2.1 28 = .ok (.iload 5, 2) := by decide +kernel
theorem d_M_about_30 : decode Y_M_about.2.1 30 = .ok (.ifCond .lt 46, 3) := by decide +kernel
theorem d_M_about_33 : decode Y_M_about.2.1 33 = .ok (.iload_n 3, 1) := by decide +kernel
theorem d_M_about_34 : decode Y_M_about.2.1 34 = .ok (.aload_n 0, 1) := by decide +kernel
theorem d_M_about_35 : decode Y_M_about.2.1 35 = .ok (.iload_n 1, 1) := by decide +kernel
theorem d_M_about_36 : decode Y_M_about.2.1 36 = .ok (.iload 5, 2) := by decide +kernel
theorem d_M_about_38 : decode Y_M_about.2.1 38 = .ok (.invokevirtual 227, 3) := by decide +kernel
theorem d_M_about_41 : decode Y_M_about.2.1 41 = .ok (.ifCond .eq 7, 3) := by decide +kernel
theorem d_M_about_44 : decode Y_M_about.2.1 44 = .ok (.iconst 1, 1) := by decide +kernel
theorem d_M_about_45 : decode Y_M_about.2.1 45 = .ok (.goto 4, 3) := by decide +kernel
theorem d_M_about_48 : decode Y_M_about.2.1 48 = .ok (.iconst 0, 1) := by decide +kernel
theorem d_M_about_49 : decode Y_M_about.2.1 49 = .ok (.iadd, 1) := by decide +kernel
theorem d_M_about_50 : decode Y_M_about.2.1 50 = .ok (.istore_n 3, 1) := by decide +kernel
theorem d_M_about_51 : decode Y_M_about.2.1 51 = .ok (.aload_n 0, 1) := by decide +kernel
theorem d_M_about_52 : decode Y_M_about.2.1 52 = .ok (.iload_n 1, 1) := by decide +kernel
theorem d_M_about_53 : decode Y_M_about.2.1 53 = .ok (.iload 5, 2) := by decide +kernel
theorem d_M_about_55 : decode Y_M_about.2.1 55 = .ok (.invokevirtual 227, 3) := by decide +kernel
theorem d_M_about_58 : decode Y_M_about.2.1 58 = .ok (.ifCond .eq 8, 3) := by decide +kernel
theorem d_M_about_61 : decode Y_M_about.2.1 61 = .ok (.iload 5, 2) := by decide +kernel
theorem d_M_about_63 : decode Y_M_about.2.1 63 = .ok (.goto 5, 3) := by decide +kernel
theorem d_M_about_66 : decode Y_M_about.2.1 66 = .ok (.iload 4, 2) := by decide +kernel
theorem d_M_about_68 : decode Y_M_about.2.1 68 = .ok (.istore 4, 2) := by decide +kernel
theorem d_M_about_70 : decode Y_M_about.2.1 70 = .ok (.iinc 5 (-1), 3) := by decide +kernel
theorem d_M_about_73 : decode Y_M_about.2.1 73 = .ok (.goto (-45), 3) := by decide +kernel
theorem d_M_about_76 : decode Y_M_about.2.1 76 = .ok (.iload_n 2, 1) := by decide +kernel
theorem d_M_about_77 : decode Y_M_about.2.1 77 = .ok (.tableswitch 79 0 4 #[35, 50, 64, 74, 76], 35) := by decide +kernel
theorem d_M_about_112 : decode Y_M_about.2.1 112 = .ok (.aload_n 0, 1) := by decide +kernel
theorem d_M_about_113 : decode Y_M_about.2.1 113 = .ok (.getfield 50, 3) := by decide +kernel
theorem d_M_about_116 : decode Y_M_about.2.1 116 = .ok (.iload_n 1, 1) := by decide +kernel
theorem d_M_about_117 : decode Y_M_about.2.1 117 = .ok (.baload, 1) := by decide +kernel
theorem d_M_about_118 : decode Y_M_about.2.1 118 = .ok (.ifCond .eq 7, 3) := by decide +kernel
theorem d_M_about_121 : decode Y_M_about.2.1 121 = .ok (.iconst 1, 1) := by decide +kernel
theorem d_M_about_122 : decode Y_M_about.2.1 122 = .ok (.goto 4, 3) := by decide +kernel
theorem d_M_about_125 : decode Y_M_about.2.1 125 = .ok (.iconst 0, 1) := by decide +kernel
theorem d_M_about_126 : decode Y_M_about.2.1 126 = .ok (.ireturn, 1) := by decide +kernel
theorem d_M_about_127 : decode Y_M_about.2.1 127 = .ok (.aload_n 0, 1) := by decide +kernel
theorem d_M_about_128 : decode Y_M_about.2.1 128 = .ok (.iload_n 1, 1) := by decide +kernel
theorem d_M_about_129 : decode Y_M_about.2.1 129 = .ok (.invokevirtual 214, 3) := by decide +kernel
theorem d_M_about_132 : decode Y_M_about.2.1 132 = .ok (.ifCond .eq 7, 3) := by decide +kernel
theorem d_M_about_135 : decode Y_M_about.2.1 135 = .ok (.iconst 1, 1) := by decide +kernel
theorem d_M_about_136 : decode Y_M_about.2.1 136 = .ok (.goto 4, 3) := by decide +kernel
theorem d_M_about_139 : decode Y_M_about.2.1 139 = .ok (.iconst 0, 1) := by decide +kernel
theorem d_M_about_140 : decode Y_M_about.2.1 140 = .ok (.ireturn, 1) := by decide +kernel
theorem d_M_about_141 : decode Y_M_about.2.1 141 = .ok (.aload_n 0, 1) := by decide +kernel
theorem d_M_about_142 : decode Y_M_about.2.1 142 = .ok (.iload_n 1, 1) := by decide +kernel
theorem d_M_about_143 : decode Y_M_about.2.1 143 = .ok (.aload_n 0, 1) := by decide +kernel
theorem d_M_about_144 : decode Y_M_about.2.1 144 = .ok (.getfield 131, 3) := by decide +kernel
theorem d_M_about_147 : decode Y_M_about.2.1 147 = .ok (.invokevirtual 230, 3) := by decide +kernel
theorem d_M_about_150 : decode Y_M_about.2.1 150 = .ok (.ireturn, 1) := by decide +kernel
theorem d_M_about_151 : decode Y_M_about.2.1 151 = .ok (.iload_n 3, 1) := by decide +kernel
theorem d_M_about_152 : decode Y_M_about.2.1 152 = .ok (.ireturn, 1) := by decide +kernel
theorem d_M_about_153 : decode Y_M_about.2.1 153 = .ok (.iload 4, 2) := by decide +kernel
theorem d_M_about_155 : decode Y_M_about.2.1 155 = .ok (.ireturn, 1) := by decide +kernel
theorem d_M_about_156 : decode Y_M_about.2.1 156 = .ok (.bipush (-102), 2) := by decide +kernel
theorem d_M_about_158 : decode Y_M_about.2.1 158 = .ok (.ireturn, 1) := by decide +kernel
theorem m_M_about_0 {l : Launch} {D : DD} {d kc ks : Nat} {h : Hp} {Φ : Option AV → Hp → Prop} {x1 : Int} {x2 : Int} (hM : MS h) (v : Ev l D Y_M_isMember d 0 0 0 [some (vr 100), some (vi x1)] [] h (ki (fun r1 h1 => MS h1 ∧ ((¬ r1 = 0 → (Ev l D Y_M_freshen d 0 0 0 [some (vr 100), none, none] [] h1 (kv (fun h2 => MS h2 ∧ (Ev l D Y_M_about (d + 1) kc ks 28 [some (vr 100), some (vi x1), some (vi x2), some (vi (0 : Int)), some (vi (-1 : Int)), some (vi (wr ((xI h2 100 5) - (1 : Int))))] [] h2 Φ))))) ∧ (r1 = 0 → (Φ (some (vi (-101 : Int))) h1)))))) : Ev l D Y_M_about (d + 1) kc ks 0 [some (vr 100), some (vi x1), some (vi x2), none, none, none] [] h Φ := by
  refine a_aload_n d_M_about_0 rfl ?_
  refine a_iload_n d_M_about_1 rfl ?_
  refine b_callV (as := [vi x1]) (b := 100) (st := []) (kd := 12) (kc1 := 0) (ks1 := 0) (kc2 := kc) (ks2 := ks) (d' := d) ml_M_156 rfl d_M_about_2 rfl rfl (Nat.le_of_ble_eq_true rfl) (by decide) rfl (Nat.le_refl _) (by omega) (by omega) (KNM_100 hM) ?_
  refine Ev.mono v ?_
  intro u h1 v
  obtain ⟨r1, rfl, v⟩ := ki_el v
  obtain ⟨hm1, v⟩ := v
  change Ev l D Y_M_about _ _ _ 5 [some (vr 100), some (vi x1), some (vi x2), none, none, none] [vi r1] _ _
  obtain ⟨vt, vf⟩ := v
  refine a_if_ne (tgt := 11) d_M_about_5 (by decide) (fun c => ?_) (fun c => ?_)
  · have v := vt (c); clear vt vf
    refine a_aload_n d_M_about_11 rfl ?_
    refine b_callV (as := []) (b := 100) (st := []) (kd := 12) (kc1 := 0) (ks1 := 0) (kc2 := kc) (ks2 := ks) (d' := d) ml_M_217 rfl d_M_about_12 rfl rfl (Nat.le_of_ble_eq_true rfl) (by decide) rfl (Nat.le_refl _) (by omega) (by omega) (KNM_100 hm1) ?_
    refine Ev.mono v ?_
    intro u h2 v
    obtain ⟨rfl, v⟩ := kv_el v
    obtain ⟨hm2, v⟩ := v
    change Ev l D Y_M_about _ _ _ 15 [some (vr 100), some (vi x1), some (vi x2), none, none, none] [] _ _
    refine a_iconst d_M_about_15 ⟨by decide, by decide⟩ ?_
    refine a_istore_n (L' := [some (vr 100), some (vi x1), some (vi x2), some (vi (0 : Int)), none, none]) d_M_about_16 (Nat.le_of_ble_eq_true rfl) rfl rfl ?_
    refine a_iconst d_M_about_17 ⟨by decide, by decide⟩ ?_
    refine a_istore (L' := [some (vr 100), some (vi x1), some (vi x2), some (vi (0 : Int)), some (vi (-1 : Int)), none]) d_M_about_18 (Nat.le_of_ble_eq_true rfl) rfl rfl ?_
    refine a_aload_n d_M_about_20 rfl ?_
    refine a_getI fl_M_131 d_M_about_21 (beq_iff_eq.mpr (KNM_100 hm2)) ?_
    refine a_iconst d_M_about_24 ⟨by decide, by decide⟩ ?_
    refine a_isub d_M_about_25 ?_
    refine a_istore (L' := [some (vr 100), some (vi x1), some (vi x2), some (vi (0 : Int)), some (vi (-1 : Int)), some (vi (wr ((xI h2 100 5) - (1 : Int))))]) d_M_about_26 (Nat.le_of_ble_eq_true rfl) rfl rfl ?_
    exact v
  · have v := vf (Classical.not_not.mp c); clear vt vf
    refine a_bipush d_M_about_8 ⟨by decide, by decide⟩ (by decide) ?_
    exact a_iret d_M_about_10 rfl v
theorem m_M_about_28 {l : Launch} {D : DD} {d kc ks : Nat} {h : Hp} {Φ : Option AV → Hp → Prop} {x1 : Int} {x2 : Int} {x3 : Int} {x4 : Int} {x5 : Int} (hM : MS h) (v : (x5 < 0 → ((x2 = (0 : Int) → (0 ≤ x1 ∧ x1 < 48 ∧ ((xI h 119 (x1).toNat = 0 → (Φ (some (vi (0 : Int))) h)) ∧ (¬ xI h 119 (x1).toNat = 0 → (Φ (some (vi (1 : Int))) h))))) ∧ (x2 = (1 : Int) → (Ev l D Y_M_isRecursive d 0 0 0 [some (vr 100), some (vi x1)] [] h (ki (fun r1 h1 => MS h1 ∧ ((r1 = 0 → (Φ (some (vi (0 : Int))) h1)) ∧ (¬ r1 = 0 → (Φ (some (vi (1 : Int))) h1))))))) ∧ (x2 = (2 : Int) → (Ev l D Y_M_callersOf d 0 0 0 [some (vr 100), some (vi x1), some (vi (xI h 100 5)), none, none] [] h (ki (fun r2 h2 => MS h2 ∧ (Φ (some (vi r2)) h2))))) ∧ (x2 = (3 : Int) → (Φ (some (vi x3)) h)) ∧ (x2 = (4 : Int) → (Φ (some (vi x4)) h)) ∧ (x2 < (0 : Int) ∨ (4 : Int) < x2 → (Φ (some (vi (-102 : Int))) h)))) ∧ (x5 ≥ 0 → (Ev l D Y_M_isRing d 0 0 0 [some (vr 100), some (vi x1), some (vi x5)] [] h (ki (fun r3 h3 => MS h3 ∧ ((r3 = 0 → (Ev l D Y_M_isRing d 0 0 0 [some (vr 100), some (vi x1), some (vi x5)] [] h3 (ki (fun r4 h4 => MS h4 ∧ ((r4 = 0 → (Ev l D Y_M_about (d + 1) kc ks 28 [some (vr 100), some (vi x1), some (vi x2), some (vi (wr (x3 + (0 : Int)))), some (vi x4), some (vi (wr (x5 + (-1 : Int))))] [] h4 Φ)) ∧ (¬ r4 = 0 → (Ev l D Y_M_about (d + 1) kc ks 28 [some (vr 100), some (vi x1), some (vi x2), some (vi (wr (x3 + (0 : Int)))), some (vi x5), some (vi (wr (x5 + (-1 : Int))))] [] h4 Φ))))))) ∧ (¬ r3 = 0 → (Ev l D Y_M_isRing d 0 0 0 [some (vr 100), some (vi x1), some (vi x5)] [] h3 (ki (fun r5 h5 => MS h5 ∧ ((r5 = 0 → (Ev l D Y_M_about (d + 1) kc ks 28 [some (vr 100), some (vi x1), some (vi x2), some (vi (wr (x3 + (1 : Int)))), some (vi x4), some (vi (wr (x5 + (-1 : Int))))] [] h5 Φ)) ∧ (¬ r5 = 0 → (Ev l D Y_M_about (d + 1) kc ks 28 [some (vr 100), some (vi x1), some (vi x2), some (vi (wr (x3 + (1 : Int)))), some (vi x5), some (vi (wr (x5 + (-1 : Int))))] [] h5 Φ))))))))))))) : Ev l D Y_M_about (d + 1) kc ks 28 [some (vr 100), some (vi x1), some (vi x2), some (vi x3), some (vi x4), some (vi x5)] [] h Φ := by
  refine a_iload d_M_about_28 rfl ?_
  obtain ⟨vt, vf⟩ := v
  refine a_if_lt (tgt := 76) d_M_about_30 (by decide) (fun c => ?_) (fun c => ?_)
  · have v := vt (c); clear vt vf
    refine a_iload_n d_M_about_76 rfl ?_
    obtain ⟨v0, v1, v2, v3, v4, vd⟩ := v
    refine a_tab (tgt := 156) [112, 127, 141, 151, 153] d_M_about_77 (by decide) (by decide) (by decide) (fun c => ?_) (fun i t hi c => ?_)
    · have v := vd c; clear vd v0 v1 v2 v3 v4
      refine a_bipush d_M_about_156 ⟨by decide, by decide⟩ (by decide) ?_
      exact a_iret d_M_about_158 rfl v
    · match i, hi, c with
      | 0, hi, c =>
        obtain rfl : 112 = t := Option.some.inj hi
        have v := v0 (by omega); clear vd v0 v1 v2 v3 v4
        refine a_aload_n d_M_about_112 rfl ?_
        refine a_getAe fl_M_50 d_M_about_113 (beq_iff_eq.mpr (KNM_100 hM)) (KRM_100_18 hM) ?_
        refine a_iload_n d_M_about_116 rfl ?_
        obtain ⟨c2, c3, v⟩ := v
        refine a_zald d_M_about_117 (KNM_119 hM) c2 (lt_len (NNM_119 hM) c3) ?_
        obtain ⟨vt, vf⟩ := v
        refine a_if_eq (tgt := 125) d_M_about_118 (by decide) (fun c => ?_) (fun c => ?_)
        · have v := vt (c); clear vt vf
          refine a_iconst d_M_about_125 ⟨by decide, by decide⟩ ?_
          exact a_iret d_M_about_126 rfl v
        · have v := vf (c); clear vt vf
          refine a_iconst d_M_about_121 ⟨by decide, by decide⟩ ?_
          refine a_goto (tgt := 126) d_M_about_122 (by decide) ?_
          exact a_iret d_M_about_126 rfl v
      | 1, hi, c =>
        obtain rfl : 127 = t := Option.some.inj hi
        have v := v1 (by omega); clear vd v0 v1 v2 v3 v4
        refine a_aload_n d_M_about_127 rfl ?_
        refine a_iload_n d_M_about_128 rfl ?_
        refine b_callV (as := [vi x1]) (b := 100) (st := []) (kd := 12) (kc1 := 0) (ks1 := 0) (kc2 := kc) (ks2 := ks) (d' := d) ml_M_214 rfl d_M_about_129 rfl rfl (Nat.le_of_ble_eq_true rfl) (by decide) rfl (Nat.le_refl _) (by omega) (by omega) (KNM_100 hM) ?_
        refine Ev.mono v ?_
        intro u h1 v
        obtain ⟨r1, rfl, v⟩ := ki_el v
        obtain ⟨hm1, v⟩ := v
        change Ev l D Y_M_about _ _ _ 132 [some (vr 100), some (vi x1), some (vi x2), some (vi x3), some (vi x4), some (vi x5)] [vi r1] _ _
        obtain ⟨vt, vf⟩ := v
        refine a_if_eq (tgt := 139) d_M_about_132 (by decide) (fun c => ?_) (fun c => ?_)
        · have v := vt (c); clear vt vf
          refine a_iconst d_M_about_139 ⟨by decide, by decide⟩ ?_
          exact a_iret d_M_about_140 rfl v
        · have v := vf (c); clear vt vf
          refine a_iconst d_M_about_135 ⟨by decide, by decide⟩ ?_
          refine a_goto (tgt := 140) d_M_about_136 (by decide) ?_
          exact a_iret d_M_about_140 rfl v
      | 2, hi, c =>
        obtain rfl : 141 = t := Option.some.inj hi
        have v := v2 (by omega); clear vd v0 v1 v2 v3 v4
        refine a_aload_n d_M_about_141 rfl ?_
        refine a_iload_n d_M_about_142 rfl ?_
        refine a_aload_n d_M_about_143 rfl ?_
        refine a_getI fl_M_131 d_M_about_144 (beq_iff_eq.mpr (KNM_100 hM)) ?_
        refine b_callV (as := [vi x1, vi (xI h 100 5)]) (b := 100) (st := []) (kd := 12) (kc1 := 0) (ks1 := 0) (kc2 := kc) (ks2 := ks) (d' := d) ml_M_230 rfl d_M_about_147 rfl rfl (Nat.le_of_ble_eq_true rfl) (by decide) rfl (Nat.le_refl _) (by omega) (by omega) (KNM_100 hM) ?_
        refine Ev.mono v ?_
        intro u h2 v
        obtain ⟨r2, rfl, v⟩ := ki_el v
        obtain ⟨hm2, v⟩ := v
        change Ev l D Y_M_about _ _ _ 150 [some (vr 100), some (vi x1), some (vi x2), some (vi x3), some (vi x4), some (vi x5)] [vi r2] _ _
        exact a_iret d_M_about_150 rfl v
      | 3, hi, c =>
        obtain rfl : 151 = t := Option.some.inj hi
        have v := v3 (by omega); clear vd v0 v1 v2 v3 v4
        refine a_iload_n d_M_about_151 rfl ?_
        exact a_iret d_M_about_152 rfl v
      | 4, hi, c =>
        obtain rfl : 153 = t := Option.some.inj hi
        have v := v4 (by omega); clear vd v0 v1 v2 v3 v4
        refine a_iload d_M_about_153 rfl ?_
        exact a_iret d_M_about_155 rfl v
      | i + 5, hi, c => exact absurd hi (by simp)
  · have v := vf (Int.not_lt.mp c); clear vt vf
    refine a_iload_n d_M_about_33 rfl ?_
    refine a_aload_n d_M_about_34 rfl ?_
    refine a_iload_n d_M_about_35 rfl ?_
    refine a_iload d_M_about_36 rfl ?_
    refine b_callV (as := [vi x1, vi x5]) (b := 100) (st := [vi x3]) (kd := 12) (kc1 := 0) (ks1 := 0) (kc2 := kc) (ks2 := ks) (d' := d) ml_M_227 rfl d_M_about_38 rfl rfl (Nat.le_of_ble_eq_true rfl) (by decide) rfl (Nat.le_refl _) (by omega) (by omega) (KNM_100 hM) ?_
    refine Ev.mono v ?_
    intro u h3 v
    obtain ⟨r3, rfl, v⟩ := ki_el v
    obtain ⟨hm3, v⟩ := v
    change Ev l D Y_M_about _ _ _ 41 [some (vr 100), some (vi x1), some (vi x2), some (vi x3), some (vi x4), some (vi x5)] [vi r3, vi x3] _ _
    obtain ⟨vt, vf⟩ := v
    refine a_if_eq (tgt := 48) d_M_about_41 (by decide) (fun c => ?_) (fun c => ?_)
    · have v := vt (c); clear vt vf
      refine a_iconst d_M_about_48 ⟨by decide, by decide⟩ ?_
      refine a_iadd d_M_about_49 ?_
      refine a_istore_n (L' := [some (vr 100), some (vi x1), some (vi x2), some (vi (wr (x3 + (0 : Int)))), some (vi x4), some (vi x5)]) d_M_about_50 (Nat.le_of_ble_eq_true rfl) rfl rfl ?_
      refine a_aload_n d_M_about_51 rfl ?_
      refine a_iload_n d_M_about_52 rfl ?_
      refine a_iload d_M_about_53 rfl ?_
      refine b_callV (as := [vi x1, vi x5]) (b := 100) (st := []) (kd := 12) (kc1 := 0) (ks1 := 0) (kc2 := kc) (ks2 := ks) (d' := d) ml_M_227 rfl d_M_about_55 rfl rfl (Nat.le_of_ble_eq_true rfl) (by decide) rfl (Nat.le_refl _) (by omega) (by omega) (KNM_100 hm3) ?_
      refine Ev.mono v ?_
      intro u h4 v
      obtain ⟨r4, rfl, v⟩ := ki_el v
      obtain ⟨hm4, v⟩ := v
      change Ev l D Y_M_about _ _ _ 58 [some (vr 100), some (vi x1), some (vi x2), some (vi (wr (x3 + (0 : Int)))), some (vi x4), some (vi x5)] [vi r4] _ _
      obtain ⟨vt, vf⟩ := v
      refine a_if_eq (tgt := 66) d_M_about_58 (by decide) (fun c => ?_) (fun c => ?_)
      · have v := vt (c); clear vt vf
        refine a_iload d_M_about_66 rfl ?_
        refine a_istore (L' := [some (vr 100), some (vi x1), some (vi x2), some (vi (wr (x3 + (0 : Int)))), some (vi x4), some (vi x5)]) d_M_about_68 (Nat.le_of_ble_eq_true rfl) rfl rfl ?_
        refine a_iinc (L' := [some (vr 100), some (vi x1), some (vi x2), some (vi (wr (x3 + (0 : Int)))), some (vi x4), some (vi (wr (x5 + (-1 : Int))))]) d_M_about_70 rfl (Nat.le_of_ble_eq_true rfl) rfl rfl ?_
        refine a_goto (tgt := 28) d_M_about_73 (by decide) ?_
        exact v
      · have v := vf (c); clear vt vf
        refine a_iload d_M_about_61 rfl ?_
        refine a_goto (tgt := 68) d_M_about_63 (by decide) ?_
        refine a_istore (L' := [some (vr 100), some (vi x1), some (vi x2), some (vi (wr (x3 + (0 : Int)))), some (vi x5), some (vi x5)]) d_M_about_68 (Nat.le_of_ble_eq_true rfl) rfl rfl ?_
        refine a_iinc (L' := [some (vr 100), some (vi x1), some (vi x2), some (vi (wr (x3 + (0 : Int)))), some (vi x5), some (vi (wr (x5 + (-1 : Int))))]) d_M_about_70 rfl (Nat.le_of_ble_eq_true rfl) rfl rfl ?_
        refine a_goto (tgt := 28) d_M_about_73 (by decide) ?_
        exact v
    · have v := vf (c); clear vt vf
      refine a_iconst d_M_about_44 ⟨by decide, by decide⟩ ?_
      refine a_goto (tgt := 49) d_M_about_45 (by decide) ?_
      refine a_iadd d_M_about_49 ?_
      refine a_istore_n (L' := [some (vr 100), some (vi x1), some (vi x2), some (vi (wr (x3 + (1 : Int)))), some (vi x4), some (vi x5)]) d_M_about_50 (Nat.le_of_ble_eq_true rfl) rfl rfl ?_
      refine a_aload_n d_M_about_51 rfl ?_
      refine a_iload_n d_M_about_52 rfl ?_
      refine a_iload d_M_about_53 rfl ?_
      refine b_callV (as := [vi x1, vi x5]) (b := 100) (st := []) (kd := 12) (kc1 := 0) (ks1 := 0) (kc2 := kc) (ks2 := ks) (d' := d) ml_M_227 rfl d_M_about_55 rfl rfl (Nat.le_of_ble_eq_true rfl) (by decide) rfl (Nat.le_refl _) (by omega) (by omega) (KNM_100 hm3) ?_
      refine Ev.mono v ?_
      intro u h5 v
      obtain ⟨r5, rfl, v⟩ := ki_el v
      obtain ⟨hm5, v⟩ := v
      change Ev l D Y_M_about _ _ _ 58 [some (vr 100), some (vi x1), some (vi x2), some (vi (wr (x3 + (1 : Int)))), some (vi x4), some (vi x5)] [vi r5] _ _
      obtain ⟨vt, vf⟩ := v
      refine a_if_eq (tgt := 66) d_M_about_58 (by decide) (fun c => ?_) (fun c => ?_)
      · have v := vt (c); clear vt vf
        refine a_iload d_M_about_66 rfl ?_
        refine a_istore (L' := [some (vr 100), some (vi x1), some (vi x2), some (vi (wr (x3 + (1 : Int)))), some (vi x4), some (vi x5)]) d_M_about_68 (Nat.le_of_ble_eq_true rfl) rfl rfl ?_
        refine a_iinc (L' := [some (vr 100), some (vi x1), some (vi x2), some (vi (wr (x3 + (1 : Int)))), some (vi x4), some (vi (wr (x5 + (-1 : Int))))]) d_M_about_70 rfl (Nat.le_of_ble_eq_true rfl) rfl rfl ?_
        refine a_goto (tgt := 28) d_M_about_73 (by decide) ?_
        exact v
      · have v := vf (c); clear vt vf
        refine a_iload d_M_about_61 rfl ?_
        refine a_goto (tgt := 68) d_M_about_63 (by decide) ?_
        refine a_istore (L' := [some (vr 100), some (vi x1), some (vi x2), some (vi (wr (x3 + (1 : Int)))), some (vi x5), some (vi x5)]) d_M_about_68 (Nat.le_of_ble_eq_true rfl) rfl rfl ?_
        refine a_iinc (L' := [some (vr 100), some (vi x1), some (vi x2), some (vi (wr (x3 + (1 : Int)))), some (vi x5), some (vi (wr (x5 + (-1 : Int))))]) d_M_about_70 rfl (Nat.le_of_ble_eq_true rfl) rfl rfl ?_
        refine a_goto (tgt := 28) d_M_about_73 (by decide) ?_
        exact v
theorem d_M_made_0 : decode Y_M_made.2.1 0 = .ok (.aload_n 0, 1) := by decide +kernel
theorem d_M_made_1 : decode Y_M_made.2.1 1 = .ok (.iload_n 1, 1) := by decide +kernel
theorem d_M_made_2 : decode Y_M_made.2.1 2 = .ok (.invokevirtual 141, 3) := by decide +kernel
theorem d_M_made_5 : decode Y_M_made.2.1 5 = .ok (.ifCond .ne 6, 3) := by decide +kernel
theorem d_M_made_8 : decode Y_M_made.2.1 8 = .ok (.bipush (-101), 2) := by decide +kernel
theorem d_M_made_10 : decode Y_M_made.2.1 10 = .ok (.ireturn, 1) := by decide +kernel
theorem d_M_made_11 : decode Y_M_made.2.1 11 = .ok (.aload_n 0, 1) := by decide +kernel
theorem d_M_made_12 : decode Y_M_made.2.1 12 = .ok (.invokevirtual 217, 3) := by decide +kernel
theorem d_M_made_15 : decode Y_M_made.2.1 15 = .ok (.iload_n 2, 1) := by decide +kernel
theorem d_M_made_16 : decode Y_M_made.2.1 16 = .ok (.ifCond .ne 20, 3) := by decide +kernel
theorem d_M_made_19 : decode Y_M_made.2.1 19 = .ok (.aload_n 0, 1) := by decide +kernel
theorem d_M_made_20 : decode Y_M_made.2.1 20 = .ok (.getfield 53, 3) := by decide +kernel
theorem d_M_made_23 : decode Y_M_made.2.1 23 = .ok (.iload_n 1, 1) := by decide +kernel
theorem d_M_made_24 : decode Y_M_made.2.1 24 = .ok (.baload, 1) := by decide +kernel
theorem d_M_made_25 : decode Y_M_made.2.1 25 = .ok (.ifCond .eq 7, 3) := by decide +kernel
theorem d_M_made_28 : decode Y_M_made.2.1 28 = .ok (.iconst 1, 1) := by decide +kernel
theorem d_M_made_29 : decode Y_M_made.2.1 29 = .ok (.goto 31, 3) := by decide +kernel
theorem d_M_made_32 : decode Y_M_made.2.1 32 = .ok (.iconst 0, 1) := by decide +kernel
theorem d_M_made_33 : decode Y_M_made.2.1 33 = .ok (.goto 27, 3) := by decide +kernel
theorem d_M_made_36 : decode Y_M_made.2.1 36 = .ok (.iload_n 2, 1) := by decide +kernel
theorem d_M_made_37 : decode Y_M_made.2.1 37 = .ok (.iconst 1, 1) := by decide +kernel
theorem d_M_made_38 : decode Y_M_made.2.1 38 = .ok (.if_icmp .ne 20, 3) := by decide +kernel
theorem d_M_made_41 : decode Y_M_made.2.1 41 = .ok (.aload_n 0, 1) := by decide +kernel
theorem d_M_made_42 : decode Y_M_made.2.1 42 = .ok (.getfield 56, 3) := by decide +kernel
theorem d_M_made_45 : decode Y_M_made.2.1 45 = .ok (.iload_n 1, 1) := by decide +kernel
theorem d_M_made_46 : decode Y_M_made.2.1 46 = .ok (.baload, 1) := by decide +kernel
theorem d_M_made_47 : decode Y_M_made.2.1 47 = .ok (.ifCond .eq 7, 3) := by decide +kernel
theorem d_M_made_50 : decode Y_M_made.2.1 50 = .ok (.iconst 1, 1) := by decide +kernel
theorem d_M_made_51 : decode Y_M_made.2.1 51 = .ok (.goto 9, 3) := by decide +kernel
theorem d_M_made_54 : decode Y_M_made.2.1 54 = .ok (.iconst 0, 1) := by decide +kernel
theorem d_M_made_55 : decode Y_M_made.2.1 55 = .ok (.goto 5, 3) := by decide +kernel
theorem d_M_made_58 : decode Y_M_made.2.1 58 = .ok (.bipush (-102), 2) := by decide +kernel
theorem d_M_made_60 : decode Y_M_made.2.1 60 = .ok (.ireturn, 1) := by decide +kernel
theorem m_M_made_0 {l : Launch} {D : DD} {d kc ks : Nat} {h : Hp} {Φ : Option AV → Hp → Prop} {x1 : Int} {x2 : Int} (hM : MS h) (v : Ev l D Y_M_isType d 0 0 0 [some (vr 100), some (vi x1)] [] h (ki (fun r1 h1 => MS h1 ∧ ((¬ r1 = 0 → (Ev l D Y_M_freshen d 0 0 0 [some (vr 100), none, none] [] h1 (kv (fun h2 => MS h2 ∧ ((¬ x2 = 0 → ((¬ x2 = (1 : Int) → (Φ (some (vi (-102 : Int))) h2)) ∧ (x2 = (1 : Int) → (0 ≤ x1 ∧ x1 < 16 ∧ ((xI h2 121 (x1).toNat = 0 → (Φ (some (vi (0 : Int))) h2)) ∧ (¬ xI h2 121 (x1).toNat = 0 → (Φ (some (vi (1 : Int))) h2))))))) ∧ (x2 = 0 → (0 ≤ x1 ∧ x1 < 16 ∧ ((xI h2 120 (x1).toNat = 0 → (Φ (some (vi (0 : Int))) h2)) ∧ (¬ xI h2 120 (x1).toNat = 0 → (Φ (some (vi (1 : Int))) h2)))))))))) ∧ (r1 = 0 → (Φ (some (vi (-101 : Int))) h1)))))) : Ev l D Y_M_made (d + 1) kc ks 0 [some (vr 100), some (vi x1), some (vi x2)] [] h Φ := by
  refine a_aload_n d_M_made_0 rfl ?_
  refine a_iload_n d_M_made_1 rfl ?_
  refine b_callV (as := [vi x1]) (b := 100) (st := []) (kd := 12) (kc1 := 0) (ks1 := 0) (kc2 := kc) (ks2 := ks) (d' := d) ml_M_141 rfl d_M_made_2 rfl rfl (Nat.le_of_ble_eq_true rfl) (by decide) rfl (Nat.le_refl _) (by omega) (by omega) (KNM_100 hM) ?_
  refine Ev.mono v ?_
  intro u h1 v
  obtain ⟨r1, rfl, v⟩ := ki_el v
  obtain ⟨hm1, v⟩ := v
  change Ev l D Y_M_made _ _ _ 5 [some (vr 100), some (vi x1), some (vi x2)] [vi r1] _ _
  obtain ⟨vt, vf⟩ := v
  refine a_if_ne (tgt := 11) d_M_made_5 (by decide) (fun c => ?_) (fun c => ?_)
  · have v := vt (c); clear vt vf
    refine a_aload_n d_M_made_11 rfl ?_
    refine b_callV (as := []) (b := 100) (st := []) (kd := 12) (kc1 := 0) (ks1 := 0) (kc2 := kc) (ks2 := ks) (d' := d) ml_M_217 rfl d_M_made_12 rfl rfl (Nat.le_of_ble_eq_true rfl) (by decide) rfl (Nat.le_refl _) (by omega) (by omega) (KNM_100 hm1) ?_
    refine Ev.mono v ?_
    intro u h2 v
    obtain ⟨rfl, v⟩ := kv_el v
    obtain ⟨hm2, v⟩ := v
    change Ev l D Y_M_made _ _ _ 15 [some (vr 100), some (vi x1), some (vi x2)] [] _ _
    refine a_iload_n d_M_made_15 rfl ?_
    obtain ⟨vt, vf⟩ := v
    refine a_if_ne (tgt := 36) d_M_made_16 (by decide) (fun c => ?_) (fun c => ?_)
    · have v := vt (c); clear vt vf
      refine a_iload_n d_M_made_36 rfl ?_
      refine a_iconst d_M_made_37 ⟨by decide, by decide⟩ ?_
      obtain ⟨vt, vf⟩ := v
      refine a_icmp_ne (tgt := 58) d_M_made_38 (by decide) (fun c => ?_) (fun c => ?_)
      · have v := vt (c); clear vt vf
        refine a_bipush d_M_made_58 ⟨by decide, by decide⟩ (by decide) ?_
        exact a_iret d_M_made_60 rfl v
      · have v := vf (Classical.not_not.mp c); clear vt vf
        refine a_aload_n d_M_made_41 rfl ?_
        refine a_getAe fl_M_56 d_M_made_42 (beq_iff_eq.mpr (KNM_100 hm2)) (KRM_100_20 hm2) ?_
        refine a_iload_n d_M_made_45 rfl ?_
        obtain ⟨c2, c3, v⟩ := v
        refine a_zald d_M_made_46 (KNM_121 hm2) c2 (lt_len (NNM_121 hm2) c3) ?_
        obtain ⟨vt, vf⟩ := v
        refine a_if_eq (tgt := 54) d_M_made_47 (by decide) (fun c => ?_) (fun c => ?_)
        · have v := vt (c); clear vt vf
          refine a_iconst d_M_made_54 ⟨by decide, by decide⟩ ?_
          refine a_goto (tgt := 60) d_M_made_55 (by decide) ?_
          exact a_iret d_M_made_60 rfl v
        · have v := vf (c); clear vt vf
          refine a_iconst d_M_made_50 ⟨by decide, by decide⟩ ?_
          refine a_goto (tgt := 60) d_M_made_51 (by decide) ?_
          exact a_iret d_M_made_60 rfl v
    · have v := vf (Classical.not_not.mp c); clear vt vf
      refine a_aload_n d_M_made_19 rfl ?_
      refine a_getAe fl_M_53 d_M_made_20 (beq_iff_eq.mpr (KNM_100 hm2)) (KRM_100_19 hm2) ?_
      refine a_iload_n d_M_made_23 rfl ?_
      obtain ⟨c5, c6, v⟩ := v
      refine a_zald d_M_made_24 (KNM_120 hm2) c5 (lt_len (NNM_120 hm2) c6) ?_
      obtain ⟨vt, vf⟩ := v
      refine a_if_eq (tgt := 32) d_M_made_25 (by decide) (fun c => ?_) (fun c => ?_)
      · have v := vt (c); clear vt vf
        refine a_iconst d_M_made_32 ⟨by decide, by decide⟩ ?_
        refine a_goto (tgt := 60) d_M_made_33 (by decide) ?_
        exact a_iret d_M_made_60 rfl v
      · have v := vf (c); clear vt vf
        refine a_iconst d_M_made_28 ⟨by decide, by decide⟩ ?_
        refine a_goto (tgt := 60) d_M_made_29 (by decide) ?_
        exact a_iret d_M_made_60 rfl v
  · have v := vf (Classical.not_not.mp c); clear vt vf
    refine a_bipush d_M_made_8 ⟨by decide, by decide⟩ (by decide) ?_
    exact a_iret d_M_made_10 rfl v
theorem d_M_isOp_0 : decode Y_M_isOp.2.1 0 = .ok (.aload_n 0, 1) := by decide +kernel
theorem d_M_isOp_1 : decode Y_M_isOp.2.1 1 = .ok (.iload_n 1, 1) := by decide +kernel
theorem d_M_isOp_2 : decode Y_M_isOp.2.1 2 = .ok (.invokevirtual 156, 3) := by decide +kernel
theorem d_M_isOp_5 : decode Y_M_isOp.2.1 5 = .ok (.ifCond .eq 23, 3) := by decide +kernel
theorem d_M_isOp_8 : decode Y_M_isOp.2.1 8 = .ok (.iload_n 2, 1) := by decide +kernel
theorem d_M_isOp_9 : decode Y_M_isOp.2.1 9 = .ok (.iconst 0, 1) := by decide +kernel
theorem d_M_isOp_10 : decode Y_M_isOp.2.1 10 = .ok (.aload_n 0, 1) := by decide +kernel
theorem d_M_isOp_11 : decode Y_M_isOp.2.1 11 = .ok (.getfield 35, 3) := by decide +kernel
theorem d_M_isOp_14 : decode Y_M_isOp.2.1 14 = .ok (.iload_n 1, 1) := by decide +kernel
theorem d_M_isOp_15 : decode Y_M_isOp.2.1 15 = .ok (.iaload, 1) := by decide +kernel
theorem d_M_isOp_16 : decode Y_M_isOp.2.1 16 = .ok (.iconst 1, 1) := by decide +kernel
theorem d_M_isOp_17 : decode Y_M_isOp.2.1 17 = .ok (.isub, 1) := by decide +kernel
theorem d_M_isOp_18 : decode Y_M_isOp.2.1 18 = .ok (.invokestatic 127, 3) := by decide +kernel
theorem d_M_isOp_21 : decode Y_M_isOp.2.1 21 = .ok (.ifCond .eq 7, 3) := by decide +kernel
theorem d_M_isOp_24 : decode Y_M_isOp.2.1 24 = .ok (.iconst 1, 1) := by decide +kernel
theorem d_M_isOp_25 : decode Y_M_isOp.2.1 25 = .ok (.goto 4, 3) := by decide +kernel
theorem d_M_isOp_28 : decode Y_M_isOp.2.1 28 = .ok (.iconst 0, 1) := by decide +kernel
theorem d_M_isOp_29 : decode Y_M_isOp.2.1 29 = .ok (.ireturn, 1) := by decide +kernel
theorem m_M_isOp_0 {l : Launch} {D : DD} {d kc ks : Nat} {h : Hp} {Φ : Option AV → Hp → Prop} {x1 : Int} {x2 : Int} (hM : MS h) (v : Ev l D Y_M_isMember d 0 0 0 [some (vr 100), some (vi x1)] [] h (ki (fun r1 h1 => MS h1 ∧ ((r1 = 0 → (Φ (some (vi (0 : Int))) h1)) ∧ (¬ r1 = 0 → (0 ≤ x1 ∧ x1 < 48 ∧ (Ev l D Y_M_in d 0 0 0 [some (vi x2), some (vi (0 : Int)), some (vi (wr ((xI h1 111 (x1).toNat) - (1 : Int))))] [] h1 (ki (fun r2 h2 => MS h2 ∧ ((r2 = 0 → (Φ (some (vi (0 : Int))) h2)) ∧ (¬ r2 = 0 → (Φ (some (vi (1 : Int))) h2)))))))))))) : Ev l D Y_M_isOp (d + 1) kc ks 0 [some (vr 100), some (vi x1), some (vi x2)] [] h Φ := by
  refine a_aload_n d_M_isOp_0 rfl ?_
  refine a_iload_n d_M_isOp_1 rfl ?_
  refine b_callV (as := [vi x1]) (b := 100) (st := []) (kd := 12) (kc1 := 0) (ks1 := 0) (kc2 := kc) (ks2 := ks) (d' := d) ml_M_156 rfl d_M_isOp_2 rfl rfl (Nat.le_of_ble_eq_true rfl) (by decide) rfl (Nat.le_refl _) (by omega) (by omega) (KNM_100 hM) ?_
  refine Ev.mono v ?_
  intro u h1 v
  obtain ⟨r1, rfl, v⟩ := ki_el v
  obtain ⟨hm1, v⟩ := v
  change Ev l D Y_M_isOp _ _ _ 5 [some (vr 100), some (vi x1), some (vi x2)] [vi r1] _ _
  obtain ⟨vt, vf⟩ := v
  refine a_if_eq (tgt := 28) d_M_isOp_5 (by decide) (fun c => ?_) (fun c => ?_)
  · have v := vt (c); clear vt vf
    refine a_iconst d_M_isOp_28 ⟨by decide, by decide⟩ ?_
    exact a_zret d_M_isOp_29 rfl (Or.inl rfl) v
  · have v := vf (c); clear vt vf
    refine a_iload_n d_M_isOp_8 rfl ?_
    refine a_iconst d_M_isOp_9 ⟨by decide, by decide⟩ ?_
    refine a_aload_n d_M_isOp_10 rfl ?_
    refine a_getAe fl_M_35 d_M_isOp_11 (beq_iff_eq.mpr (KNM_100 hm1)) (KRM_100_10 hm1) ?_
    refine a_iload_n d_M_isOp_14 rfl ?_
    obtain ⟨c2, c3, v⟩ := v
    refine a_iald d_M_isOp_15 (Or.inl (KNM_111 hm1)) c2 (lt_len (NNM_111 hm1) c3) ?_
    refine a_iconst d_M_isOp_16 ⟨by decide, by decide⟩ ?_
    refine a_isub d_M_isOp_17 ?_
    refine b_callS (as := [vi x2, vi (0 : Int), vi (wr ((xI h1 111 (x1).toNat) - (1 : Int)))]) (st := []) (kc1 := 0) (ks1 := 0) (kc2 := kc) (ks2 := ks) (d' := d) ml_M_127 rfl d_M_isOp_18 rfl rfl (Nat.le_of_ble_eq_true rfl) rfl (Nat.le_refl _) (by omega) (by omega) ?_
    refine Ev.mono v ?_
    intro u h2 v
    obtain ⟨r2, rfl, v⟩ := ki_el v
    obtain ⟨hm2, v⟩ := v
    change Ev l D Y_M_isOp _ _ _ 21 [some (vr 100), some (vi x1), some (vi x2)] [vi r2] _ _
    obtain ⟨vt, vf⟩ := v
    refine a_if_eq (tgt := 28) d_M_isOp_21 (by decide) (fun c => ?_) (fun c => ?_)
    · have v := vt (c); clear vt vf
      refine a_iconst d_M_isOp_28 ⟨by decide, by decide⟩ ?_
      exact a_zret d_M_isOp_29 rfl (Or.inl rfl) v
    · have v := vf (c); clear vt vf
      refine a_iconst d_M_isOp_24 ⟨by decide, by decide⟩ ?_
      refine a_goto (tgt := 29) d_M_isOp_25 (by decide) ?_
      exact a_zret d_M_isOp_29 rfl (Or.inr rfl) v
theorem d_M_callee_0 : decode Y_M_callee.2.1 0 = .ok (.aload_n 0, 1) := by decide +kernel
theorem d_M_callee_1 : decode Y_M_callee.2.1 1 = .ok (.iload_n 1, 1) := by decide +kernel
theorem d_M_callee_2 : decode Y_M_callee.2.1 2 = .ok (.iload_n 2, 1) := by decide +kernel
theorem d_M_callee_3 : decode Y_M_callee.2.1 3 = .ok (.invokevirtual 233, 3) := by decide +kernel
theorem d_M_callee_6 : decode Y_M_callee.2.1 6 = .ok (.ifCond .ne 6, 3) := by decide +kernel
theorem d_M_callee_9 : decode Y_M_callee.2.1 9 = .ok (.bipush (-101), 2) := by decide +kernel
theorem d_M_callee_11 : decode Y_M_callee.2.1 11 = .ok (.ireturn, 1) := by decide +kernel
theorem d_M_callee_12 : decode Y_M_callee.2.1 12 = .ok (.aload_n 0, 1) := by decide +kernel
theorem d_M_callee_13 : decode Y_M_callee.2.1 13 = .ok (.invokevirtual 217, 3) := by decide +kernel
theorem d_M_callee_16 : decode Y_M_callee.2.1 16 = .ok (.iconst 0, 1) := by decide +kernel
theorem d_M_callee_17 : decode Y_M_callee.2.1 17 = .ok (.istore 4, 2) := by decide +kernel
theorem d_M_callee_19 : decode Y_M_callee.2.1 19 = .ok (.iconst 0, 1) := by decide +kernel
theorem d_M_callee_20 : decode Y_M_callee.2.1 20 = .ok (.istore 5, 2) := by decide +kernel
theorem d_M_callee_22 : decode Y_M_callee.2.1 22 = .ok (.iload 5, 2) := by decide +kernel
theorem d_M_callee_24 : decode Y_M_callee.2.1 24 = .ok (.aload_n 0, 1) := by decide +kernel
theorem d_M_callee_25 : decode Y_M_callee.2.1 25 = .ok (.getfield 131, 3) := by decide +kernel
theorem d_M_callee_28 : decode Y_M_callee.2.1 28 = .ok (.if_icmp .ge 46, 3) := by decide +kernel
theorem d_M_callee_31 : decode Y_M_callee.2.1 31 = .ok (.aload_n 0, 1) := by decide +kernel
theorem d_M_callee_32 : decode Y_M_callee.2.1 32 = .ok (.getfield 62, 3) := by decide +kernel
theorem d_M_callee_35 : decode Y_M_callee.2.1 35 = .ok (.bipush 48, 2) := by decide +kernel
theorem d_M_callee_37 : decode Y_M_callee.2.1 37 = .ok (.aload_n 0, 1) := by decide +kernel
theorem d_M_callee_38 : decode Y_M_callee.2.1 38 = .ok (.getfield 38, 3) := by decide +kernel
theorem d_M_callee_41 : decode Y_M_callee.2.1 41 = .ok (.bipush 24, 2) := by decide +kernel
theorem d_M_callee_43 : decode Y_M_callee.2.1 43 = .ok (.iload_n 1, 1) := by decide +kernel
theorem d_M_callee_44 : decode Y_M_callee.2.1 44 = .ok (.imul, 1) := by decide +kernel
theorem d_M_callee_45 : decode Y_M_callee.2.1 45 = .ok (.iload_n 2, 1) := by decide +kernel
theorem d_M_callee_46 : decode Y_M_callee.2.1 46 = .ok (.iadd, 1) := by decide +kernel
theorem d_M_callee_47 : decode Y_M_callee.2.1 47 = .ok (.iaload, 1) := by decide +kernel
theorem d_M_callee_48 : decode Y_M_callee.2.1 48 = .ok (.imul, 1) := by decide +kernel
theorem d_M_callee_49 : decode Y_M_callee.2.1 49 = .ok (.iload 5, 2) := by decide +kernel
theorem d_M_callee_51 : decode Y_M_callee.2.1 51 = .ok (.iadd, 1) := by decide +kernel
theorem d_M_callee_52 : decode Y_M_callee.2.1 52 = .ok (.baload, 1) := by decide +kernel
theorem d_M_callee_53 : decode Y_M_callee.2.1 53 = .ok (.ifCond .eq 15, 3) := by decide +kernel
theorem d_M_callee_56 : decode Y_M_callee.2.1 56 = .ok (.iload 4, 2) := by decide +kernel
theorem d_M_callee_58 : decode Y_M_callee.2.1 58 = .ok (.iload_n 3, 1) := by decide +kernel
theorem d_M_callee_59 : decode Y_M_callee.2.1 59 = .ok (.if_icmp .ne 6, 3) := by decide +kernel
theorem d_M_callee_62 : decode Y_M_callee.2.1 62 = .ok (.iload 5, 2) := by decide +kernel
theorem d_M_callee_64 : decode Y_M_callee.2.1 64 = .ok (.ireturn, 1) := by decide +kernel
theorem d_M_callee_65 : decode Y_M_callee.2.1 65 = .ok (.iinc 4 1, 3) := by decide +kernel
theorem d_M_callee_68 : decode Y_M_callee.2.1 68 = .ok (.iinc 5 1, 3) := by decide +kernel
theorem d_M_callee_71 : decode Y_M_callee.2.1 71 = .ok (.goto (-49), 3) := by decide +kernel
theorem d_M_callee_74 : decode Y_M_callee.2.1 74 = .ok (.iconst (-1), 1) := by decide +kernel
theorem d_M_callee_75 : decode Y_M_callee.2.1 75 = .ok (.ireturn, 1) := by decide +kernel
theorem m_M_callee_0 {l : Launch} {D : DD} {d kc ks : Nat} {h : Hp} {Φ : Option AV → Hp → Prop} {x1 : Int} {x2 : Int} {x3 : Int} (hM : MS h) (v : Ev l D Y_M_isOp d 0 0 0 [some (vr 100), some (vi x1), some (vi x2)] [] h (ki (fun r1 h1 => MS h1 ∧ ((¬ r1 = 0 → (Ev l D Y_M_freshen d 0 0 0 [some (vr 100), none, none] [] h1 (kv (fun h2 => MS h2 ∧ (Ev l D Y_M_callee (d + 1) kc ks 22 [some (vr 100), some (vi x1), some (vi x2), some (vi x3), some (vi (0 : Int)), some (vi (0 : Int))] [] h2 Φ))))) ∧ (r1 = 0 → (Φ (some (vi (-101 : Int))) h1)))))) : Ev l D Y_M_callee (d + 1) kc ks 0 [some (vr 100), some (vi x1), some (vi x2), some (vi x3), none, none] [] h Φ := by
  refine a_aload_n d_M_callee_0 rfl ?_
  refine a_iload_n d_M_callee_1 rfl ?_
  refine a_iload_n d_M_callee_2 rfl ?_
  refine b_callV (as := [vi x1, vi x2]) (b := 100) (st := []) (kd := 12) (kc1 := 0) (ks1 := 0) (kc2 := kc) (ks2 := ks) (d' := d) ml_M_233 rfl d_M_callee_3 rfl rfl (Nat.le_of_ble_eq_true rfl) (by decide) rfl (Nat.le_refl _) (by omega) (by omega) (KNM_100 hM) ?_
  refine Ev.mono v ?_
  intro u h1 v
  obtain ⟨r1, rfl, v⟩ := ki_el v
  obtain ⟨hm1, v⟩ := v
  change Ev l D Y_M_callee _ _ _ 6 [some (vr 100), some (vi x1), some (vi x2), some (vi x3), none, none] [vi r1] _ _
  obtain ⟨vt, vf⟩ := v
  refine a_if_ne (tgt := 12) d_M_callee_6 (by decide) (fun c => ?_) (fun c => ?_)
  · have v := vt (c); clear vt vf
    refine a_aload_n d_M_callee_12 rfl ?_
    refine b_callV (as := []) (b := 100) (st := []) (kd := 12) (kc1 := 0) (ks1 := 0) (kc2 := kc) (ks2 := ks) (d' := d) ml_M_217 rfl d_M_callee_13 rfl rfl (Nat.le_of_ble_eq_true rfl) (by decide) rfl (Nat.le_refl _) (by omega) (by omega) (KNM_100 hm1) ?_
    refine Ev.mono v ?_
    intro u h2 v
    obtain ⟨rfl, v⟩ := kv_el v
    obtain ⟨hm2, v⟩ := v
    change Ev l D Y_M_callee _ _ _ 16 [some (vr 100), some (vi x1), some (vi x2), some (vi x3), none, none] [] _ _
    refine a_iconst d_M_callee_16 ⟨by decide, by decide⟩ ?_
    refine a_istore (L' := [some (vr 100), some (vi x1), some (vi x2), some (vi x3), some (vi (0 : Int)), none]) d_M_callee_17 (Nat.le_of_ble_eq_true rfl) rfl rfl ?_
    refine a_iconst d_M_callee_19 ⟨by decide, by decide⟩ ?_
    refine a_istore (L' := [some (vr 100), some (vi x1), some (vi x2), some (vi x3), some (vi (0 : Int)), some (vi (0 : Int))]) d_M_callee_20 (Nat.le_of_ble_eq_true rfl) rfl rfl ?_
    exact v
  · have v := vf (Classical.not_not.mp c); clear vt vf
    refine a_bipush d_M_callee_9 ⟨by decide, by decide⟩ (by decide) ?_
    exact a_iret d_M_callee_11 rfl v
theorem m_M_callee_22 {l : Launch} {D : DD} {d kc ks : Nat} {h : Hp} {Φ : Option AV → Hp → Prop} {x1 : Int} {x2 : Int} {x3 : Int} {x4 : Int} {x5 : Int} (hM : MS h) (v : (x5 ≥ xI h 100 5 → (Φ (some (vi (-1 : Int))) h)) ∧ (x5 < xI h 100 5 → (0 ≤ wr ((wr ((24 : Int) * x1)) + x2) ∧ wr ((wr ((24 : Int) * x1)) + x2) < 1152 ∧ (0 ≤ wr ((wr ((48 : Int) * (xI h 112 (wr ((wr ((24 : Int) * x1)) + x2)).toNat))) + x5) ∧ wr ((wr ((48 : Int) * (xI h 112 (wr ((wr ((24 : Int) * x1)) + x2)).toNat))) + x5) < 7680 ∧ ((xI h 123 (wr ((wr ((48 : Int) * (xI h 112 (wr ((wr ((24 : Int) * x1)) + x2)).toNat))) + x5)).toNat = 0 → (Ev l D Y_M_callee (d + 1) kc ks 22 [some (vr 100), some (vi x1), some (vi x2), some (vi x3), some (vi x4), some (vi (wr (x5 + (1 : Int))))] [] h Φ)) ∧ (¬ xI h 123 (wr ((wr ((48 : Int) * (xI h 112 (wr ((wr ((24 : Int) * x1)) + x2)).toNat))) + x5)).toNat = 0 → ((¬ x4 = x3 → (Ev l D Y_M_callee (d + 1) kc ks 22 [some (vr 100), some (vi x1), some (vi x2), some (vi x3), some (vi (wr (x4 + (1 : Int)))), some (vi (wr (x5 + (1 : Int))))] [] h Φ)) ∧ (x4 = x3 → (Φ (some (vi x5)) h))))))))) : Ev l D Y_M_callee (d + 1) kc ks 22 [some (vr 100), some (vi x1), some (vi x2), some (vi x3), some (vi x4), some (vi x5)] [] h Φ := by
  refine a_iload d_M_callee_22 rfl ?_
  refine a_aload_n d_M_callee_24 rfl ?_
  refine a_getI fl_M_131 d_M_callee_25 (beq_iff_eq.mpr (KNM_100 hM)) ?_
  obtain ⟨vt, vf⟩ := v
  refine a_icmp_ge (tgt := 74) d_M_callee_28 (by decide) (fun c => ?_) (fun c => ?_)
  · have v := vt (c); clear vt vf
    refine a_iconst d_M_callee_74 ⟨by decide, by decide⟩ ?_
    exact a_iret d_M_callee_75 rfl v
  · have v := vf (Int.not_le.mp c); clear vt vf
    refine a_aload_n d_M_callee_31 rfl ?_
    refine a_getAe fl_M_62 d_M_callee_32 (beq_iff_eq.mpr (KNM_100 hM)) (KRM_100_22 hM) ?_
    refine a_bipush d_M_callee_35 ⟨by decide, by decide⟩ (by decide) ?_
    refine a_aload_n d_M_callee_37 rfl ?_
    refine a_getAe fl_M_38 d_M_callee_38 (beq_iff_eq.mpr (KNM_100 hM)) (KRM_100_11 hM) ?_
    refine a_bipush d_M_callee_41 ⟨by decide, by decide⟩ (by decide) ?_
    refine a_iload_n d_M_callee_43 rfl ?_
    refine a_imul d_M_callee_44 ?_
    refine a_iload_n d_M_callee_45 rfl ?_
    refine a_iadd d_M_callee_46 ?_
    obtain ⟨c2, c3, v⟩ := v
    refine a_iald d_M_callee_47 (Or.inl (KNM_112 hM)) c2 (lt_len (NNM_112 hM) c3) ?_
    refine a_imul d_M_callee_48 ?_
    refine a_iload d_M_callee_49 rfl ?_
    refine a_iadd d_M_callee_51 ?_
    obtain ⟨c5, c6, v⟩ := v
    refine a_zald d_M_callee_52 (KNM_123 hM) c5 (lt_len (NNM_123 hM) c6) ?_
    obtain ⟨vt, vf⟩ := v
    refine a_if_eq (tgt := 68) d_M_callee_53 (by decide) (fun c => ?_) (fun c => ?_)
    · have v := vt (c); clear vt vf
      refine a_iinc (L' := [some (vr 100), some (vi x1), some (vi x2), some (vi x3), some (vi x4), some (vi (wr (x5 + (1 : Int))))]) d_M_callee_68 rfl (Nat.le_of_ble_eq_true rfl) rfl rfl ?_
      refine a_goto (tgt := 22) d_M_callee_71 (by decide) ?_
      exact v
    · have v := vf (c); clear vt vf
      refine a_iload d_M_callee_56 rfl ?_
      refine a_iload_n d_M_callee_58 rfl ?_
      obtain ⟨vt, vf⟩ := v
      refine a_icmp_ne (tgt := 65) d_M_callee_59 (by decide) (fun c => ?_) (fun c => ?_)
      · have v := vt (c); clear vt vf
        refine a_iinc (L' := [some (vr 100), some (vi x1), some (vi x2), some (vi x3), some (vi (wr (x4 + (1 : Int)))), some (vi x5)]) d_M_callee_65 rfl (Nat.le_of_ble_eq_true rfl) rfl rfl ?_
        refine a_iinc (L' := [some (vr 100), some (vi x1), some (vi x2), some (vi x3), some (vi (wr (x4 + (1 : Int)))), some (vi (wr (x5 + (1 : Int))))]) d_M_callee_68 rfl (Nat.le_of_ble_eq_true rfl) rfl rfl ?_
        refine a_goto (tgt := 22) d_M_callee_71 (by decide) ?_
        exact v
      · have v := vf (Classical.not_not.mp c); clear vt vf
        refine a_iload d_M_callee_62 rfl ?_
        exact a_iret d_M_callee_64 rfl v
theorem d_M_faults_0 : decode Y_M_faults.2.1 0 = .ok (.aload_n 0, 1) := by decide +kernel
theorem d_M_faults_1 : decode Y_M_faults.2.1 1 = .ok (.iload_n 1, 1) := by decide +kernel
theorem d_M_faults_2 : decode Y_M_faults.2.1 2 = .ok (.iload_n 2, 1) := by decide +kernel
theorem d_M_faults_3 : decode Y_M_faults.2.1 3 = .ok (.invokevirtual 233, 3) := by decide +kernel
theorem d_M_faults_6 : decode Y_M_faults.2.1 6 = .ok (.ifCond .ne 6, 3) := by decide +kernel
theorem d_M_faults_9 : decode Y_M_faults.2.1 9 = .ok (.bipush (-101), 2) := by decide +kernel
theorem d_M_faults_11 : decode Y_M_faults.2.1 11 = .ok (.ireturn, 1) := by decide +kernel
theorem d_M_faults_12 : decode Y_M_faults.2.1 12 = .ok (.aload_n 0, 1) := by decide +kernel
theorem d_M_faults_13 : decode Y_M_faults.2.1 13 = .ok (.invokevirtual 217, 3) := by decide +kernel
theorem d_M_faults_16 : decode Y_M_faults.2.1 16 = .ok (.iload_n 3, 1) := by decide +kernel
theorem d_M_faults_17 : decode Y_M_faults.2.1 17 = .ok (.bipush (-5), 2) := by decide +kernel
theorem d_M_faults_19 : decode Y_M_faults.2.1 19 = .ok (.bipush (-2), 2) := by decide +kernel
theorem d_M_faults_21 : decode Y_M_faults.2.1 21 = .ok (.invokestatic 127, 3) := by decide +kernel
theorem d_M_faults_24 : decode Y_M_faults.2.1 24 = .ok (.ifCond .eq 28, 3) := by decide +kernel
theorem d_M_faults_27 : decode Y_M_faults.2.1 27 = .ok (.aload_n 0, 1) := by decide +kernel
theorem d_M_faults_28 : decode Y_M_faults.2.1 28 = .ok (.getfield 65, 3) := by decide +kernel
theorem d_M_faults_31 : decode Y_M_faults.2.1 31 = .ok (.iconst 4, 1) := by decide +kernel
theorem d_M_faults_32 : decode Y_M_faults.2.1 32 = .ok (.aload_n 0, 1) := by decide +kernel
theorem d_M_faults_33 : decode Y_M_faults.2.1 33 = .ok (.getfield 38, 3) := by decide +kernel
theorem d_M_faults_36 : decode Y_M_faults.2.1 36 = .ok (.bipush 24, 2) := by decide +kernel
theorem d_M_faults_38 : decode Y_M_faults.2.1 38 = .ok (.iload_n 1, 1) := by decide +kernel
theorem d_M_faults_39 : decode Y_M_faults.2.1 39 = .ok (.imul, 1) := by decide +kernel
theorem d_M_faults_40 : decode Y_M_faults.2.1 40 = .ok (.iload_n 2, 1) := by decide +kernel
theorem d_M_faults_41 : decode Y_M_faults.2.1 41 = .ok (.iadd, 1) := by decide +kernel
theorem d_M_faults_42 : decode Y_M_faults.2.1 42 = .ok (.iaload, 1) := by decide +kernel
theorem d_M_faults_43 : decode Y_M_faults.2.1 43 = .ok (.imul, 1) := by decide +kernel
theorem d_M_faults_44 : decode Y_M_faults.2.1 44 = .ok (.iconst 2, 1) := by decide +kernel
theorem d_M_faults_45 : decode Y_M_faults.2.1 45 = .ok (.isub, 1) := by decide +kernel
theorem d_M_faults_46 : decode Y_M_faults.2.1 46 = .ok (.iload_n 3, 1) := by decide +kernel
theorem d_M_faults_47 : decode Y_M_faults.2.1 47 = .ok (.isub, 1) := by decide +kernel
theorem d_M_faults_48 : decode Y_M_faults.2.1 48 = .ok (.iaload, 1) := by decide +kernel
theorem d_M_faults_49 : decode Y_M_faults.2.1 49 = .ok (.goto 5, 3) := by decide +kernel
theorem d_M_faults_52 : decode Y_M_faults.2.1 52 = .ok (.bipush (-102), 2) := by decide +kernel
theorem d_M_faults_54 : decode Y_M_faults.2.1 54 = .ok (.ireturn, 1) := by decide +kernel
theorem m_M_faults_0 {l : Launch} {D : DD} {d kc ks : Nat} {h : Hp} {Φ : Option AV → Hp → Prop} {x1 : Int} {x2 : Int} {x3 : Int} (hM : MS h) (v : Ev l D Y_M_isOp d 0 0 0 [some (vr 100), some (vi x1), some (vi x2)] [] h (ki (fun r1 h1 => MS h1 ∧ ((¬ r1 = 0 → (Ev l D Y_M_freshen d 0 0 0 [some (vr 100), none, none] [] h1 (kv (fun h2 => MS h2 ∧ (Ev l D Y_M_in d 0 0 0 [some (vi x3), some (vi (-5 : Int)), some (vi (-2 : Int))] [] h2 (ki (fun r2 h3 => MS h3 ∧ ((r2 = 0 → (Φ (some (vi (-102 : Int))) h3)) ∧ (¬ r2 = 0 → (0 ≤ wr ((wr ((24 : Int) * x1)) + x2) ∧ wr ((wr ((24 : Int) * x1)) + x2) < 1152 ∧ (0 ≤ wr ((wr ((wr ((4 : Int) * (xI h3 112 (wr ((wr ((24 : Int) * x1)) + x2)).toNat))) - (2 : Int))) - x3) ∧ wr ((wr ((wr ((4 : Int) * (xI h3 112 (wr ((wr ((24 : Int) * x1)) + x2)).toNat))) - (2 : Int))) - x3) < 640 ∧ (Φ (some (vi (xI h3 124 (wr ((wr ((wr ((4 : Int) * (xI h3 112 (wr ((wr ((24 : Int) * x1)) + x2)).toNat))) - (2 : Int))) - x3)).toNat))) h3)))))))))))) ∧ (r1 = 0 → (Φ (some (vi (-101 : Int))) h1)))))) : Ev l D Y_M_faults (d + 1) kc ks 0 [some (vr 100), some (vi x1), some (vi x2), some (vi x3)] [] h Φ := by
  refine a_aload_n d_M_faults_0 rfl ?_
  refine a_iload_n d_M_faults_1 rfl ?_
  refine a_iload_n d_M_faults_2 rfl ?_
  refine b_callV (as := [vi x1, vi x2]) (b := 100) (st := []) (kd := 12) (kc1 := 0) (ks1 := 0) (kc2 := kc) (ks2 := ks) (d' := d) ml_M_233 rfl d_M_faults_3 rfl rfl (Nat.le_of_ble_eq_true rfl) (by decide) rfl (Nat.le_refl _) (by omega) (by omega) (KNM_100 hM) ?_
  refine Ev.mono v ?_
  intro u h1 v
  obtain ⟨r1, rfl, v⟩ := ki_el v
  obtain ⟨hm1, v⟩ := v
  change Ev l D Y_M_faults _ _ _ 6 [some (vr 100), some (vi x1), some (vi x2), some (vi x3)] [vi r1] _ _
  obtain ⟨vt, vf⟩ := v
  refine a_if_ne (tgt := 12) d_M_faults_6 (by decide) (fun c => ?_) (fun c => ?_)
  · have v := vt (c); clear vt vf
    refine a_aload_n d_M_faults_12 rfl ?_
    refine b_callV (as := []) (b := 100) (st := []) (kd := 12) (kc1 := 0) (ks1 := 0) (kc2 := kc) (ks2 := ks) (d' := d) ml_M_217 rfl d_M_faults_13 rfl rfl (Nat.le_of_ble_eq_true rfl) (by decide) rfl (Nat.le_refl _) (by omega) (by omega) (KNM_100 hm1) ?_
    refine Ev.mono v ?_
    intro u h2 v
    obtain ⟨rfl, v⟩ := kv_el v
    obtain ⟨hm2, v⟩ := v
    change Ev l D Y_M_faults _ _ _ 16 [some (vr 100), some (vi x1), some (vi x2), some (vi x3)] [] _ _
    refine a_iload_n d_M_faults_16 rfl ?_
    refine a_bipush d_M_faults_17 ⟨by decide, by decide⟩ (by decide) ?_
    refine a_bipush d_M_faults_19 ⟨by decide, by decide⟩ (by decide) ?_
    refine b_callS (as := [vi x3, vi (-5 : Int), vi (-2 : Int)]) (st := []) (kc1 := 0) (ks1 := 0) (kc2 := kc) (ks2 := ks) (d' := d) ml_M_127 rfl d_M_faults_21 rfl rfl (Nat.le_of_ble_eq_true rfl) rfl (Nat.le_refl _) (by omega) (by omega) ?_
    refine Ev.mono v ?_
    intro u h3 v
    obtain ⟨r2, rfl, v⟩ := ki_el v
    obtain ⟨hm3, v⟩ := v
    change Ev l D Y_M_faults _ _ _ 24 [some (vr 100), some (vi x1), some (vi x2), some (vi x3)] [vi r2] _ _
    obtain ⟨vt, vf⟩ := v
    refine a_if_eq (tgt := 52) d_M_faults_24 (by decide) (fun c => ?_) (fun c => ?_)
    · have v := vt (c); clear vt vf
      refine a_bipush d_M_faults_52 ⟨by decide, by decide⟩ (by decide) ?_
      exact a_iret d_M_faults_54 rfl v
    · have v := vf (c); clear vt vf
      refine a_aload_n d_M_faults_27 rfl ?_
      refine a_getAe fl_M_65 d_M_faults_28 (beq_iff_eq.mpr (KNM_100 hm3)) (KRM_100_23 hm3) ?_
      refine a_iconst d_M_faults_31 ⟨by decide, by decide⟩ ?_
      refine a_aload_n d_M_faults_32 rfl ?_
      refine a_getAe fl_M_38 d_M_faults_33 (beq_iff_eq.mpr (KNM_100 hm3)) (KRM_100_11 hm3) ?_
      refine a_bipush d_M_faults_36 ⟨by decide, by decide⟩ (by decide) ?_
      refine a_iload_n d_M_faults_38 rfl ?_
      refine a_imul d_M_faults_39 ?_
      refine a_iload_n d_M_faults_40 rfl ?_
      refine a_iadd d_M_faults_41 ?_
      obtain ⟨c2, c3, v⟩ := v
      refine a_iald d_M_faults_42 (Or.inl (KNM_112 hm3)) c2 (lt_len (NNM_112 hm3) c3) ?_
      refine a_imul d_M_faults_43 ?_
      refine a_iconst d_M_faults_44 ⟨by decide, by decide⟩ ?_
      refine a_isub d_M_faults_45 ?_
      refine a_iload_n d_M_faults_46 rfl ?_
      refine a_isub d_M_faults_47 ?_
      obtain ⟨c5, c6, v⟩ := v
      refine a_iald d_M_faults_48 (Or.inl (KNM_124 hm3)) c5 (lt_len (NNM_124 hm3) c6) ?_
      refine a_goto (tgt := 54) d_M_faults_49 (by decide) ?_
      exact a_iret d_M_faults_54 rfl v
  · have v := vf (Classical.not_not.mp c); clear vt vf
    refine a_bipush d_M_faults_9 ⟨by decide, by decide⟩ (by decide) ?_
    exact a_iret d_M_faults_11 rfl v
theorem d_M_caller_0 : decode Y_M_caller.2.1 0 = .ok (.aload_n 0, 1) := by decide +kernel
theorem d_M_caller_1 : decode Y_M_caller.2.1 1 = .ok (.iload_n 1, 1) := by decide +kernel
theorem d_M_caller_2 : decode Y_M_caller.2.1 2 = .ok (.invokevirtual 156, 3) := by decide +kernel
theorem d_M_caller_5 : decode Y_M_caller.2.1 5 = .ok (.ifCond .ne 6, 3) := by decide +kernel
theorem d_M_caller_8 : decode Y_M_caller.2.1 8 = .ok (.bipush (-101), 2) := by decide +kernel
theorem d_M_caller_10 : decode Y_M_caller.2.1 10 = .ok (.ireturn, 1) := by decide +kernel
theorem d_M_caller_11 : decode Y_M_caller.2.1 11 = .ok (.aload_n 0, 1) := by decide +kernel
theorem d_M_caller_12 : decode Y_M_caller.2.1 12 = .ok (.invokevirtual 217, 3) := by decide +kernel
theorem d_M_caller_15 : decode Y_M_caller.2.1 15 = .ok (.iconst 0, 1) := by decide +kernel
theorem d_M_caller_16 : decode Y_M_caller.2.1 16 = .ok (.istore_n 3, 1) := by decide +kernel
theorem d_M_caller_17 : decode Y_M_caller.2.1 17 = .ok (.iload_n 3, 1) := by decide +kernel
theorem d_M_caller_18 : decode Y_M_caller.2.1 18 = .ok (.aload_n 0, 1) := by decide +kernel
theorem d_M_caller_19 : decode Y_M_caller.2.1 19 = .ok (.getfield 131, 3) := by decide +kernel
theorem d_M_caller_22 : decode Y_M_caller.2.1 22 = .ok (.if_icmp .ge 30, 3) := by decide +kernel
theorem d_M_caller_25 : decode Y_M_caller.2.1 25 = .ok (.aload_n 0, 1) := by decide +kernel
theorem d_M_caller_26 : decode Y_M_caller.2.1 26 = .ok (.iload_n 3, 1) := by decide +kernel
theorem d_M_caller_27 : decode Y_M_caller.2.1 27 = .ok (.iload_n 1, 1) := by decide +kernel
theorem d_M_caller_28 : decode Y_M_caller.2.1 28 = .ok (.invokevirtual 224, 3) := by decide +kernel
theorem d_M_caller_31 : decode Y_M_caller.2.1 31 = .ok (.ifCond .eq 15, 3) := by decide +kernel
theorem d_M_caller_34 : decode Y_M_caller.2.1 34 = .ok (.aload_n 0, 1) := by decide +kernel
theorem d_M_caller_35 : decode Y_M_caller.2.1 35 = .ok (.iload_n 1, 1) := by decide +kernel
theorem d_M_caller_36 : decode Y_M_caller.2.1 36 = .ok (.iload_n 3, 1) := by decide +kernel
theorem d_M_caller_37 : decode Y_M_caller.2.1 37 = .ok (.invokevirtual 230, 3) := by decide +kernel
theorem d_M_caller_40 : decode Y_M_caller.2.1 40 = .ok (.iload_n 2, 1) := by decide +kernel
theorem d_M_caller_41 : decode Y_M_caller.2.1 41 = .ok (.if_icmp .ne 5, 3) := by decide +kernel
theorem d_M_caller_44 : decode Y_M_caller.2.1 44 = .ok (.iload_n 3, 1) := by decide +kernel
theorem d_M_caller_45 : decode Y_M_caller.2.1 45 = .ok (.ireturn, 1) := by decide +kernel
theorem d_M_caller_46 : decode Y_M_caller.2.1 46 = .ok (.iinc 3 1, 3) := by decide +kernel
theorem d_M_caller_49 : decode Y_M_caller.2.1 49 = .ok (.goto (-32), 3) := by decide +kernel
theorem d_M_caller_52 : decode Y_M_caller.2.1 52 = .ok (.iconst (-1), 1) := by decide +kernel
theorem d_M_caller_53 : decode Y_M_caller.2.1 53 = .ok (.ireturn, 1) := by decide +kernel
theorem m_M_caller_0 {l : Launch} {D : DD} {d kc ks : Nat} {h : Hp} {Φ : Option AV → Hp → Prop} {x1 : Int} {x2 : Int} (hM : MS h) (v : Ev l D Y_M_isMember d 0 0 0 [some (vr 100), some (vi x1)] [] h (ki (fun r1 h1 => MS h1 ∧ ((¬ r1 = 0 → (Ev l D Y_M_freshen d 0 0 0 [some (vr 100), none, none] [] h1 (kv (fun h2 => MS h2 ∧ (Ev l D Y_M_caller (d + 1) kc ks 17 [some (vr 100), some (vi x1), some (vi x2), some (vi (0 : Int))] [] h2 Φ))))) ∧ (r1 = 0 → (Φ (some (vi (-101 : Int))) h1)))))) : Ev l D Y_M_caller (d + 1) kc ks 0 [some (vr 100), some (vi x1), some (vi x2), none] [] h Φ := by
  refine a_aload_n d_M_caller_0 rfl ?_
  refine a_iload_n d_M_caller_1 rfl ?_
  refine b_callV (as := [vi x1]) (b := 100) (st := []) (kd := 12) (kc1 := 0) (ks1 := 0) (kc2 := kc) (ks2 := ks) (d' := d) ml_M_156 rfl d_M_caller_2 rfl rfl (Nat.le_of_ble_eq_true rfl) (by decide) rfl (Nat.le_refl _) (by omega) (by omega) (KNM_100 hM) ?_
  refine Ev.mono v ?_
  intro u h1 v
  obtain ⟨r1, rfl, v⟩ := ki_el v
  obtain ⟨hm1, v⟩ := v
  change Ev l D Y_M_caller _ _ _ 5 [some (vr 100), some (vi x1), some (vi x2), none] [vi r1] _ _
  obtain ⟨vt, vf⟩ := v
  refine a_if_ne (tgt := 11) d_M_caller_5 (by decide) (fun c => ?_) (fun c => ?_)
  · have v := vt (c); clear vt vf
    refine a_aload_n d_M_caller_11 rfl ?_
    refine b_callV (as := []) (b := 100) (st := []) (kd := 12) (kc1 := 0) (ks1 := 0) (kc2 := kc) (ks2 := ks) (d' := d) ml_M_217 rfl d_M_caller_12 rfl rfl (Nat.le_of_ble_eq_true rfl) (by decide) rfl (Nat.le_refl _) (by omega) (by omega) (KNM_100 hm1) ?_
    refine Ev.mono v ?_
    intro u h2 v
    obtain ⟨rfl, v⟩ := kv_el v
    obtain ⟨hm2, v⟩ := v
    change Ev l D Y_M_caller _ _ _ 15 [some (vr 100), some (vi x1), some (vi x2), none] [] _ _
    refine a_iconst d_M_caller_15 ⟨by decide, by decide⟩ ?_
    refine a_istore_n (L' := [some (vr 100), some (vi x1), some (vi x2), some (vi (0 : Int))]) d_M_caller_16 (Nat.le_of_ble_eq_true rfl) rfl rfl ?_
    exact v
  · have v := vf (Classical.not_not.mp c); clear vt vf
    refine a_bipush d_M_caller_8 ⟨by decide, by decide⟩ (by decide) ?_
    exact a_iret d_M_caller_10 rfl v
theorem m_M_caller_17 {l : Launch} {D : DD} {d kc ks : Nat} {h : Hp} {Φ : Option AV → Hp → Prop} {x1 : Int} {x2 : Int} {x3 : Int} (hM : MS h) (v : (x3 ≥ xI h 100 5 → (Φ (some (vi (-1 : Int))) h)) ∧ (x3 < xI h 100 5 → (Ev l D Y_M_isCallee d 0 0 0 [some (vr 100), some (vi x3), some (vi x1)] [] h (ki (fun r1 h1 => MS h1 ∧ ((r1 = 0 → (Ev l D Y_M_caller (d + 1) kc ks 17 [some (vr 100), some (vi x1), some (vi x2), some (vi (wr (x3 + (1 : Int))))] [] h1 Φ)) ∧ (¬ r1 = 0 → (Ev l D Y_M_callersOf d 0 0 0 [some (vr 100), some (vi x1), some (vi x3), none, none] [] h1 (ki (fun r2 h2 => MS h2 ∧ ((¬ r2 = x2 → (Ev l D Y_M_caller (d + 1) kc ks 17 [some (vr 100), some (vi x1), some (vi x2), some (vi (wr (x3 + (1 : Int))))] [] h2 Φ)) ∧ (r2 = x2 → (Φ (some (vi x3)) h2))))))))))))) : Ev l D Y_M_caller (d + 1) kc ks 17 [some (vr 100), some (vi x1), some (vi x2), some (vi x3)] [] h Φ := by
  refine a_iload_n d_M_caller_17 rfl ?_
  refine a_aload_n d_M_caller_18 rfl ?_
  refine a_getI fl_M_131 d_M_caller_19 (beq_iff_eq.mpr (KNM_100 hM)) ?_
  obtain ⟨vt, vf⟩ := v
  refine a_icmp_ge (tgt := 52) d_M_caller_22 (by decide) (fun c => ?_) (fun c => ?_)
  · have v := vt (c); clear vt vf
    refine a_iconst d_M_caller_52 ⟨by decide, by decide⟩ ?_
    exact a_iret d_M_caller_53 rfl v
  · have v := vf (Int.not_le.mp c); clear vt vf
    refine a_aload_n d_M_caller_25 rfl ?_
    refine a_iload_n d_M_caller_26 rfl ?_
    refine a_iload_n d_M_caller_27 rfl ?_
    refine b_callV (as := [vi x3, vi x1]) (b := 100) (st := []) (kd := 12) (kc1 := 0) (ks1 := 0) (kc2 := kc) (ks2 := ks) (d' := d) ml_M_224 rfl d_M_caller_28 rfl rfl (Nat.le_of_ble_eq_true rfl) (by decide) rfl (Nat.le_refl _) (by omega) (by omega) (KNM_100 hM) ?_
    refine Ev.mono v ?_
    intro u h1 v
    obtain ⟨r1, rfl, v⟩ := ki_el v
    obtain ⟨hm1, v⟩ := v
    change Ev l D Y_M_caller _ _ _ 31 [some (vr 100), some (vi x1), some (vi x2), some (vi x3)] [vi r1] _ _
    obtain ⟨vt, vf⟩ := v
    refine a_if_eq (tgt := 46) d_M_caller_31 (by decide) (fun c => ?_) (fun c => ?_)
    · have v := vt (c); clear vt vf
      refine a_iinc (L' := [some (vr 100), some (vi x1), some (vi x2), some (vi (wr (x3 + (1 : Int))))]) d_M_caller_46 rfl (Nat.le_of_ble_eq_true rfl) rfl rfl ?_
      refine a_goto (tgt := 17) d_M_caller_49 (by decide) ?_
      exact v
    · have v := vf (c); clear vt vf
      refine a_aload_n d_M_caller_34 rfl ?_
      refine a_iload_n d_M_caller_35 rfl ?_
      refine a_iload_n d_M_caller_36 rfl ?_
      refine b_callV (as := [vi x1, vi x3]) (b := 100) (st := []) (kd := 12) (kc1 := 0) (ks1 := 0) (kc2 := kc) (ks2 := ks) (d' := d) ml_M_230 rfl d_M_caller_37 rfl rfl (Nat.le_of_ble_eq_true rfl) (by decide) rfl (Nat.le_refl _) (by omega) (by omega) (KNM_100 hm1) ?_
      refine Ev.mono v ?_
      intro u h2 v
      obtain ⟨r2, rfl, v⟩ := ki_el v
      obtain ⟨hm2, v⟩ := v
      change Ev l D Y_M_caller _ _ _ 40 [some (vr 100), some (vi x1), some (vi x2), some (vi x3)] [vi r2] _ _
      refine a_iload_n d_M_caller_40 rfl ?_
      obtain ⟨vt, vf⟩ := v
      refine a_icmp_ne (tgt := 46) d_M_caller_41 (by decide) (fun c => ?_) (fun c => ?_)
      · have v := vt (c); clear vt vf
        refine a_iinc (L' := [some (vr 100), some (vi x1), some (vi x2), some (vi (wr (x3 + (1 : Int))))]) d_M_caller_46 rfl (Nat.le_of_ble_eq_true rfl) rfl rfl ?_
        refine a_goto (tgt := 17) d_M_caller_49 (by decide) ?_
        exact v
      · have v := vf (Classical.not_not.mp c); clear vt vf
        refine a_iload_n d_M_caller_44 rfl ?_
        exact a_iret d_M_caller_45 rfl v
theorem d_M_findFar_0 : decode Y_M_findFar.2.1 0 = .ok (.iconst 0, 1) := by decide +kernel
theorem d_M_findFar_1 : decode Y_M_findFar.2.1 1 = .ok (.istore_n 2, 1) := by decide +kernel
theorem d_M_findFar_2 : decode Y_M_findFar.2.1 2 = .ok (.iload_n 2, 1) := by decide +kernel
theorem d_M_findFar_3 : decode Y_M_findFar.2.1 3 = .ok (.aload_n 0, 1) := by decide +kernel
theorem d_M_findFar_4 : decode Y_M_findFar.2.1 4 = .ok (.getfield 131, 3) := by decide +kernel
theorem d_M_findFar_7 : decode Y_M_findFar.2.1 7 = .ok (.if_icmp .ge 26, 3) := by decide +kernel
theorem d_M_findFar_10 : decode Y_M_findFar.2.1 10 = .ok (.aload_n 0, 1) := by decide +kernel
theorem d_M_findFar_11 : decode Y_M_findFar.2.1 11 = .ok (.getfield 89, 3) := by decide +kernel
theorem d_M_findFar_14 : decode Y_M_findFar.2.1 14 = .ok (.iload_n 2, 1) := by decide +kernel
theorem d_M_findFar_15 : decode Y_M_findFar.2.1 15 = .ok (.iload_n 2, 1) := by decide +kernel
theorem d_M_findFar_16 : decode Y_M_findFar.2.1 16 = .ok (.iload_n 1, 1) := by decide +kernel
theorem d_M_findFar_17 : decode Y_M_findFar.2.1 17 = .ok (.if_icmp .ne 7, 3) := by decide +kernel
theorem d_M_findFar_20 : decode Y_M_findFar.2.1 20 = .ok (.iconst 0, 1) := by decide +kernel
theorem d_M_findFar_21 : decode Y_M_findFar.2.1 21 = .ok (.goto 5, 3) := by decide +kernel
theorem d_M_findFar_24 : decode Y_M_findFar.2.1 24 = .ok (.bipush 99, 2) := by decide +kernel
theorem d_M_findFar_26 : decode Y_M_findFar.2.1 26 = .ok (.iastore, 1) := by decide +kernel
theorem d_M_findFar_27 : decode Y_M_findFar.2.1 27 = .ok (.iinc 2 1, 3) := by decide +kernel
theorem d_M_findFar_30 : decode Y_M_findFar.2.1 30 = .ok (.goto (-28), 3) := by decide +kernel
theorem d_M_findFar_33 : decode Y_M_findFar.2.1 33 = .ok (.iconst 1, 1) := by decide +kernel
theorem d_M_findFar_34 : decode Y_M_findFar.2.1 34 = .ok (.istore_n 2, 1) := by decide +kernel
theorem d_M_findFar_35 : decode Y_M_findFar.2.1 35 = .ok (.iload_n 2, 1) := by decide +kernel
theorem d_M_findFar_36 : decode Y_M_findFar.2.1 36 = .ok (.ifCond .eq 87, 3) := by decide +kernel
theorem d_M_findFar_39 : decode Y_M_findFar.2.1 39 = .ok (.iconst 0, 1) := by decide +kernel
theorem d_M_findFar_40 : decode Y_M_findFar.2.1 40 = .ok (.istore_n 2, 1) := by decide +kernel
theorem d_M_findFar_41 : decode Y_M_findFar.2.1 41 = .ok (.iconst 0, 1) := by decide +kernel
theorem d_M_findFar_42 : decode Y_M_findFar.2.1 42 = .ok (.istore_n 3, 1) := by decide +kernel
theorem d_M_findFar_43 : decode Y_M_findFar.2.1 43 = .ok (.iload_n 3, 1) := by decide +kernel
theorem d_M_findFar_44 : decode Y_M_findFar.2.1 44 = .ok (.aload_n 0, 1) := by decide +kernel
theorem d_M_findFar_45 : decode Y_M_findFar.2.1 45 = .ok (.getfield 131, 3) := by decide +kernel
theorem d_M_findFar_48 : decode Y_M_findFar.2.1 48 = .ok (.if_icmp .ge 72, 3) := by decide +kernel
theorem d_M_findFar_51 : decode Y_M_findFar.2.1 51 = .ok (.iconst 0, 1) := by decide +kernel
theorem d_M_findFar_52 : decode Y_M_findFar.2.1 52 = .ok (.istore 4, 2) := by decide +kernel
theorem d_M_findFar_54 : decode Y_M_findFar.2.1 54 = .ok (.iload 4, 2) := by decide +kernel
theorem d_M_findFar_56 : decode Y_M_findFar.2.1 56 = .ok (.aload_n 0, 1) := by decide +kernel
theorem d_M_findFar_57 : decode Y_M_findFar.2.1 57 = .ok (.getfield 131, 3) := by decide +kernel
theorem d_M_findFar_60 : decode Y_M_findFar.2.1 60 = .ok (.if_icmp .ge 54, 3) := by decide +kernel
theorem d_M_findFar_63 : decode Y_M_findFar.2.1 63 = .ok (.aload_n 0, 1) := by decide +kernel
theorem d_M_findFar_64 : decode Y_M_findFar.2.1 64 = .ok (.getfield 89, 3) := by decide +kernel
theorem d_M_findFar_67 : decode Y_M_findFar.2.1 67 = .ok (.iload 4, 2) := by decide +kernel
theorem d_M_findFar_69 : decode Y_M_findFar.2.1 69 = .ok (.iaload, 1) := by decide +kernel
theorem d_M_findFar_70 : decode Y_M_findFar.2.1 70 = .ok (.iconst 1, 1) := by decide +kernel
theorem d_M_findFar_71 : decode Y_M_findFar.2.1 71 = .ok (.iadd, 1) := by decide +kernel
theorem d_M_findFar_72 : decode Y_M_findFar.2.1 72 = .ok (.aload_n 0, 1) := by decide +kernel
theorem d_M_findFar_73 : decode Y_M_findFar.2.1 73 = .ok (.getfield 89, 3) := by decide +kernel
theorem d_M_findFar_76 : decode Y_M_findFar.2.1 76 = .ok (.iload_n 3, 1) := by decide +kernel
theorem d_M_findFar_77 : decode Y_M_findFar.2.1 77 = .ok (.iaload, 1) := by decide +kernel
theorem d_M_findFar_78 : decode Y_M_findFar.2.1 78 = .ok (.if_icmp .ge 30, 3) := by decide +kernel
theorem d_M_findFar_81 : decode Y_M_findFar.2.1 81 = .ok (.aload_n 0, 1) := by decide +kernel
theorem d_M_findFar_82 : decode Y_M_findFar.2.1 82 = .ok (.iload_n 3, 1) := by decide +kernel
theorem d_M_findFar_83 : decode Y_M_findFar.2.1 83 = .ok (.iload 4, 2) := by decide +kernel
theorem d_M_findFar_85 : decode Y_M_findFar.2.1 85 = .ok (.invokevirtual 224, 3) := by decide +kernel
theorem d_M_findFar_88 : decode Y_M_findFar.2.1 88 = .ok (.ifCond .eq 20, 3) := by decide +kernel
theorem d_M_findFar_91 : decode Y_M_findFar.2.1 91 = .ok (.aload_n 0, 1) := by decide +kernel
theorem d_M_findFar_92 : decode Y_M_findFar.2.1 92 = .ok (.getfield 89, 3) := by decide +kernel
theorem d_M_findFar_95 : decode Y_M_findFar.2.1 95 = .ok (.iload_n 3, 1) := by decide +kernel
theorem d_M_findFar_96 : decode Y_M_findFar.2.1 96 = .ok (.aload_n 0, 1) := by decide +kernel
theorem d_M_findFar_97 : decode Y_M_findFar.2.1 97 = .ok (.getfield 89, 3) := by decide +kernel
theorem d_M_findFar_100 : decode Y_M_findFar.2.1 100 = .ok (.iload 4, 2) := by decide +kernel
theorem d_M_findFar_102 : decode Y_M_findFar.2.1 102 = .ok (.iaload, 1) := by decide +kernel
theorem d_M_findFar_103 : decode Y_M_findFar.2.1 103 = .ok (.iconst 1, 1) := by decide +kernel
theorem d_M_findFar_104 : decode Y_M_findFar.2.1 104 = .ok (.iadd, 1) := by decide +kernel
theorem d_M_findFar_105 : decode Y_M_findFar.2.1 105 = .ok (.iastore, 1) := by decide +kernel
theorem d_M_findFar_106 : decode Y_M_findFar.2.1 106 = .ok (.iconst 1, 1) := by decide +kernel
theorem d_M_findFar_107 : decode Y_M_findFar.2.1 107 = .ok (.istore_n 2, 1) := by decide +kernel
theorem d_M_findFar_108 : decode Y_M_findFar.2.1 108 = .ok (.iinc 4 1, 3) := by decide +kernel
theorem d_M_findFar_111 : decode Y_M_findFar.2.1 111 = .ok (.goto (-57), 3) := by decide +kernel
theorem d_M_findFar_114 : decode Y_M_findFar.2.1 114 = .ok (.iinc 3 1, 3) := by decide +kernel
theorem d_M_findFar_117 : decode Y_M_findFar.2.1 117 = .ok (.goto (-74), 3) := by decide +kernel
theorem d_M_findFar_120 : decode Y_M_findFar.2.1 120 = .ok (.goto (-85), 3) := by decide +kernel
theorem d_M_findFar_123 : decode Y_M_findFar.2.1 123 = .ok (.return_, 1) := by decide +kernel
theorem m_M_findFar_0 {l : Launch} {D : DD} {d kc ks : Nat} {h : Hp} {Φ : Option AV → Hp → Prop} {x1 : Int} (hM : MS h) (v : Ev l D Y_M_findFar (d + 1) kc ks 2 [some (vr 100), some (vi x1), some (vi (0 : Int)), none, none] [] h Φ) : Ev l D Y_M_findFar (d + 1) kc ks 0 [some (vr 100), some (vi x1), none, none, none] [] h Φ := by
  refine a_iconst d_M_findFar_0 ⟨by decide, by decide⟩ ?_
  refine a_istore_n (L' := [some (vr 100), some (vi x1), some (vi (0 : Int)), none, none]) d_M_findFar_1 (Nat.le_of_ble_eq_true rfl) rfl rfl ?_
  exact v
theorem m_M_findFar_2 {l : Launch} {D : DD} {d kc ks : Nat} {h : Hp} {Φ : Option AV → Hp → Prop} {x1 : Int} {x2 : Int} (hM : MS h) (v : (x2 ≥ xI h 100 5 → (Ev l D Y_M_findFar (d + 1) kc ks 35 [some (vr 100), some (vi x1), some (vi (1 : Int)), none, none] [] h Φ)) ∧ (x2 < xI h 100 5 → ((¬ x2 = x1 → (0 ≤ x2 ∧ x2 < 48 ∧ (∀ h1 : Hp, h1 = sI h 133 (x2).toNat (99 : Int) → (Ev l D Y_M_findFar (d + 1) kc ks 2 [some (vr 100), some (vi x1), some (vi (wr (x2 + (1 : Int)))), none, none] [] h1 Φ)))) ∧ (x2 = x1 → (0 ≤ x2 ∧ x2 < 48 ∧ (∀ h2 : Hp, h2 = sI h 133 (x2).toNat (0 : Int) → (Ev l D Y_M_findFar (d + 1) kc ks 2 [some (vr 100), some (vi x1), some (vi (wr (x2 + (1 : Int)))), none, none] [] h2 Φ))))))) : Ev l D Y_M_findFar (d + 1) kc ks 2 [some (vr 100), some (vi x1), some (vi x2), none, none] [] h Φ := by
  refine a_iload_n d_M_findFar_2 rfl ?_
  refine a_aload_n d_M_findFar_3 rfl ?_
  refine a_getI fl_M_131 d_M_findFar_4 (beq_iff_eq.mpr (KNM_100 hM)) ?_
  obtain ⟨vt, vf⟩ := v
  refine a_icmp_ge (tgt := 33) d_M_findFar_7 (by decide) (fun c => ?_) (fun c => ?_)
  · have v := vt (c); clear vt vf
    refine a_iconst d_M_findFar_33 ⟨by decide, by decide⟩ ?_
    refine a_istore_n (L' := [some (vr 100), some (vi x1), some (vi (1 : Int)), none, none]) d_M_findFar_34 (Nat.le_of_ble_eq_true rfl) rfl rfl ?_
    exact v
  · have v := vf (Int.not_le.mp c); clear vt vf
    refine a_aload_n d_M_findFar_10 rfl ?_
    refine a_getAe fl_M_89 d_M_findFar_11 (beq_iff_eq.mpr (KNM_100 hM)) (KRM_100_32 hM) ?_
    refine a_iload_n d_M_findFar_14 rfl ?_
    refine a_iload_n d_M_findFar_15 rfl ?_
    refine a_iload_n d_M_findFar_16 rfl ?_
    obtain ⟨vt, vf⟩ := v
    refine a_icmp_ne (tgt := 24) d_M_findFar_17 (by decide) (fun c => ?_) (fun c => ?_)
    · have v := vt (c); clear vt vf
      refine a_bipush d_M_findFar_24 ⟨by decide, by decide⟩ (by decide) ?_
      obtain ⟨c3, c4, v⟩ := v
      have v := v _ rfl
      refine a_iast d_M_findFar_26 (KNM_133 hM) (by decide) c3 (lt_len (NNM_133 hM) c4) ?_
      refine a_iinc (L' := [some (vr 100), some (vi x1), some (vi (wr (x2 + (1 : Int)))), none, none]) d_M_findFar_27 rfl (Nat.le_of_ble_eq_true rfl) rfl rfl ?_
      refine a_goto (tgt := 2) d_M_findFar_30 (by decide) ?_
      exact v
    · have v := vf (Classical.not_not.mp c); clear vt vf
      refine a_iconst d_M_findFar_20 ⟨by decide, by decide⟩ ?_
      refine a_goto (tgt := 26) d_M_findFar_21 (by decide) ?_
      obtain ⟨c7, c8, v⟩ := v
      have v := v _ rfl
      refine a_iast d_M_findFar_26 (KNM_133 hM) (by decide) c7 (lt_len (NNM_133 hM) c8) ?_
      refine a_iinc (L' := [some (vr 100), some (vi x1), some (vi (wr (x2 + (1 : Int)))), none, none]) d_M_findFar_27 rfl (Nat.le_of_ble_eq_true rfl) rfl rfl ?_
      refine a_goto (tgt := 2) d_M_findFar_30 (by decide) ?_
      exact v
theorem m_M_findFar_35 {l : Launch} {D : DD} {d kc ks : Nat} {h : Hp} {Φ : Option AV → Hp → Prop} {x1 : Int} {x2 : Int} (hM : MS h) (v : (x2 = 0 → (Φ none h)) ∧ (¬ x2 = 0 → (Ev l D Y_M_findFar (d + 1) kc ks 43 [some (vr 100), some (vi x1), some (vi (0 : Int)), some (vi (0 : Int)), none] [] h Φ))) : Ev l D Y_M_findFar (d + 1) kc ks 35 [some (vr 100), some (vi x1), some (vi x2), none, none] [] h Φ := by
  refine a_iload_n d_M_findFar_35 rfl ?_
  obtain ⟨vt, vf⟩ := v
  refine a_if_eq (tgt := 123) d_M_findFar_36 (by decide) (fun c => ?_) (fun c => ?_)
  · have v := vt (c); clear vt vf
    exact a_vret d_M_findFar_123 rfl v
  · have v := vf (c); clear vt vf
    refine a_iconst d_M_findFar_39 ⟨by decide, by decide⟩ ?_
    refine a_istore_n (L' := [some (vr 100), some (vi x1), some (vi (0 : Int)), none, none]) d_M_findFar_40 (Nat.le_of_ble_eq_true rfl) rfl rfl ?_
    refine a_iconst d_M_findFar_41 ⟨by decide, by decide⟩ ?_
    refine a_istore_n (L' := [some (vr 100), some (vi x1), some (vi (0 : Int)), some (vi (0 : Int)), none]) d_M_findFar_42 (Nat.le_of_ble_eq_true rfl) rfl rfl ?_
    exact v
theorem m_M_findFar_43 {l : Launch} {D : DD} {d kc ks : Nat} {h : Hp} {Φ : Option AV → Hp → Prop} {x1 : Int} {x2 : Int} {x3 : Int} (hM : MS h) (v : (x3 ≥ xI h 100 5 → (Ev l D Y_M_findFar (d + 1) kc ks 35 [some (vr 100), some (vi x1), some (vi x2), none, none] [] h Φ)) ∧ (x3 < xI h 100 5 → (Ev l D Y_M_findFar (d + 1) kc ks 54 [some (vr 100), some (vi x1), some (vi x2), some (vi x3), some (vi (0 : Int))] [] h Φ))) : Ev l D Y_M_findFar (d + 1) kc ks 43 [some (vr 100), some (vi x1), some (vi x2), some (vi x3), none] [] h Φ := by
  refine a_iload_n d_M_findFar_43 rfl ?_
  refine a_aload_n d_M_findFar_44 rfl ?_
  refine a_getI fl_M_131 d_M_findFar_45 (beq_iff_eq.mpr (KNM_100 hM)) ?_
  obtain ⟨vt, vf⟩ := v
  refine a_icmp_ge (tgt := 120) d_M_findFar_48 (by decide) (fun c => ?_) (fun c => ?_)
  · have v := vt (c); clear vt vf
    refine a_goto (tgt := 35) d_M_findFar_120 (by decide) ?_
    exact Ev.weak v ⟨rfl, rfl, rfl, trivial⟩
  · have v := vf (Int.not_le.mp c); clear vt vf
    refine a_iconst d_M_findFar_51 ⟨by decide, by decide⟩ ?_
    refine a_istore (L' := [some (vr 100), some (vi x1), some (vi x2), some (vi x3), some (vi (0 : Int))]) d_M_findFar_52 (Nat.le_of_ble_eq_true rfl) rfl rfl ?_
    exact v
theorem m_M_findFar_54 {l : Launch} {D : DD} {d kc ks : Nat} {h : Hp} {Φ : Option AV → Hp → Prop} {x1 : Int} {x2 : Int} {x3 : Int} {x4 : Int} (hM : MS h) (v : (x4 ≥ xI h 100 5 → (Ev l D Y_M_findFar (d + 1) kc ks 43 [some (vr 100), some (vi x1), some (vi x2), some (vi (wr (x3 + (1 : Int)))), none] [] h Φ)) ∧ (x4 < xI h 100 5 → (0 ≤ x4 ∧ x4 < 48 ∧ (0 ≤ x3 ∧ x3 < 48 ∧ ((wr ((xI h 133 (x4).toNat) + (1 : Int)) ≥ xI h 133 (x3).toNat → (Ev l D Y_M_findFar (d + 1) kc ks 54 [some (vr 100), some (vi x1), some (vi x2), some (vi x3), some (vi (wr (x4 + (1 : Int))))] [] h Φ)) ∧ (wr ((xI h 133 (x4).toNat) + (1 : Int)) < xI h 133 (x3).toNat → (Ev l D Y_M_isCallee d 0 0 0 [some (vr 100), some (vi x3), some (vi x4)] [] h (ki (fun r1 h1 => MS h1 ∧ ((r1 = 0 → (Ev l D Y_M_findFar (d + 1) kc ks 54 [some (vr 100), some (vi x1), some (vi x2), some (vi x3), some (vi (wr (x4 + (1 : Int))))] [] h1 Φ)) ∧ (¬ r1 = 0 → (0 ≤ x4 ∧ x4 < 48 ∧ (0 ≤ x3 ∧ x3 < 48 ∧ (∀ h2 : Hp, h2 = sI h1 133 (x3).toNat (wr ((xI h1 133 (x4).toNat) + (1 : Int))) → (Ev l D Y_M_findFar (d + 1) kc ks 54 [some (vr 100), some (vi x1), some (vi (1 : Int)), some (vi x3), some (vi (wr (x4 + (1 : Int))))] [] h2 Φ))))))))))))))) : Ev l D Y_M_findFar (d + 1) kc ks 54 [some (vr 100), some (vi x1), some (vi x2), some (vi x3), some (vi x4)] [] h Φ := by
  refine a_iload d_M_findFar_54 rfl ?_
  refine a_aload_n d_M_findFar_56 rfl ?_
  refine a_getI fl_M_131 d_M_findFar_57 (beq_iff_eq.mpr (KNM_100 hM)) ?_
  obtain ⟨vt, vf⟩ := v
  refine a_icmp_ge (tgt := 114) d_M_findFar_60 (by decide) (fun c => ?_) (fun c => ?_)
  · have v := vt (c); clear vt vf
    refine a_iinc (L' := [some (vr 100), some (vi x1), some (vi x2), some (vi (wr (x3 + (1 : Int)))), some (vi x4)]) d_M_findFar_114 rfl (Nat.le_of_ble_eq_true rfl) rfl rfl ?_
    refine a_goto (tgt := 43) d_M_findFar_117 (by decide) ?_
    exact Ev.weak v ⟨rfl, rfl, rfl, rfl, trivial⟩
  · have v := vf (Int.not_le.mp c); clear vt vf
    refine a_aload_n d_M_findFar_63 rfl ?_
    refine a_getAe fl_M_89 d_M_findFar_64 (beq_iff_eq.mpr (KNM_100 hM)) (KRM_100_32 hM) ?_
    refine a_iload d_M_findFar_67 rfl ?_
    obtain ⟨c2, c3, v⟩ := v
    refine a_iald d_M_findFar_69 (Or.inl (KNM_133 hM)) c2 (lt_len (NNM_133 hM) c3) ?_
    refine a_iconst d_M_findFar_70 ⟨by decide, by decide⟩ ?_
    refine a_iadd d_M_findFar_71 ?_
    refine a_aload_n d_M_findFar_72 rfl ?_
    refine a_getAe fl_M_89 d_M_findFar_73 (beq_iff_eq.mpr (KNM_100 hM)) (KRM_100_32 hM) ?_
    refine a_iload_n d_M_findFar_76 rfl ?_
    obtain ⟨c5, c6, v⟩ := v
    refine a_iald d_M_findFar_77 (Or.inl (KNM_133 hM)) c5 (lt_len (NNM_133 hM) c6) ?_
    obtain ⟨vt, vf⟩ := v
    refine a_icmp_ge (tgt := 108) d_M_findFar_78 (by decide) (fun c => ?_) (fun c => ?_)
    · have v := vt (c); clear vt vf
      refine a_iinc (L' := [some (vr 100), some (vi x1), some (vi x2), some (vi x3), some (vi (wr (x4 + (1 : Int))))]) d_M_findFar_108 rfl (Nat.le_of_ble_eq_true rfl) rfl rfl ?_
      refine a_goto (tgt := 54) d_M_findFar_111 (by decide) ?_
      exact v
    · have v := vf (Int.not_le.mp c); clear vt vf
      refine a_aload_n d_M_findFar_81 rfl ?_
      refine a_iload_n d_M_findFar_82 rfl ?_
      refine a_iload d_M_findFar_83 rfl ?_
      refine b_callV (as := [vi x3, vi x4]) (b := 100) (st := []) (kd := 12) (kc1 := 0) (ks1 := 0) (kc2 := kc) (ks2 := ks) (d' := d) ml_M_224 rfl d_M_findFar_85 rfl rfl (Nat.le_of_ble_eq_true rfl) (by decide) rfl (Nat.le_refl _) (by omega) (by omega) (KNM_100 hM) ?_
      refine Ev.mono v ?_
      intro u h1 v
      obtain ⟨r1, rfl, v⟩ := ki_el v
      obtain ⟨hm1, v⟩ := v
      change Ev l D Y_M_findFar _ _ _ 88 [some (vr 100), some (vi x1), some (vi x2), some (vi x3), some (vi x4)] [vi r1] _ _
      obtain ⟨vt, vf⟩ := v
      refine a_if_eq (tgt := 108) d_M_findFar_88 (by decide) (fun c => ?_) (fun c => ?_)
      · have v := vt (c); clear vt vf
        refine a_iinc (L' := [some (vr 100), some (vi x1), some (vi x2), some (vi x3), some (vi (wr (x4 + (1 : Int))))]) d_M_findFar_108 rfl (Nat.le_of_ble_eq_true rfl) rfl rfl ?_
        refine a_goto (tgt := 54) d_M_findFar_111 (by decide) ?_
        exact v
      · have v := vf (c); clear vt vf
        refine a_aload_n d_M_findFar_91 rfl ?_
        refine a_getAe fl_M_89 d_M_findFar_92 (beq_iff_eq.mpr (KNM_100 hm1)) (KRM_100_32 hm1) ?_
        refine a_iload_n d_M_findFar_95 rfl ?_
        refine a_aload_n d_M_findFar_96 rfl ?_
        refine a_getAe fl_M_89 d_M_findFar_97 (beq_iff_eq.mpr (KNM_100 hm1)) (KRM_100_32 hm1) ?_
        refine a_iload d_M_findFar_100 rfl ?_
        obtain ⟨c8, c9, v⟩ := v
        refine a_iald d_M_findFar_102 (Or.inl (KNM_133 hm1)) c8 (lt_len (NNM_133 hm1) c9) ?_
        refine a_iconst d_M_findFar_103 ⟨by decide, by decide⟩ ?_
        refine a_iadd d_M_findFar_104 ?_
        obtain ⟨c12, c13, v⟩ := v
        have v := v _ rfl
        refine a_iast d_M_findFar_105 (KNM_133 hm1) (by decide) c12 (lt_len (NNM_133 hm1) c13) ?_
        refine a_iconst d_M_findFar_106 ⟨by decide, by decide⟩ ?_
        refine a_istore_n (L' := [some (vr 100), some (vi x1), some (vi (1 : Int)), some (vi x3), some (vi x4)]) d_M_findFar_107 (Nat.le_of_ble_eq_true rfl) rfl rfl ?_
        refine a_iinc (L' := [some (vr 100), some (vi x1), some (vi (1 : Int)), some (vi x3), some (vi (wr (x4 + (1 : Int))))]) d_M_findFar_108 rfl (Nat.le_of_ble_eq_true rfl) rfl rfl ?_
        refine a_goto (tgt := 54) d_M_findFar_111 (by decide) ?_
        exact v
theorem d_M_way_0 : decode Y_M_way.2.1 0 = .ok (.aload_n 0, 1) := by decide +kernel
theorem d_M_way_1 : decode Y_M_way.2.1 1 = .ok (.iload_n 1, 1) := by decide +kernel
theorem d_M_way_2 : decode Y_M_way.2.1 2 = .ok (.invokevirtual 156, 3) := by decide +kernel
theorem d_M_way_5 : decode Y_M_way.2.1 5 = .ok (.ifCond .ne 6, 3) := by decide +kernel
theorem d_M_way_8 : decode Y_M_way.2.1 8 = .ok (.bipush (-101), 2) := by decide +kernel
theorem d_M_way_10 : decode Y_M_way.2.1 10 = .ok (.ireturn, 1) := by decide +kernel
theorem d_M_way_11 : decode Y_M_way.2.1 11 = .ok (.aload_n 0, 1) := by decide +kernel
theorem d_M_way_12 : decode Y_M_way.2.1 12 = .ok (.invokevirtual 217, 3) := by decide +kernel
theorem d_M_way_15 : decode Y_M_way.2.1 15 = .ok (.aload_n 0, 1) := by decide +kernel
theorem d_M_way_16 : decode Y_M_way.2.1 16 = .ok (.getfield 50, 3) := by decide +kernel
theorem d_M_way_19 : decode Y_M_way.2.1 19 = .ok (.iload_n 1, 1) := by decide +kernel
theorem d_M_way_20 : decode Y_M_way.2.1 20 = .ok (.baload, 1) := by decide +kernel
theorem d_M_way_21 : decode Y_M_way.2.1 21 = .ok (.ifCond .eq 7, 3) := by decide +kernel
theorem d_M_way_24 : decode Y_M_way.2.1 24 = .ok (.iload_n 2, 1) := by decide +kernel
theorem d_M_way_25 : decode Y_M_way.2.1 25 = .ok (.ifCond .ge 5, 3) := by decide +kernel
theorem d_M_way_28 : decode Y_M_way.2.1 28 = .ok (.iconst (-1), 1) := by decide +kernel
theorem d_M_way_29 : decode Y_M_way.2.1 29 = .ok (.ireturn, 1) := by decide +kernel
theorem d_M_way_30 : decode Y_M_way.2.1 30 = .ok (.aload_n 0, 1) := by decide +kernel
theorem d_M_way_31 : decode Y_M_way.2.1 31 = .ok (.iload_n 1, 1) := by decide +kernel
theorem d_M_way_32 : decode Y_M_way.2.1 32 = .ok (.invokevirtual 236, 3) := by decide +kernel
theorem d_M_way_35 : decode Y_M_way.2.1 35 = .ok (.iconst (-1), 1) := by decide +kernel
theorem d_M_way_36 : decode Y_M_way.2.1 36 = .ok (.istore_n 3, 1) := by decide +kernel
theorem d_M_way_37 : decode Y_M_way.2.1 37 = .ok (.aload_n 0, 1) := by decide +kernel
theorem d_M_way_38 : decode Y_M_way.2.1 38 = .ok (.getfield 131, 3) := by decide +kernel
theorem d_M_way_41 : decode Y_M_way.2.1 41 = .ok (.iconst 1, 1) := by decide +kernel
theorem d_M_way_42 : decode Y_M_way.2.1 42 = .ok (.isub, 1) := by decide +kernel
theorem d_M_way_43 : decode Y_M_way.2.1 43 = .ok (.istore 4, 2) := by decide +kernel
theorem d_M_way_45 : decode Y_M_way.2.1 45 = .ok (.iload 4, 2) := by decide +kernel
theorem d_M_way_47 : decode Y_M_way.2.1 47 = .ok (.ifCond .lt 47, 3) := by decide +kernel
theorem d_M_way_50 : decode Y_M_way.2.1 50 = .ok (.aload_n 0, 1) := by decide +kernel
theorem d_M_way_51 : decode Y_M_way.2.1 51 = .ok (.getfield 31, 3) := by decide +kernel
theorem d_M_way_54 : decode Y_M_way.2.1 54 = .ok (.iload 4, 2) := by decide +kernel
theorem d_M_way_56 : decode Y_M_way.2.1 56 = .ok (.baload, 1) := by decide +kernel
theorem d_M_way_57 : decode Y_M_way.2.1 57 = .ok (.ifCond .eq 29, 3) := by decide +kernel
theorem d_M_way_60 : decode Y_M_way.2.1 60 = .ok (.iload_n 3, 1) := by decide +kernel
theorem d_M_way_61 : decode Y_M_way.2.1 61 = .ok (.iconst (-1), 1) := by decide +kernel
theorem d_M_way_62 : decode Y_M_way.2.1 62 = .ok (.if_icmp .eq 19, 3) := by decide +kernel
theorem d_M_way_65 : decode Y_M_way.2.1 65 = .ok (.aload_n 0, 1) := by decide +kernel
theorem d_M_way_66 : decode Y_M_way.2.1 66 = .ok (.getfield 89, 3) := by decide +kernel
theorem d_M_way_69 : decode Y_M_way.2.1 69 = .ok (.iload 4, 2) := by decide +kernel
theorem d_M_way_71 : decode Y_M_way.2.1 71 = .ok (.iaload, 1) := by decide +kernel
theorem d_M_way_72 : decode Y_M_way.2.1 72 = .ok (.aload_n 0, 1) := by decide +kernel
theorem d_M_way_73 : decode Y_M_way.2.1 73 = .ok (.getfield 89, 3) := by decide +kernel
theorem d_M_way_76 : decode Y_M_way.2.1 76 = .ok (.iload_n 3, 1) := by decide +kernel
theorem d_M_way_77 : decode Y_M_way.2.1 77 = .ok (.iaload, 1) := by decide +kernel
theorem d_M_way_78 : decode Y_M_way.2.1 78 = .ok (.if_icmp .gt 8, 3) := by decide +kernel
theorem d_M_way_81 : decode Y_M_way.2.1 81 = .ok (.iload 4, 2) := by decide +kernel
theorem d_M_way_83 : decode Y_M_way.2.1 83 = .ok (.goto 4, 3) := by decide +kernel
theorem d_M_way_86 : decode Y_M_way.2.1 86 = .ok (.iload_n 3, 1) := by decide +kernel
theorem d_M_way_87 : decode Y_M_way.2.1 87 = .ok (.istore_n 3, 1) := by decide +kernel
theorem d_M_way_88 : decode Y_M_way.2.1 88 = .ok (.iinc 4 (-1), 3) := by decide +kernel
theorem d_M_way_91 : decode Y_M_way.2.1 91 = .ok (.goto (-46), 3) := by decide +kernel
theorem d_M_way_94 : decode Y_M_way.2.1 94 = .ok (.iload_n 2, 1) := by decide +kernel
theorem d_M_way_95 : decode Y_M_way.2.1 95 = .ok (.aload_n 0, 1) := by decide +kernel
theorem d_M_way_96 : decode Y_M_way.2.1 96 = .ok (.getfield 89, 3) := by decide +kernel
theorem d_M_way_99 : decode Y_M_way.2.1 99 = .ok (.iload_n 3, 1) := by decide +kernel
theorem d_M_way_100 : decode Y_M_way.2.1 100 = .ok (.iaload, 1) := by decide +kernel
theorem d_M_way_101 : decode Y_M_way.2.1 101 = .ok (.if_icmp .le 5, 3) := by decide +kernel
theorem d_M_way_104 : decode Y_M_way.2.1 104 = .ok (.iconst (-1), 1) := by decide +kernel
theorem d_M_way_105 : decode Y_M_way.2.1 105 = .ok (.ireturn, 1) := by decide +kernel
theorem d_M_way_106 : decode Y_M_way.2.1 106 = .ok (.iconst 0, 1) := by decide +kernel
theorem d_M_way_107 : decode Y_M_way.2.1 107 = .ok (.istore 4, 2) := by decide +kernel
theorem d_M_way_109 : decode Y_M_way.2.1 109 = .ok (.iload 4, 2) := by decide +kernel
theorem d_M_way_111 : decode Y_M_way.2.1 111 = .ok (.iload_n 2, 1) := by decide +kernel
theorem d_M_way_112 : decode Y_M_way.2.1 112 = .ok (.if_icmp .ge 71, 3) := by decide +kernel
theorem d_M_way_115 : decode Y_M_way.2.1 115 = .ok (.iconst (-1), 1) := by decide +kernel
theorem d_M_way_116 : decode Y_M_way.2.1 116 = .ok (.istore 5, 2) := by decide +kernel
theorem d_M_way_118 : decode Y_M_way.2.1 118 = .ok (.aload_n 0, 1) := by decide +kernel
theorem d_M_way_119 : decode Y_M_way.2.1 119 = .ok (.getfield 131, 3) := by decide +kernel
theorem d_M_way_122 : decode Y_M_way.2.1 122 = .ok (.iconst 1, 1) := by decide +kernel
theorem d_M_way_123 : decode Y_M_way.2.1 123 = .ok (.isub, 1) := by decide +kernel
theorem d_M_way_124 : decode Y_M_way.2.1 124 = .ok (.istore 6, 2) := by decide +kernel
theorem d_M_way_126 : decode Y_M_way.2.1 126 = .ok (.iload 6, 2) := by decide +kernel
theorem d_M_way_128 : decode Y_M_way.2.1 128 = .ok (.ifCond .lt 46, 3) := by decide +kernel
theorem d_M_way_131 : decode Y_M_way.2.1 131 = .ok (.aload_n 0, 1) := by decide +kernel
theorem d_M_way_132 : decode Y_M_way.2.1 132 = .ok (.getfield 89, 3) := by decide +kernel
theorem d_M_way_135 : decode Y_M_way.2.1 135 = .ok (.iload 6, 2) := by decide +kernel
theorem d_M_way_137 : decode Y_M_way.2.1 137 = .ok (.iaload, 1) := by decide +kernel
theorem d_M_way_138 : decode Y_M_way.2.1 138 = .ok (.aload_n 0, 1) := by decide +kernel
theorem d_M_way_139 : decode Y_M_way.2.1 139 = .ok (.getfield 89, 3) := by decide +kernel
theorem d_M_way_142 : decode Y_M_way.2.1 142 = .ok (.iload_n 3, 1) := by decide +kernel
theorem d_M_way_143 : decode Y_M_way.2.1 143 = .ok (.iaload, 1) := by decide +kernel
theorem d_M_way_144 : decode Y_M_way.2.1 144 = .ok (.iconst 1, 1) := by decide +kernel
theorem d_M_way_145 : decode Y_M_way.2.1 145 = .ok (.isub, 1) := by decide +kernel
theorem d_M_way_146 : decode Y_M_way.2.1 146 = .ok (.if_icmp .ne 18, 3) := by decide +kernel
theorem d_M_way_149 : decode Y_M_way.2.1 149 = .ok (.aload_n 0, 1) := by decide +kernel
theorem d_M_way_150 : decode Y_M_way.2.1 150 = .ok (.iload_n 3, 1) := by decide +kernel
theorem d_M_way_151 : decode Y_M_way.2.1 151 = .ok (.iload 6, 2) := by decide +kernel
theorem d_M_way_153 : decode Y_M_way.2.1 153 = .ok (.invokevirtual 224, 3) := by decide +kernel
theorem d_M_way_156 : decode Y_M_way.2.1 156 = .ok (.ifCond .eq 8, 3) := by decide +kernel
theorem d_M_way_159 : decode Y_M_way.2.1 159 = .ok (.iload 6, 2) := by decide +kernel
theorem d_M_way_161 : decode Y_M_way.2.1 161 = .ok (.goto 5, 3) := by decide +kernel
theorem d_M_way_164 : decode Y_M_way.2.1 164 = .ok (.iload 5, 2) := by decide +kernel
theorem d_M_way_166 : decode Y_M_way.2.1 166 = .ok (.istore 5, 2) := by decide +kernel
theorem d_M_way_168 : decode Y_M_way.2.1 168 = .ok (.iinc 6 (-1), 3) := by decide +kernel
theorem d_M_way_171 : decode Y_M_way.2.1 171 = .ok (.goto (-45), 3) := by decide +kernel
theorem d_M_way_174 : decode Y_M_way.2.1 174 = .ok (.iload 5, 2) := by decide +kernel
theorem d_M_way_176 : decode Y_M_way.2.1 176 = .ok (.istore_n 3, 1) := by decide +kernel
theorem d_M_way_177 : decode Y_M_way.2.1 177 = .ok (.iinc 4 1, 3) := by decide +kernel
theorem d_M_way_180 : decode Y_M_way.2.1 180 = .ok (.goto (-71), 3) := by decide +kernel
theorem d_M_way_183 : decode Y_M_way.2.1 183 = .ok (.iload_n 3, 1) := by decide +kernel
theorem d_M_way_184 : decode Y_M_way.2.1 184 = .ok (.ireturn, 1) := by decide +kernel
theorem m_M_way_0 {l : Launch} {D : DD} {d kc ks : Nat} {h : Hp} {Φ : Option AV → Hp → Prop} {x1 : Int} {x2 : Int} (hM : MS h) (v : Ev l D Y_M_isMember d 0 0 0 [some (vr 100), some (vi x1)] [] h (ki (fun r1 h1 => MS h1 ∧ ((¬ r1 = 0 → (Ev l D Y_M_freshen d 0 0 0 [some (vr 100), none, none] [] h1 (kv (fun h2 => MS h2 ∧ (0 ≤ x1 ∧ x1 < 48 ∧ ((xI h2 119 (x1).toNat = 0 → (Φ (some (vi (-1 : Int))) h2)) ∧ (¬ xI h2 119 (x1).toNat = 0 → ((x2 ≥ 0 → (Ev l D Y_M_findFar d 0 0 0 [some (vr 100), some (vi x1), none, none, none] [] h2 (kv (fun h3 => MS h3 ∧ (Ev l D Y_M_way (d + 1) kc ks 45 [some (vr 100), some (vi x1), some (vi x2), some (vi (-1 : Int)), some (vi (wr ((xI h3 100 5) - (1 : Int)))), none, none] [] h3 Φ))))) ∧ (x2 < 0 → (Φ (some (vi (-1 : Int))) h2)))))))))) ∧ (r1 = 0 → (Φ (some (vi (-101 : Int))) h1)))))) : Ev l D Y_M_way (d + 1) kc ks 0 [some (vr 100), some (vi x1), some (vi x2), none, none, none, none] [] h Φ := by
  refine a_aload_n d_M_way_0 rfl ?_
  refine a_iload_n d_M_way_1 rfl ?_
  refine b_callV (as := [vi x1]) (b := 100) (st := []) (kd := 12) (kc1 := 0) (ks1 := 0) (kc2 := kc) (ks2 := ks) (d' := d) ml_M_156 rfl d_M_way_2 rfl rfl (Nat.le_of_ble_eq_true rfl) (by decide) rfl (Nat.le_refl _) (by omega) (by omega) (KNM_100 hM) ?_
  refine Ev.mono v ?_
  intro u h1 v
  obtain ⟨r1, rfl, v⟩ := ki_el v
  obtain ⟨hm1, v⟩ := v
  change Ev l D Y_M_way _ _ _ 5 [some (vr 100), some (vi x1), some (vi x2), none, none, none, none] [vi r1] _ _
  obtain ⟨vt, vf⟩ := v
  refine a_if_ne (tgt := 11) d_M_way_5 (by decide) (fun c => ?_) (fun c => ?_)
  · have v := vt (c); clear vt vf
    refine a_aload_n d_M_way_11 rfl ?_
    refine b_callV (as := []) (b := 100) (st := []) (kd := 12) (kc1 := 0) (ks1 := 0) (kc2 := kc) (ks2 := ks) (d' := d) ml_M_217 rfl d_M_way_12 rfl rfl (Nat.le_of_ble_eq_true rfl) (by decide) rfl (Nat.le_refl _) (by omega) (by omega) (KNM_100 hm1) ?_
    refine Ev.mono v ?_
    intro u h2 v
    obtain ⟨rfl, v⟩ := kv_el v
    obtain ⟨hm2, v⟩ := v
    change Ev l D Y_M_way _ _ _ 15 [some (vr 100), some (vi x1), some (vi x2), none, none, none, none] [] _ _
    refine a_aload_n d_M_way_15 rfl ?_
    refine a_getAe fl_M_50 d_M_way_16 (beq_iff_eq.mpr (KNM_100 hm2)) (KRM_100_18 hm2) ?_
    refine a_iload_n d_M_way_19 rfl ?_
    obtain ⟨c2, c3, v⟩ := v
    refine a_zald d_M_way_20 (KNM_119 hm2) c2 (lt_len (NNM_119 hm2) c3) ?_
    obtain ⟨vt, vf⟩ := v
    refine a_if_eq (tgt := 28) d_M_way_21 (by decide) (fun c => ?_) (fun c => ?_)
    · have v := vt (c); clear vt vf
      refine a_iconst d_M_way_28 ⟨by decide, by decide⟩ ?_
      exact a_iret d_M_way_29 rfl v
    · have v := vf (c); clear vt vf
      refine a_iload_n d_M_way_24 rfl ?_
      obtain ⟨vt, vf⟩ := v
      refine a_if_ge (tgt := 30) d_M_way_25 (by decide) (fun c => ?_) (fun c => ?_)
      · have v := vt (c); clear vt vf
        refine a_aload_n d_M_way_30 rfl ?_
        refine a_iload_n d_M_way_31 rfl ?_
        refine b_callV (as := [vi x1]) (b := 100) (st := []) (kd := 12) (kc1 := 0) (ks1 := 0) (kc2 := kc) (ks2 := ks) (d' := d) ml_M_236 rfl d_M_way_32 rfl rfl (Nat.le_of_ble_eq_true rfl) (by decide) rfl (Nat.le_refl _) (by omega) (by omega) (KNM_100 hm2) ?_
        refine Ev.mono v ?_
        intro u h3 v
        obtain ⟨rfl, v⟩ := kv_el v
        obtain ⟨hm3, v⟩ := v
        change Ev l D Y_M_way _ _ _ 35 [some (vr 100), some (vi x1), some (vi x2), none, none, none, none] [] _ _
        refine a_iconst d_M_way_35 ⟨by decide, by decide⟩ ?_
        refine a_istore_n (L' := [some (vr 100), some (vi x1), some (vi x2), some (vi (-1 : Int)), none, none, none]) d_M_way_36 (Nat.le_of_ble_eq_true rfl) rfl rfl ?_
        refine a_aload_n d_M_way_37 rfl ?_
        refine a_getI fl_M_131 d_M_way_38 (beq_iff_eq.mpr (KNM_100 hm3)) ?_
        refine a_iconst d_M_way_41 ⟨by decide, by decide⟩ ?_
        refine a_isub d_M_way_42 ?_
        refine a_istore (L' := [some (vr 100), some (vi x1), some (vi x2), some (vi (-1 : Int)), some (vi (wr ((xI h3 100 5) - (1 : Int)))), none, none]) d_M_way_43 (Nat.le_of_ble_eq_true rfl) rfl rfl ?_
        exact v
      · have v := vf (Int.not_le.mp c); clear vt vf
        refine a_iconst d_M_way_28 ⟨by decide, by decide⟩ ?_
        exact a_iret d_M_way_29 rfl v
  · have v := vf (Classical.not_not.mp c); clear vt vf
    refine a_bipush d_M_way_8 ⟨by decide, by decide⟩ (by decide) ?_
    exact a_iret d_M_way_10 rfl v
theorem m_M_way_45 {l : Launch} {D : DD} {d kc ks : Nat} {h : Hp} {Φ : Option AV → Hp → Prop} {x1 : Int} {x2 : Int} {x3 : Int} {x4 : Int} (hM : MS h) (v : (x4 < 0 → (0 ≤ x3 ∧ x3 < 48 ∧ ((x2 ≤ xI h 133 (x3).toNat → (Ev l D Y_M_way (d + 1) kc ks 109 [some (vr 100), some (vi x1), some (vi x2), some (vi x3), some (vi (0 : Int)), none, none] [] h Φ)) ∧ (x2 > xI h 133 (x3).toNat → (Φ (some (vi (-1 : Int))) h))))) ∧ (x4 ≥ 0 → (0 ≤ x4 ∧ x4 < 48 ∧ ((xI h 110 (x4).toNat = 0 → (Ev l D Y_M_way (d + 1) kc ks 45 [some (vr 100), some (vi x1), some (vi x2), some (vi x3), some (vi (wr (x4 + (-1 : Int)))), none, none] [] h Φ)) ∧ (¬ xI h 110 (x4).toNat = 0 → ((x3 = (-1 : Int) → (Ev l D Y_M_way (d + 1) kc ks 45 [some (vr 100), some (vi x1), some (vi x2), some (vi x4), some (vi (wr (x4 + (-1 : Int)))), none, none] [] h Φ)) ∧ (¬ x3 = (-1 : Int) → (0 ≤ x4 ∧ x4 < 48 ∧ (0 ≤ x3 ∧ x3 < 48 ∧ ((xI h 133 (x4).toNat > xI h 133 (x3).toNat → (Ev l D Y_M_way (d + 1) kc ks 45 [some (vr 100), some (vi x1), some (vi x2), some (vi x3), some (vi (wr (x4 + (-1 : Int)))), none, none] [] h Φ)) ∧ (xI h 133 (x4).toNat ≤ xI h 133 (x3).toNat → (Ev l D Y_M_way (d + 1) kc ks 45 [some (vr 100), some (vi x1), some (vi x2), some (vi x4), some (vi (wr (x4 + (-1 : Int)))), none, none] [] h Φ)))))))))))) : Ev l D Y_M_way (d + 1) kc ks 45 [some (vr 100), some (vi x1), some (vi x2), some (vi x3), some (vi x4), none, none] [] h Φ := by
  refine a_iload d_M_way_45 rfl ?_
  obtain ⟨vt, vf⟩ := v
  refine a_if_lt (tgt := 94) d_M_way_47 (by decide) (fun c => ?_) (fun c => ?_)
  · have v := vt (c); clear vt vf
    refine a_iload_n d_M_way_94 rfl ?_
    refine a_aload_n d_M_way_95 rfl ?_
    refine a_getAe fl_M_89 d_M_way_96 (beq_iff_eq.mpr (KNM_100 hM)) (KRM_100_32 hM) ?_
    refine a_iload_n d_M_way_99 rfl ?_
    obtain ⟨c2, c3, v⟩ := v
    refine a_iald d_M_way_100 (Or.inl (KNM_133 hM)) c2 (lt_len (NNM_133 hM) c3) ?_
    obtain ⟨vt, vf⟩ := v
    refine a_icmp_le (tgt := 106) d_M_way_101 (by decide) (fun c => ?_) (fun c => ?_)
    · have v := vt (c); clear vt vf
      refine a_iconst d_M_way_106 ⟨by decide, by decide⟩ ?_
      refine a_istore (L' := [some (vr 100), some (vi x1), some (vi x2), some (vi x3), some (vi (0 : Int)), none, none]) d_M_way_107 (Nat.le_of_ble_eq_true rfl) rfl rfl ?_
      exact v
    · have v := vf (Int.not_le.mp c); clear vt vf
      refine a_iconst d_M_way_104 ⟨by decide, by decide⟩ ?_
      exact a_iret d_M_way_105 rfl v
  · have v := vf (Int.not_lt.mp c); clear vt vf
    refine a_aload_n d_M_way_50 rfl ?_
    refine a_getAe fl_M_31 d_M_way_51 (beq_iff_eq.mpr (KNM_100 hM)) (KRM_100_9 hM) ?_
    refine a_iload d_M_way_54 rfl ?_
    obtain ⟨c5, c6, v⟩ := v
    refine a_zald d_M_way_56 (KNM_110 hM) c5 (lt_len (NNM_110 hM) c6) ?_
    obtain ⟨vt, vf⟩ := v
    refine a_if_eq (tgt := 86) d_M_way_57 (by decide) (fun c => ?_) (fun c => ?_)
    · have v := vt (c); clear vt vf
      refine a_iload_n d_M_way_86 rfl ?_
      refine a_istore_n (L' := [some (vr 100), some (vi x1), some (vi x2), some (vi x3), some (vi x4), none, none]) d_M_way_87 (Nat.le_of_ble_eq_true rfl) rfl rfl ?_
      refine a_iinc (L' := [some (vr 100), some (vi x1), some (vi x2), some (vi x3), some (vi (wr (x4 + (-1 : Int)))), none, none]) d_M_way_88 rfl (Nat.le_of_ble_eq_true rfl) rfl rfl ?_
      refine a_goto (tgt := 45) d_M_way_91 (by decide) ?_
      exact v
    · have v := vf (c); clear vt vf
      refine a_iload_n d_M_way_60 rfl ?_
      refine a_iconst d_M_way_61 ⟨by decide, by decide⟩ ?_
      obtain ⟨vt, vf⟩ := v
      refine a_icmp_eq (tgt := 81) d_M_way_62 (by decide) (fun c => ?_) (fun c => ?_)
      · have v := vt (c); clear vt vf
        refine a_iload d_M_way_81 rfl ?_
        refine a_goto (tgt := 87) d_M_way_83 (by decide) ?_
        refine a_istore_n (L' := [some (vr 100), some (vi x1), some (vi x2), some (vi x4), some (vi x4), none, none]) d_M_way_87 (Nat.le_of_ble_eq_true rfl) rfl rfl ?_
        refine a_iinc (L' := [some (vr 100), some (vi x1), some (vi x2), some (vi x4), some (vi (wr (x4 + (-1 : Int)))), none, none]) d_M_way_88 rfl (Nat.le_of_ble_eq_true rfl) rfl rfl ?_
        refine a_goto (tgt := 45) d_M_way_91 (by decide) ?_
        exact v
      · have v := vf (c); clear vt vf
        refine a_aload_n d_M_way_65 rfl ?_
        refine a_getAe fl_M_89 d_M_way_66 (beq_iff_eq.mpr (KNM_100 hM)) (KRM_100_32 hM) ?_
        refine a_iload d_M_way_69 rfl ?_
        obtain ⟨c8, c9, v⟩ := v
        refine a_iald d_M_way_71 (Or.inl (KNM_133 hM)) c8 (lt_len (NNM_133 hM) c9) ?_
        refine a_aload_n d_M_way_72 rfl ?_
        refine a_getAe fl_M_89 d_M_way_73 (beq_iff_eq.mpr (KNM_100 hM)) (KRM_100_32 hM) ?_
        refine a_iload_n d_M_way_76 rfl ?_
        obtain ⟨c11, c12, v⟩ := v
        refine a_iald d_M_way_77 (Or.inl (KNM_133 hM)) c11 (lt_len (NNM_133 hM) c12) ?_
        obtain ⟨vt, vf⟩ := v
        refine a_icmp_gt (tgt := 86) d_M_way_78 (by decide) (fun c => ?_) (fun c => ?_)
        · have v := vt (c); clear vt vf
          refine a_iload_n d_M_way_86 rfl ?_
          refine a_istore_n (L' := [some (vr 100), some (vi x1), some (vi x2), some (vi x3), some (vi x4), none, none]) d_M_way_87 (Nat.le_of_ble_eq_true rfl) rfl rfl ?_
          refine a_iinc (L' := [some (vr 100), some (vi x1), some (vi x2), some (vi x3), some (vi (wr (x4 + (-1 : Int)))), none, none]) d_M_way_88 rfl (Nat.le_of_ble_eq_true rfl) rfl rfl ?_
          refine a_goto (tgt := 45) d_M_way_91 (by decide) ?_
          exact v
        · have v := vf (Int.not_lt.mp c); clear vt vf
          refine a_iload d_M_way_81 rfl ?_
          refine a_goto (tgt := 87) d_M_way_83 (by decide) ?_
          refine a_istore_n (L' := [some (vr 100), some (vi x1), some (vi x2), some (vi x4), some (vi x4), none, none]) d_M_way_87 (Nat.le_of_ble_eq_true rfl) rfl rfl ?_
          refine a_iinc (L' := [some (vr 100), some (vi x1), some (vi x2), some (vi x4), some (vi (wr (x4 + (-1 : Int)))), none, none]) d_M_way_88 rfl (Nat.le_of_ble_eq_true rfl) rfl rfl ?_
          refine a_goto (tgt := 45) d_M_way_91 (by decide) ?_
          exact v
theorem m_M_way_109 {l : Launch} {D : DD} {d kc ks : Nat} {h : Hp} {Φ : Option AV → Hp → Prop} {x1 : Int} {x2 : Int} {x3 : Int} {x4 : Int} (hM : MS h) (v : (x4 ≥ x2 → (Φ (some (vi x3)) h)) ∧ (x4 < x2 → (Ev l D Y_M_way (d + 1) kc ks 126 [some (vr 100), some (vi x1), some (vi x2), some (vi x3), some (vi x4), some (vi (-1 : Int)), some (vi (wr ((xI h 100 5) - (1 : Int))))] [] h Φ))) : Ev l D Y_M_way (d + 1) kc ks 109 [some (vr 100), some (vi x1), some (vi x2), some (vi x3), some (vi x4), none, none] [] h Φ := by
  refine a_iload d_M_way_109 rfl ?_
  refine a_iload_n d_M_way_111 rfl ?_
  obtain ⟨vt, vf⟩ := v
  refine a_icmp_ge (tgt := 183) d_M_way_112 (by decide) (fun c => ?_) (fun c => ?_)
  · have v := vt (c); clear vt vf
    refine a_iload_n d_M_way_183 rfl ?_
    exact a_iret d_M_way_184 rfl v
  · have v := vf (Int.not_le.mp c); clear vt vf
    refine a_iconst d_M_way_115 ⟨by decide, by decide⟩ ?_
    refine a_istore (L' := [some (vr 100), some (vi x1), some (vi x2), some (vi x3), some (vi x4), some (vi (-1 : Int)), none]) d_M_way_116 (Nat.le_of_ble_eq_true rfl) rfl rfl ?_
    refine a_aload_n d_M_way_118 rfl ?_
    refine a_getI fl_M_131 d_M_way_119 (beq_iff_eq.mpr (KNM_100 hM)) ?_
    refine a_iconst d_M_way_122 ⟨by decide, by decide⟩ ?_
    refine a_isub d_M_way_123 ?_
    refine a_istore (L' := [some (vr 100), some (vi x1), some (vi x2), some (vi x3), some (vi x4), some (vi (-1 : Int)), some (vi (wr ((xI h 100 5) - (1 : Int))))]) d_M_way_124 (Nat.le_of_ble_eq_true rfl) rfl rfl ?_
    exact v
theorem m_M_way_126 {l : Launch} {D : DD} {d kc ks : Nat} {h : Hp} {Φ : Option AV → Hp → Prop} {x1 : Int} {x2 : Int} {x3 : Int} {x4 : Int} {x5 : Int} {x6 : Int} (hM : MS h) (v : (x6 < 0 → (Ev l D Y_M_way (d + 1) kc ks 109 [some (vr 100), some (vi x1), some (vi x2), some (vi x5), some (vi (wr (x4 + (1 : Int)))), none, none] [] h Φ)) ∧ (x6 ≥ 0 → (0 ≤ x6 ∧ x6 < 48 ∧ (0 ≤ x3 ∧ x3 < 48 ∧ ((¬ xI h 133 (x6).toNat = wr ((xI h 133 (x3).toNat) - (1 : Int)) → (Ev l D Y_M_way (d + 1) kc ks 126 [some (vr 100), some (vi x1), some (vi x2), some (vi x3), some (vi x4), some (vi x5), some (vi (wr (x6 + (-1 : Int))))] [] h Φ)) ∧ (xI h 133 (x6).toNat = wr ((xI h 133 (x3).toNat) - (1 : Int)) → (Ev l D Y_M_isCallee d 0 0 0 [some (vr 100), some (vi x3), some (vi x6)] [] h (ki (fun r1 h1 => MS h1 ∧ ((r1 = 0 → (Ev l D Y_M_way (d + 1) kc ks 126 [some (vr 100), some (vi x1), some (vi x2), some (vi x3), some (vi x4), some (vi x5), some (vi (wr (x6 + (-1 : Int))))] [] h1 Φ)) ∧ (¬ r1 = 0 → (Ev l D Y_M_way (d + 1) kc ks 126 [some (vr 100), some (vi x1), some (vi x2), some (vi x3), some (vi x4), some (vi x6), some (vi (wr (x6 + (-1 : Int))))] [] h1 Φ)))))))))))) : Ev l D Y_M_way (d + 1) kc ks 126 [some (vr 100), some (vi x1), some (vi x2), some (vi x3), some (vi x4), some (vi x5), some (vi x6)] [] h Φ := by
  refine a_iload d_M_way_126 rfl ?_
  obtain ⟨vt, vf⟩ := v
  refine a_if_lt (tgt := 174) d_M_way_128 (by decide) (fun c => ?_) (fun c => ?_)
  · have v := vt (c); clear vt vf
    refine a_iload d_M_way_174 rfl ?_
    refine a_istore_n (L' := [some (vr 100), some (vi x1), some (vi x2), some (vi x5), some (vi x4), some (vi x5), some (vi x6)]) d_M_way_176 (Nat.le_of_ble_eq_true rfl) rfl rfl ?_
    refine a_iinc (L' := [some (vr 100), some (vi x1), some (vi x2), some (vi x5), some (vi (wr (x4 + (1 : Int)))), some (vi x5), some (vi x6)]) d_M_way_177 rfl (Nat.le_of_ble_eq_true rfl) rfl rfl ?_
    refine a_goto (tgt := 109) d_M_way_180 (by decide) ?_
    exact Ev.weak v ⟨rfl, rfl, rfl, rfl, rfl, trivial⟩
  · have v := vf (Int.not_lt.mp c); clear vt vf
    refine a_aload_n d_M_way_131 rfl ?_
    refine a_getAe fl_M_89 d_M_way_132 (beq_iff_eq.mpr (KNM_100 hM)) (KRM_100_32 hM) ?_
    refine a_iload d_M_way_135 rfl ?_
    obtain ⟨c2, c3, v⟩ := v
    refine a_iald d_M_way_137 (Or.inl (KNM_133 hM)) c2 (lt_len (NNM_133 hM) c3) ?_
    refine a_aload_n d_M_way_138 rfl ?_
    refine a_getAe fl_M_89 d_M_way_139 (beq_iff_eq.mpr (KNM_100 hM)) (KRM_100_32 hM) ?_
    refine a_iload_n d_M_way_142 rfl ?_
    obtain ⟨c5, c6, v⟩ := v
    refine a_iald d_M_way_143 (Or.inl (KNM_133 hM)) c5 (lt_len (NNM_133 hM) c6) ?_
    refine a_iconst d_M_way_144 ⟨by decide, by decide⟩ ?_
    refine a_isub d_M_way_145 ?_
    obtain ⟨vt, vf⟩ := v
    refine a_icmp_ne (tgt := 164) d_M_way_146 (by decide) (fun c => ?_) (fun c => ?_)
    · have v := vt (c); clear vt vf
      refine a_iload d_M_way_164 rfl ?_
      refine a_istore (L' := [some (vr 100), some (vi x1), some (vi x2), some (vi x3), some (vi x4), some (vi x5), some (vi x6)]) d_M_way_166 (Nat.le_of_ble_eq_true rfl) rfl rfl ?_
      refine a_iinc (L' := [some (vr 100), some (vi x1), some (vi x2), some (vi x3), some (vi x4), some (vi x5), some (vi (wr (x6 + (-1 : Int))))]) d_M_way_168 rfl (Nat.le_of_ble_eq_true rfl) rfl rfl ?_
      refine a_goto (tgt := 126) d_M_way_171 (by decide) ?_
      exact v
    · have v := vf (Classical.not_not.mp c); clear vt vf
      refine a_aload_n d_M_way_149 rfl ?_
      refine a_iload_n d_M_way_150 rfl ?_
      refine a_iload d_M_way_151 rfl ?_
      refine b_callV (as := [vi x3, vi x6]) (b := 100) (st := []) (kd := 12) (kc1 := 0) (ks1 := 0) (kc2 := kc) (ks2 := ks) (d' := d) ml_M_224 rfl d_M_way_153 rfl rfl (Nat.le_of_ble_eq_true rfl) (by decide) rfl (Nat.le_refl _) (by omega) (by omega) (KNM_100 hM) ?_
      refine Ev.mono v ?_
      intro u h1 v
      obtain ⟨r1, rfl, v⟩ := ki_el v
      obtain ⟨hm1, v⟩ := v
      change Ev l D Y_M_way _ _ _ 156 [some (vr 100), some (vi x1), some (vi x2), some (vi x3), some (vi x4), some (vi x5), some (vi x6)] [vi r1] _ _
      obtain ⟨vt, vf⟩ := v
      refine a_if_eq (tgt := 164) d_M_way_156 (by decide) (fun c => ?_) (fun c => ?_)
      · have v := vt (c); clear vt vf
        refine a_iload d_M_way_164 rfl ?_
        refine a_istore (L' := [some (vr 100), some (vi x1), some (vi x2), some (vi x3), some (vi x4), some (vi x5), some (vi x6)]) d_M_way_166 (Nat.le_of_ble_eq_true rfl) rfl rfl ?_
        refine a_iinc (L' := [some (vr 100), some (vi x1), some (vi x2), some (vi x3), some (vi x4), some (vi x5), some (vi (wr (x6 + (-1 : Int))))]) d_M_way_168 rfl (Nat.le_of_ble_eq_true rfl) rfl rfl ?_
        refine a_goto (tgt := 126) d_M_way_171 (by decide) ?_
        exact v
      · have v := vf (c); clear vt vf
        refine a_iload d_M_way_159 rfl ?_
        refine a_goto (tgt := 166) d_M_way_161 (by decide) ?_
        refine a_istore (L' := [some (vr 100), some (vi x1), some (vi x2), some (vi x3), some (vi x4), some (vi x6), some (vi x6)]) d_M_way_166 (Nat.le_of_ble_eq_true rfl) rfl rfl ?_
        refine a_iinc (L' := [some (vr 100), some (vi x1), some (vi x2), some (vi x3), some (vi x4), some (vi x6), some (vi (wr (x6 + (-1 : Int))))]) d_M_way_168 rfl (Nat.le_of_ble_eq_true rfl) rfl rfl ?_
        refine a_goto (tgt := 126) d_M_way_171 (by decide) ?_
        exact v
