theorem d_M_findLeft_0 : decode Y_M_findLeft.2.1 0 = .ok (.iconst 0, 1) := by decide +kernel
theorem d_M_findLeft_1 : decode Y_M_findLeft.2.1 1 = .ok (.istore_n 3, 1) := by decide +kernel
theorem d_M_findLeft_2 : decode Y_M_findLeft.2.1 2 = .ok (.iload_n 3, 1) := by decide +kernel
theorem d_M_findLeft_3 : decode Y_M_findLeft.2.1 3 = .ok (.bipush 16, 2) := by decide +kernel
theorem d_M_findLeft_5 : decode Y_M_findLeft.2.1 5 = .ok (.if_icmp .ge 52, 3) := by decide +kernel
theorem d_M_findLeft_8 : decode Y_M_findLeft.2.1 8 = .ok (.aload_n 0, 1) := by decide +kernel
theorem d_M_findLeft_9 : decode Y_M_findLeft.2.1 9 = .ok (.getfield 77, 3) := by decide +kernel
theorem d_M_findLeft_12 : decode Y_M_findLeft.2.1 12 = .ok (.iload_n 3, 1) := by decide +kernel
theorem d_M_findLeft_13 : decode Y_M_findLeft.2.1 13 = .ok (.iload_n 3, 1) := by decide +kernel
theorem d_M_findLeft_14 : decode Y_M_findLeft.2.1 14 = .ok (.aload_n 0, 1) := by decide +kernel
theorem d_M_findLeft_15 : decode Y_M_findLeft.2.1 15 = .ok (.getfield 123, 3) := by decide +kernel
theorem d_M_findLeft_18 : decode Y_M_findLeft.2.1 18 = .ok (.if_icmp .ge 31, 3) := by decide +kernel
theorem d_M_findLeft_21 : decode Y_M_findLeft.2.1 21 = .ok (.iload_n 3, 1) := by decide +kernel
theorem d_M_findLeft_22 : decode Y_M_findLeft.2.1 22 = .ok (.iload_n 1, 1) := by decide +kernel
theorem d_M_findLeft_23 : decode Y_M_findLeft.2.1 23 = .ok (.if_icmp .eq 26, 3) := by decide +kernel
theorem d_M_findLeft_26 : decode Y_M_findLeft.2.1 26 = .ok (.aload_n 0, 1) := by decide +kernel
theorem d_M_findLeft_27 : decode Y_M_findLeft.2.1 27 = .ok (.getfield 7, 3) := by decide +kernel
theorem d_M_findLeft_30 : decode Y_M_findLeft.2.1 30 = .ok (.iload_n 3, 1) := by decide +kernel
theorem d_M_findLeft_31 : decode Y_M_findLeft.2.1 31 = .ok (.iaload, 1) := by decide +kernel
theorem d_M_findLeft_32 : decode Y_M_findLeft.2.1 32 = .ok (.iconst 2, 1) := by decide +kernel
theorem d_M_findLeft_33 : decode Y_M_findLeft.2.1 33 = .ok (.if_icmp .ne 16, 3) := by decide +kernel
theorem d_M_findLeft_36 : decode Y_M_findLeft.2.1 36 = .ok (.aload_n 0, 1) := by decide +kernel
theorem d_M_findLeft_37 : decode Y_M_findLeft.2.1 37 = .ok (.iload_n 1, 1) := by decide +kernel
theorem d_M_findLeft_38 : decode Y_M_findLeft.2.1 38 = .ok (.iload_n 3, 1) := by decide +kernel
theorem d_M_findLeft_39 : decode Y_M_findLeft.2.1 39 = .ok (.invokevirtual 166, 3) := by decide +kernel
theorem d_M_findLeft_42 : decode Y_M_findLeft.2.1 42 = .ok (.ifCond .eq 7, 3) := by decide +kernel
theorem d_M_findLeft_45 : decode Y_M_findLeft.2.1 45 = .ok (.iconst 1, 1) := by decide +kernel
theorem d_M_findLeft_46 : decode Y_M_findLeft.2.1 46 = .ok (.goto 4, 3) := by decide +kernel
theorem d_M_findLeft_49 : decode Y_M_findLeft.2.1 49 = .ok (.iconst 0, 1) := by decide +kernel
theorem d_M_findLeft_50 : decode Y_M_findLeft.2.1 50 = .ok (.bastore, 1) := by decide +kernel
theorem d_M_findLeft_51 : decode Y_M_findLeft.2.1 51 = .ok (.iinc 3 1, 3) := by decide +kernel
theorem d_M_findLeft_54 : decode Y_M_findLeft.2.1 54 = .ok (.goto (-52), 3) := by decide +kernel
theorem d_M_findLeft_57 : decode Y_M_findLeft.2.1 57 = .ok (.iconst 0, 1) := by decide +kernel
theorem d_M_findLeft_58 : decode Y_M_findLeft.2.1 58 = .ok (.istore_n 3, 1) := by decide +kernel
theorem d_M_findLeft_59 : decode Y_M_findLeft.2.1 59 = .ok (.iload_n 3, 1) := by decide +kernel
theorem d_M_findLeft_60 : decode Y_M_findLeft.2.1 60 = .ok (.bipush 48, 2) := by decide +kernel
theorem d_M_findLeft_62 : decode Y_M_findLeft.2.1 62 = .ok (.if_icmp .ge 83, 3) := by decide +kernel
theorem d_M_findLeft_65 : decode Y_M_findLeft.2.1 65 = .ok (.iload_n 3, 1) := by decide +kernel
theorem d_M_findLeft_66 : decode Y_M_findLeft.2.1 66 = .ok (.aload_n 0, 1) := by decide +kernel
theorem d_M_findLeft_67 : decode Y_M_findLeft.2.1 67 = .ok (.getfield 131, 3) := by decide +kernel
theorem d_M_findLeft_70 : decode Y_M_findLeft.2.1 70 = .ok (.if_icmp .ge 31, 3) := by decide +kernel
theorem d_M_findLeft_73 : decode Y_M_findLeft.2.1 73 = .ok (.aload_n 0, 1) := by decide +kernel
theorem d_M_findLeft_74 : decode Y_M_findLeft.2.1 74 = .ok (.getfield 25, 3) := by decide +kernel
theorem d_M_findLeft_77 : decode Y_M_findLeft.2.1 77 = .ok (.iload_n 3, 1) := by decide +kernel
theorem d_M_findLeft_78 : decode Y_M_findLeft.2.1 78 = .ok (.iaload, 1) := by decide +kernel
theorem d_M_findLeft_79 : decode Y_M_findLeft.2.1 79 = .ok (.iload_n 2, 1) := by decide +kernel
theorem d_M_findLeft_80 : decode Y_M_findLeft.2.1 80 = .ok (.if_icmp .ne 21, 3) := by decide +kernel
theorem d_M_findLeft_83 : decode Y_M_findLeft.2.1 83 = .ok (.aload_n 0, 1) := by decide +kernel
theorem d_M_findLeft_84 : decode Y_M_findLeft.2.1 84 = .ok (.getfield 77, 3) := by decide +kernel
theorem d_M_findLeft_87 : decode Y_M_findLeft.2.1 87 = .ok (.aload_n 0, 1) := by decide +kernel
theorem d_M_findLeft_88 : decode Y_M_findLeft.2.1 88 = .ok (.getfield 22, 3) := by decide +kernel
theorem d_M_findLeft_91 : decode Y_M_findLeft.2.1 91 = .ok (.iload_n 3, 1) := by decide +kernel
theorem d_M_findLeft_92 : decode Y_M_findLeft.2.1 92 = .ok (.iaload, 1) := by decide +kernel
theorem d_M_findLeft_93 : decode Y_M_findLeft.2.1 93 = .ok (.baload, 1) := by decide +kernel
theorem d_M_findLeft_94 : decode Y_M_findLeft.2.1 94 = .ok (.ifCond .eq 7, 3) := by decide +kernel
theorem d_M_findLeft_97 : decode Y_M_findLeft.2.1 97 = .ok (.iconst 1, 1) := by decide +kernel
theorem d_M_findLeft_98 : decode Y_M_findLeft.2.1 98 = .ok (.goto 4, 3) := by decide +kernel
theorem d_M_findLeft_101 : decode Y_M_findLeft.2.1 101 = .ok (.iconst 0, 1) := by decide +kernel
theorem d_M_findLeft_102 : decode Y_M_findLeft.2.1 102 = .ok (.istore 4, 2) := by decide +kernel
theorem d_M_findLeft_104 : decode Y_M_findLeft.2.1 104 = .ok (.aload_n 0, 1) := by decide +kernel
theorem d_M_findLeft_105 : decode Y_M_findLeft.2.1 105 = .ok (.getfield 74, 3) := by decide +kernel
theorem d_M_findLeft_108 : decode Y_M_findLeft.2.1 108 = .ok (.iload_n 3, 1) := by decide +kernel
theorem d_M_findLeft_109 : decode Y_M_findLeft.2.1 109 = .ok (.iload 4, 2) := by decide +kernel
theorem d_M_findLeft_111 : decode Y_M_findLeft.2.1 111 = .ok (.ifCond .eq 26, 3) := by decide +kernel
theorem d_M_findLeft_114 : decode Y_M_findLeft.2.1 114 = .ok (.aload_n 0, 1) := by decide +kernel
theorem d_M_findLeft_115 : decode Y_M_findLeft.2.1 115 = .ok (.getfield 28, 3) := by decide +kernel
theorem d_M_findLeft_118 : decode Y_M_findLeft.2.1 118 = .ok (.iload_n 3, 1) := by decide +kernel
theorem d_M_findLeft_119 : decode Y_M_findLeft.2.1 119 = .ok (.iaload, 1) := by decide +kernel
theorem d_M_findLeft_120 : decode Y_M_findLeft.2.1 120 = .ok (.ifCond .eq 13, 3) := by decide +kernel
theorem d_M_findLeft_123 : decode Y_M_findLeft.2.1 123 = .ok (.aload_n 0, 1) := by decide +kernel
theorem d_M_findLeft_124 : decode Y_M_findLeft.2.1 124 = .ok (.getfield 28, 3) := by decide +kernel
theorem d_M_findLeft_127 : decode Y_M_findLeft.2.1 127 = .ok (.iload_n 3, 1) := by decide +kernel
theorem d_M_findLeft_128 : decode Y_M_findLeft.2.1 128 = .ok (.iaload, 1) := by decide +kernel
theorem d_M_findLeft_129 : decode Y_M_findLeft.2.1 129 = .ok (.iconst 1, 1) := by decide +kernel
theorem d_M_findLeft_130 : decode Y_M_findLeft.2.1 130 = .ok (.if_icmp .ne 7, 3) := by decide +kernel
theorem d_M_findLeft_133 : decode Y_M_findLeft.2.1 133 = .ok (.iconst 1, 1) := by decide +kernel
theorem d_M_findLeft_134 : decode Y_M_findLeft.2.1 134 = .ok (.goto 4, 3) := by decide +kernel
theorem d_M_findLeft_137 : decode Y_M_findLeft.2.1 137 = .ok (.iconst 0, 1) := by decide +kernel
theorem d_M_findLeft_138 : decode Y_M_findLeft.2.1 138 = .ok (.bastore, 1) := by decide +kernel
theorem d_M_findLeft_139 : decode Y_M_findLeft.2.1 139 = .ok (.iinc 3 1, 3) := by decide +kernel
theorem d_M_findLeft_142 : decode Y_M_findLeft.2.1 142 = .ok (.goto (-83), 3) := by decide +kernel
theorem d_M_findLeft_145 : decode Y_M_findLeft.2.1 145 = .ok (.iconst 0, 1) := by decide +kernel
theorem d_M_findLeft_146 : decode Y_M_findLeft.2.1 146 = .ok (.istore_n 3, 1) := by decide +kernel
theorem d_M_findLeft_147 : decode Y_M_findLeft.2.1 147 = .ok (.iload_n 3, 1) := by decide +kernel
theorem d_M_findLeft_148 : decode Y_M_findLeft.2.1 148 = .ok (.aload_n 0, 1) := by decide +kernel
theorem d_M_findLeft_149 : decode Y_M_findLeft.2.1 149 = .ok (.getfield 131, 3) := by decide +kernel
theorem d_M_findLeft_152 : decode Y_M_findLeft.2.1 152 = .ok (.if_icmp .ge 150, 3) := by decide +kernel
theorem d_M_findLeft_155 : decode Y_M_findLeft.2.1 155 = .ok (.aload_n 0, 1) := by decide +kernel
theorem d_M_findLeft_156 : decode Y_M_findLeft.2.1 156 = .ok (.getfield 74, 3) := by decide +kernel
theorem d_M_findLeft_159 : decode Y_M_findLeft.2.1 159 = .ok (.iload_n 3, 1) := by decide +kernel
theorem d_M_findLeft_160 : decode Y_M_findLeft.2.1 160 = .ok (.baload, 1) := by decide +kernel
theorem d_M_findLeft_161 : decode Y_M_findLeft.2.1 161 = .ok (.istore 4, 2) := by decide +kernel
theorem d_M_findLeft_163 : decode Y_M_findLeft.2.1 163 = .ok (.iconst 0, 1) := by decide +kernel
theorem d_M_findLeft_164 : decode Y_M_findLeft.2.1 164 = .ok (.istore 5, 2) := by decide +kernel
theorem d_M_findLeft_166 : decode Y_M_findLeft.2.1 166 = .ok (.iload 5, 2) := by decide +kernel
theorem d_M_findLeft_168 : decode Y_M_findLeft.2.1 168 = .ok (.aload_n 0, 1) := by decide +kernel
theorem d_M_findLeft_169 : decode Y_M_findLeft.2.1 169 = .ok (.getfield 131, 3) := by decide +kernel
theorem d_M_findLeft_172 : decode Y_M_findLeft.2.1 172 = .ok (.if_icmp .ge 116, 3) := by decide +kernel
theorem d_M_findLeft_175 : decode Y_M_findLeft.2.1 175 = .ok (.iload 4, 2) := by decide +kernel
theorem d_M_findLeft_177 : decode Y_M_findLeft.2.1 177 = .ok (.ifCond .eq 111, 3) := by decide +kernel
theorem d_M_findLeft_180 : decode Y_M_findLeft.2.1 180 = .ok (.aload_n 0, 1) := by decide +kernel
theorem d_M_findLeft_181 : decode Y_M_findLeft.2.1 181 = .ok (.getfield 25, 3) := by decide +kernel
theorem d_M_findLeft_184 : decode Y_M_findLeft.2.1 184 = .ok (.iload 5, 2) := by decide +kernel
theorem d_M_findLeft_186 : decode Y_M_findLeft.2.1 186 = .ok (.iaload, 1) := by decide +kernel
theorem d_M_findLeft_187 : decode Y_M_findLeft.2.1 187 = .ok (.iload_n 2, 1) := by decide +kernel
theorem d_M_findLeft_188 : decode Y_M_findLeft.2.1 188 = .ok (.if_icmp .ne 43, 3) := by decide +kernel
theorem d_M_findLeft_191 : decode Y_M_findLeft.2.1 191 = .ok (.aload_n 0, 1) := by decide +kernel
theorem d_M_findLeft_192 : decode Y_M_findLeft.2.1 192 = .ok (.getfield 77, 3) := by decide +kernel
theorem d_M_findLeft_195 : decode Y_M_findLeft.2.1 195 = .ok (.aload_n 0, 1) := by decide +kernel
theorem d_M_findLeft_196 : decode Y_M_findLeft.2.1 196 = .ok (.getfield 22, 3) := by decide +kernel
theorem d_M_findLeft_199 : decode Y_M_findLeft.2.1 199 = .ok (.iload 5, 2) := by decide +kernel
theorem d_M_findLeft_201 : decode Y_M_findLeft.2.1 201 = .ok (.iaload, 1) := by decide +kernel
theorem d_M_findLeft_202 : decode Y_M_findLeft.2.1 202 = .ok (.baload, 1) := by decide +kernel
theorem d_M_findLeft_203 : decode Y_M_findLeft.2.1 203 = .ok (.ifCond .eq 28, 3) := by decide +kernel
theorem d_M_findLeft_206 : decode Y_M_findLeft.2.1 206 = .ok (.aload_n 0, 1) := by decide +kernel
theorem d_M_findLeft_207 : decode Y_M_findLeft.2.1 207 = .ok (.getfield 28, 3) := by decide +kernel
theorem d_M_findLeft_210 : decode Y_M_findLeft.2.1 210 = .ok (.iload 5, 2) := by decide +kernel
theorem d_M_findLeft_212 : decode Y_M_findLeft.2.1 212 = .ok (.iaload, 1) := by decide +kernel
theorem d_M_findLeft_213 : decode Y_M_findLeft.2.1 213 = .ok (.ifCond .eq 14, 3) := by decide +kernel
theorem d_M_findLeft_216 : decode Y_M_findLeft.2.1 216 = .ok (.aload_n 0, 1) := by decide +kernel
theorem d_M_findLeft_217 : decode Y_M_findLeft.2.1 217 = .ok (.getfield 28, 3) := by decide +kernel
theorem d_M_findLeft_220 : decode Y_M_findLeft.2.1 220 = .ok (.iload 5, 2) := by decide +kernel
theorem d_M_findLeft_222 : decode Y_M_findLeft.2.1 222 = .ok (.iaload, 1) := by decide +kernel
theorem d_M_findLeft_223 : decode Y_M_findLeft.2.1 223 = .ok (.iconst 1, 1) := by decide +kernel
theorem d_M_findLeft_224 : decode Y_M_findLeft.2.1 224 = .ok (.if_icmp .ne 7, 3) := by decide +kernel
theorem d_M_findLeft_227 : decode Y_M_findLeft.2.1 227 = .ok (.iconst 1, 1) := by decide +kernel
theorem d_M_findLeft_228 : decode Y_M_findLeft.2.1 228 = .ok (.goto 4, 3) := by decide +kernel
theorem d_M_findLeft_231 : decode Y_M_findLeft.2.1 231 = .ok (.iconst 0, 1) := by decide +kernel
theorem d_M_findLeft_232 : decode Y_M_findLeft.2.1 232 = .ok (.istore 6, 2) := by decide +kernel
theorem d_M_findLeft_234 : decode Y_M_findLeft.2.1 234 = .ok (.iload 6, 2) := by decide +kernel
theorem d_M_findLeft_236 : decode Y_M_findLeft.2.1 236 = .ok (.ifCond .eq 39, 3) := by decide +kernel
theorem d_M_findLeft_239 : decode Y_M_findLeft.2.1 239 = .ok (.aload_n 0, 1) := by decide +kernel
theorem d_M_findLeft_240 : decode Y_M_findLeft.2.1 240 = .ok (.getfield 22, 3) := by decide +kernel
theorem d_M_findLeft_243 : decode Y_M_findLeft.2.1 243 = .ok (.iload 5, 2) := by decide +kernel
theorem d_M_findLeft_245 : decode Y_M_findLeft.2.1 245 = .ok (.iaload, 1) := by decide +kernel
theorem d_M_findLeft_246 : decode Y_M_findLeft.2.1 246 = .ok (.aload_n 0, 1) := by decide +kernel
theorem d_M_findLeft_247 : decode Y_M_findLeft.2.1 247 = .ok (.getfield 22, 3) := by decide +kernel
theorem d_M_findLeft_250 : decode Y_M_findLeft.2.1 250 = .ok (.iload_n 3, 1) := by decide +kernel
theorem d_M_findLeft_251 : decode Y_M_findLeft.2.1 251 = .ok (.iaload, 1) := by decide +kernel
theorem d_M_findLeft_252 : decode Y_M_findLeft.2.1 252 = .ok (.if_icmp .eq 23, 3) := by decide +kernel
theorem d_M_findLeft_255 : decode Y_M_findLeft.2.1 255 = .ok (.aload_n 0, 1) := by decide +kernel
theorem d_M_findLeft_256 : decode Y_M_findLeft.2.1 256 = .ok (.aload_n 0, 1) := by decide +kernel
theorem d_M_findLeft_257 : decode Y_M_findLeft.2.1 257 = .ok (.getfield 22, 3) := by decide +kernel
theorem d_M_findLeft_260 : decode Y_M_findLeft.2.1 260 = .ok (.iload 5, 2) := by decide +kernel
theorem d_M_findLeft_262 : decode Y_M_findLeft.2.1 262 = .ok (.iaload, 1) := by decide +kernel
theorem d_M_findLeft_263 : decode Y_M_findLeft.2.1 263 = .ok (.aload_n 0, 1) := by decide +kernel
theorem d_M_findLeft_264 : decode Y_M_findLeft.2.1 264 = .ok (.getfield 22, 3) := by decide +kernel
theorem d_M_findLeft_267 : decode Y_M_findLeft.2.1 267 = .ok (.iload_n 3, 1) := by decide +kernel
theorem d_M_findLeft_268 : decode Y_M_findLeft.2.1 268 = .ok (.iaload, 1) := by decide +kernel
theorem d_M_findLeft_269 : decode Y_M_findLeft.2.1 269 = .ok (.invokevirtual 166, 3) := by decide +kernel
theorem d_M_findLeft_272 : decode Y_M_findLeft.2.1 272 = .ok (.ifCond .ne 7, 3) := by decide +kernel
theorem d_M_findLeft_275 : decode Y_M_findLeft.2.1 275 = .ok (.iconst 1, 1) := by decide +kernel
theorem d_M_findLeft_276 : decode Y_M_findLeft.2.1 276 = .ok (.goto 4, 3) := by decide +kernel
theorem d_M_findLeft_279 : decode Y_M_findLeft.2.1 279 = .ok (.iconst 0, 1) := by decide +kernel
theorem d_M_findLeft_280 : decode Y_M_findLeft.2.1 280 = .ok (.istore 4, 2) := by decide +kernel
theorem d_M_findLeft_282 : decode Y_M_findLeft.2.1 282 = .ok (.iinc 5 1, 3) := by decide +kernel
theorem d_M_findLeft_285 : decode Y_M_findLeft.2.1 285 = .ok (.goto (-119), 3) := by decide +kernel
theorem d_M_findLeft_288 : decode Y_M_findLeft.2.1 288 = .ok (.aload_n 0, 1) := by decide +kernel
theorem d_M_findLeft_289 : decode Y_M_findLeft.2.1 289 = .ok (.getfield 74, 3) := by decide +kernel
theorem d_M_findLeft_292 : decode Y_M_findLeft.2.1 292 = .ok (.iload_n 3, 1) := by decide +kernel
theorem d_M_findLeft_293 : decode Y_M_findLeft.2.1 293 = .ok (.iload 4, 2) := by decide +kernel
theorem d_M_findLeft_295 : decode Y_M_findLeft.2.1 295 = .ok (.bastore, 1) := by decide +kernel
theorem d_M_findLeft_296 : decode Y_M_findLeft.2.1 296 = .ok (.iinc 3 1, 3) := by decide +kernel
theorem d_M_findLeft_299 : decode Y_M_findLeft.2.1 299 = .ok (.goto (-152), 3) := by decide +kernel
theorem d_M_findLeft_302 : decode Y_M_findLeft.2.1 302 = .ok (.return_, 1) := by decide +kernel
theorem m_M_findLeft_0 {l : Launch} {D : DD} {d kc ks : Nat} {h : Hp} {Φ : Option AV → Hp → Prop} {x1 : Int} {x2 : Int} (hM : MS h) (v : Ev l D Y_M_findLeft (d + 1) kc ks 2 [some (vr 100), some (vi x1), some (vi x2), some (vi (0 : Int)), none, none, none] [] h Φ) : Ev l D Y_M_findLeft (d + 1) kc ks 0 [some (vr 100), some (vi x1), some (vi x2), none, none, none, none] [] h Φ := by
  refine a_iconst d_M_findLeft_0 ⟨by decide, by decide⟩ ?_
  refine a_istore_n (L' := [some (vr 100), some (vi x1), some (vi x2), some (vi (0 : Int)), none, none, none]) d_M_findLeft_1 (Nat.le_of_ble_eq_true rfl) rfl rfl ?_
  exact v
theorem m_M_findLeft_2 {l : Launch} {D : DD} {d kc ks : Nat} {h : Hp} {Φ : Option AV → Hp → Prop} {x1 : Int} {x2 : Int} {x3 : Int} (hM : MS h) (v : (x3 ≥ (16 : Int) → (Ev l D Y_M_findLeft (d + 1) kc ks 59 [some (vr 100), some (vi x1), some (vi x2), some (vi (0 : Int)), none, none, none] [] h Φ)) ∧ (x3 < (16 : Int) → ((x3 ≥ xI h 100 0 → (Ev l D Y_M_findLeft (d + 1) kc ks 50 [some (vr 100), some (vi x1), some (vi x2), some (vi x3), none, none, none] [vi (0 : Int), vi x3, vr 129] h Φ)) ∧ (x3 < xI h 100 0 → ((x3 = x1 → (Ev l D Y_M_findLeft (d + 1) kc ks 50 [some (vr 100), some (vi x1), some (vi x2), some (vi x3), none, none, none] [vi (0 : Int), vi x3, vr 129] h Φ)) ∧ (¬ x3 = x1 → (0 ≤ x3 ∧ x3 < 16 ∧ ((¬ xI h 102 (x3).toNat = (2 : Int) → (Ev l D Y_M_findLeft (d + 1) kc ks 50 [some (vr 100), some (vi x1), some (vi x2), some (vi x3), none, none, none] [vi (0 : Int), vi x3, vr 129] h Φ)) ∧ (xI h 102 (x3).toNat = (2 : Int) → (Ev l D Y_M_isUnder d 0 0 0 [some (vr 100), some (vi x1), some (vi x3), none, none] [] h (ki (fun r1 h1 => MS h1 ∧ ((r1 = 0 → (Ev l D Y_M_findLeft (d + 1) kc ks 50 [some (vr 100), some (vi x1), some (vi x2), some (vi x3), none, none, none] [vi (0 : Int), vi x3, vr 129] h1 Φ)) ∧ (¬ r1 = 0 → (Ev l D Y_M_findLeft (d + 1) kc ks 50 [some (vr 100), some (vi x1), some (vi x2), some (vi x3), none, none, none] [vi (1 : Int), vi x3, vr 129] h1 Φ))))))))))))))) : Ev l D Y_M_findLeft (d + 1) kc ks 2 [some (vr 100), some (vi x1), some (vi x2), some (vi x3), none, none, none] [] h Φ := by
  refine a_iload_n d_M_findLeft_2 rfl ?_
  refine a_bipush d_M_findLeft_3 ⟨by decide, by decide⟩ (by decide) ?_
  obtain ⟨vt, vf⟩ := v
  refine a_icmp_ge (tgt := 57) d_M_findLeft_5 (by decide) (fun c => ?_) (fun c => ?_)
  · have v := vt (c); clear vt vf
    refine a_iconst d_M_findLeft_57 ⟨by decide, by decide⟩ ?_
    refine a_istore_n (L' := [some (vr 100), some (vi x1), some (vi x2), some (vi (0 : Int)), none, none, none]) d_M_findLeft_58 (Nat.le_of_ble_eq_true rfl) rfl rfl ?_
    exact v
  · have v := vf (Int.not_le.mp c); clear vt vf
    refine a_aload_n d_M_findLeft_8 rfl ?_
    refine a_getAe fl_M_77 d_M_findLeft_9 (beq_iff_eq.mpr (KNM_100 hM)) (KRM_100_28 hM) ?_
    refine a_iload_n d_M_findLeft_12 rfl ?_
    refine a_iload_n d_M_findLeft_13 rfl ?_
    refine a_aload_n d_M_findLeft_14 rfl ?_
    refine a_getI fl_M_123 d_M_findLeft_15 (beq_iff_eq.mpr (KNM_100 hM)) ?_
    obtain ⟨vt, vf⟩ := v
    refine a_icmp_ge (tgt := 49) d_M_findLeft_18 (by decide) (fun c => ?_) (fun c => ?_)
    · have v := vt (c); clear vt vf
      refine a_iconst d_M_findLeft_49 ⟨by decide, by decide⟩ ?_
      exact v
    · have v := vf (Int.not_le.mp c); clear vt vf
      refine a_iload_n d_M_findLeft_21 rfl ?_
      refine a_iload_n d_M_findLeft_22 rfl ?_
      obtain ⟨vt, vf⟩ := v
      refine a_icmp_eq (tgt := 49) d_M_findLeft_23 (by decide) (fun c => ?_) (fun c => ?_)
      · have v := vt (c); clear vt vf
        refine a_iconst d_M_findLeft_49 ⟨by decide, by decide⟩ ?_
        exact v
      · have v := vf (c); clear vt vf
        refine a_aload_n d_M_findLeft_26 rfl ?_
        refine a_getAe fl_M_7 d_M_findLeft_27 (beq_iff_eq.mpr (KNM_100 hM)) (KRM_100_1 hM) ?_
        refine a_iload_n d_M_findLeft_30 rfl ?_
        obtain ⟨c2, c3, v⟩ := v
        refine a_iald d_M_findLeft_31 (Or.inl (KNM_102 hM)) c2 (lt_len (NNM_102 hM) c3) ?_
        refine a_iconst d_M_findLeft_32 ⟨by decide, by decide⟩ ?_
        obtain ⟨vt, vf⟩ := v
        refine a_icmp_ne (tgt := 49) d_M_findLeft_33 (by decide) (fun c => ?_) (fun c => ?_)
        · have v := vt (c); clear vt vf
          refine a_iconst d_M_findLeft_49 ⟨by decide, by decide⟩ ?_
          exact v
        · have v := vf (Classical.not_not.mp c); clear vt vf
          refine a_aload_n d_M_findLeft_36 rfl ?_
          refine a_iload_n d_M_findLeft_37 rfl ?_
          refine a_iload_n d_M_findLeft_38 rfl ?_
          refine b_callV (as := [vi x1, vi x3]) (b := 100) (st := [vi x3, vr 129]) (kd := 12) (kc1 := 0) (ks1 := 0) (kc2 := kc) (ks2 := ks) (d' := d) ml_M_166 rfl d_M_findLeft_39 rfl rfl (Nat.le_of_ble_eq_true rfl) (by decide) rfl (Nat.le_refl _) (by omega) (by omega) (KNM_100 hM) ?_
          refine Ev.mono v ?_
          intro u h1 v
          obtain ⟨r1, rfl, v⟩ := ki_el v
          obtain ⟨hm1, v⟩ := v
          change Ev l D Y_M_findLeft _ _ _ 42 [some (vr 100), some (vi x1), some (vi x2), some (vi x3), none, none, none] [vi r1, vi x3, vr 129] _ _
          obtain ⟨vt, vf⟩ := v
          refine a_if_eq (tgt := 49) d_M_findLeft_42 (by decide) (fun c => ?_) (fun c => ?_)
          · have v := vt (c); clear vt vf
            refine a_iconst d_M_findLeft_49 ⟨by decide, by decide⟩ ?_
            exact v
          · have v := vf (c); clear vt vf
            refine a_iconst d_M_findLeft_45 ⟨by decide, by decide⟩ ?_
            refine a_goto (tgt := 50) d_M_findLeft_46 (by decide) ?_
            exact v
theorem m_M_findLeft_59 {l : Launch} {D : DD} {d kc ks : Nat} {h : Hp} {Φ : Option AV → Hp → Prop} {x1 : Int} {x2 : Int} {x3 : Int} (hM : MS h) (v : (x3 ≥ (48 : Int) → (Ev l D Y_M_findLeft (d + 1) kc ks 147 [some (vr 100), some (vi x1), some (vi x2), some (vi (0 : Int)), none, none, none] [] h Φ)) ∧ (x3 < (48 : Int) → ((x3 ≥ xI h 100 5 → (Ev l D Y_M_findLeft (d + 1) kc ks 102 [some (vr 100), some (vi x1), some (vi x2), some (vi x3), none, none, none] [vi (0 : Int)] h Φ)) ∧ (x3 < xI h 100 5 → (0 ≤ x3 ∧ x3 < 48 ∧ ((¬ xI h 108 (x3).toNat = x2 → (Ev l D Y_M_findLeft (d + 1) kc ks 102 [some (vr 100), some (vi x1), some (vi x2), some (vi x3), none, none, none] [vi (0 : Int)] h Φ)) ∧ (xI h 108 (x3).toNat = x2 → (0 ≤ x3 ∧ x3 < 48 ∧ (0 ≤ xI h 107 (x3).toNat ∧ xI h 107 (x3).toNat < 16 ∧ ((xI h 129 (xI h 107 (x3).toNat).toNat = 0 → (Ev l D Y_M_findLeft (d + 1) kc ks 102 [some (vr 100), some (vi x1), some (vi x2), some (vi x3), none, none, none] [vi (0 : Int)] h Φ)) ∧ (¬ xI h 129 (xI h 107 (x3).toNat).toNat = 0 → (Ev l D Y_M_findLeft (d + 1) kc ks 102 [some (vr 100), some (vi x1), some (vi x2), some (vi x3), none, none, none] [vi (1 : Int)] h Φ)))))))))))) : Ev l D Y_M_findLeft (d + 1) kc ks 59 [some (vr 100), some (vi x1), some (vi x2), some (vi x3), none, none, none] [] h Φ := by
  refine a_iload_n d_M_findLeft_59 rfl ?_
  refine a_bipush d_M_findLeft_60 ⟨by decide, by decide⟩ (by decide) ?_
  obtain ⟨vt, vf⟩ := v
  refine a_icmp_ge (tgt := 145) d_M_findLeft_62 (by decide) (fun c => ?_) (fun c => ?_)
  · have v := vt (c); clear vt vf
    refine a_iconst d_M_findLeft_145 ⟨by decide, by decide⟩ ?_
    refine a_istore_n (L' := [some (vr 100), some (vi x1), some (vi x2), some (vi (0 : Int)), none, none, none]) d_M_findLeft_146 (Nat.le_of_ble_eq_true rfl) rfl rfl ?_
    exact v
  · have v := vf (Int.not_le.mp c); clear vt vf
    refine a_iload_n d_M_findLeft_65 rfl ?_
    refine a_aload_n d_M_findLeft_66 rfl ?_
    refine a_getI fl_M_131 d_M_findLeft_67 (beq_iff_eq.mpr (KNM_100 hM)) ?_
    obtain ⟨vt, vf⟩ := v
    refine a_icmp_ge (tgt := 101) d_M_findLeft_70 (by decide) (fun c => ?_) (fun c => ?_)
    · have v := vt (c); clear vt vf
      refine a_iconst d_M_findLeft_101 ⟨by decide, by decide⟩ ?_
      exact v
    · have v := vf (Int.not_le.mp c); clear vt vf
      refine a_aload_n d_M_findLeft_73 rfl ?_
      refine a_getAe fl_M_25 d_M_findLeft_74 (beq_iff_eq.mpr (KNM_100 hM)) (KRM_100_7 hM) ?_
      refine a_iload_n d_M_findLeft_77 rfl ?_
      obtain ⟨c2, c3, v⟩ := v
      refine a_iald d_M_findLeft_78 (Or.inl (KNM_108 hM)) c2 (lt_len (NNM_108 hM) c3) ?_
      refine a_iload_n d_M_findLeft_79 rfl ?_
      obtain ⟨vt, vf⟩ := v
      refine a_icmp_ne (tgt := 101) d_M_findLeft_80 (by decide) (fun c => ?_) (fun c => ?_)
      · have v := vt (c); clear vt vf
        refine a_iconst d_M_findLeft_101 ⟨by decide, by decide⟩ ?_
        exact v
      · have v := vf (Classical.not_not.mp c); clear vt vf
        refine a_aload_n d_M_findLeft_83 rfl ?_
        refine a_getAe fl_M_77 d_M_findLeft_84 (beq_iff_eq.mpr (KNM_100 hM)) (KRM_100_28 hM) ?_
        refine a_aload_n d_M_findLeft_87 rfl ?_
        refine a_getAe fl_M_22 d_M_findLeft_88 (beq_iff_eq.mpr (KNM_100 hM)) (KRM_100_6 hM) ?_
        refine a_iload_n d_M_findLeft_91 rfl ?_
        obtain ⟨c5, c6, v⟩ := v
        refine a_iald d_M_findLeft_92 (Or.inl (KNM_107 hM)) c5 (lt_len (NNM_107 hM) c6) ?_
        obtain ⟨c8, c9, v⟩ := v
        refine a_zald d_M_findLeft_93 (KNM_129 hM) c8 (lt_len (NNM_129 hM) c9) ?_
        obtain ⟨vt, vf⟩ := v
        refine a_if_eq (tgt := 101) d_M_findLeft_94 (by decide) (fun c => ?_) (fun c => ?_)
        · have v := vt (c); clear vt vf
          refine a_iconst d_M_findLeft_101 ⟨by decide, by decide⟩ ?_
          exact v
        · have v := vf (c); clear vt vf
          refine a_iconst d_M_findLeft_97 ⟨by decide, by decide⟩ ?_
          refine a_goto (tgt := 102) d_M_findLeft_98 (by decide) ?_
          exact v
theorem m_M_findLeft_50 {l : Launch} {D : DD} {d kc ks : Nat} {h : Hp} {Φ : Option AV → Hp → Prop} {x1 : Int} {x2 : Int} {x3 : Int} {y0 : Int} {y1 : Int} (hM : MS h) (v : 0 ≤ y1 ∧ y1 < 16 ∧ (y0 = 0 ∨ y0 = 1) ∧ (∀ h1 : Hp, h1 = sI h 129 (y1).toNat y0 → (Ev l D Y_M_findLeft (d + 1) kc ks 2 [some (vr 100), some (vi x1), some (vi x2), some (vi (wr (x3 + (1 : Int)))), none, none, none] [] h1 Φ))) : Ev l D Y_M_findLeft (d + 1) kc ks 50 [some (vr 100), some (vi x1), some (vi x2), some (vi x3), none, none, none] [vi y0, vi y1, vr 129] h Φ := by
  obtain ⟨c3, c4, c5, v⟩ := v
  have v := v _ rfl
  refine a_zast d_M_findLeft_50 (KNM_129 hM) (by decide) c3 (lt_len (NNM_129 hM) c4) c5 ?_
  refine a_iinc (L' := [some (vr 100), some (vi x1), some (vi x2), some (vi (wr (x3 + (1 : Int)))), none, none, none]) d_M_findLeft_51 rfl (Nat.le_of_ble_eq_true rfl) rfl rfl ?_
  refine a_goto (tgt := 2) d_M_findLeft_54 (by decide) ?_
  exact v
theorem m_M_findLeft_147 {l : Launch} {D : DD} {d kc ks : Nat} {h : Hp} {Φ : Option AV → Hp → Prop} {x1 : Int} {x2 : Int} {x3 : Int} (hM : MS h) (v : (x3 ≥ xI h 100 5 → (Φ none h)) ∧ (x3 < xI h 100 5 → (0 ≤ x3 ∧ x3 < 48 ∧ (Ev l D Y_M_findLeft (d + 1) kc ks 166 [some (vr 100), some (vi x1), some (vi x2), some (vi x3), some (vi (xI h 128 (x3).toNat)), some (vi (0 : Int)), none] [] h Φ)))) : Ev l D Y_M_findLeft (d + 1) kc ks 147 [some (vr 100), some (vi x1), some (vi x2), some (vi x3), none, none, none] [] h Φ := by
  refine a_iload_n d_M_findLeft_147 rfl ?_
  refine a_aload_n d_M_findLeft_148 rfl ?_
  refine a_getI fl_M_131 d_M_findLeft_149 (beq_iff_eq.mpr (KNM_100 hM)) ?_
  obtain ⟨vt, vf⟩ := v
  refine a_icmp_ge (tgt := 302) d_M_findLeft_152 (by decide) (fun c => ?_) (fun c => ?_)
  · have v := vt (c); clear vt vf
    exact a_vret d_M_findLeft_302 rfl v
  · have v := vf (Int.not_le.mp c); clear vt vf
    refine a_aload_n d_M_findLeft_155 rfl ?_
    refine a_getAe fl_M_74 d_M_findLeft_156 (beq_iff_eq.mpr (KNM_100 hM)) (KRM_100_27 hM) ?_
    refine a_iload_n d_M_findLeft_159 rfl ?_
    obtain ⟨c2, c3, v⟩ := v
    refine a_zald d_M_findLeft_160 (KNM_128 hM) c2 (lt_len (NNM_128 hM) c3) ?_
    refine a_istore (L' := [some (vr 100), some (vi x1), some (vi x2), some (vi x3), some (vi (xI h 128 (x3).toNat)), none, none]) d_M_findLeft_161 (Nat.le_of_ble_eq_true rfl) rfl rfl ?_
    refine a_iconst d_M_findLeft_163 ⟨by decide, by decide⟩ ?_
    refine a_istore (L' := [some (vr 100), some (vi x1), some (vi x2), some (vi x3), some (vi (xI h 128 (x3).toNat)), some (vi (0 : Int)), none]) d_M_findLeft_164 (Nat.le_of_ble_eq_true rfl) rfl rfl ?_
    exact v
theorem m_M_findLeft_102 {l : Launch} {D : DD} {d kc ks : Nat} {h : Hp} {Φ : Option AV → Hp → Prop} {x1 : Int} {x2 : Int} {x3 : Int} {y0 : Int} (hM : MS h) (v : (y0 = 0 → (Ev l D Y_M_findLeft (d + 1) kc ks 138 [some (vr 100), some (vi x1), some (vi x2), some (vi x3), some (vi y0), none, none] [vi (0 : Int), vi x3, vr 128] h Φ)) ∧ (¬ y0 = 0 → (0 ≤ x3 ∧ x3 < 48 ∧ ((xI h 109 (x3).toNat = 0 → (Ev l D Y_M_findLeft (d + 1) kc ks 138 [some (vr 100), some (vi x1), some (vi x2), some (vi x3), some (vi y0), none, none] [vi (1 : Int), vi x3, vr 128] h Φ)) ∧ (¬ xI h 109 (x3).toNat = 0 → (0 ≤ x3 ∧ x3 < 48 ∧ ((¬ xI h 109 (x3).toNat = (1 : Int) → (Ev l D Y_M_findLeft (d + 1) kc ks 138 [some (vr 100), some (vi x1), some (vi x2), some (vi x3), some (vi y0), none, none] [vi (0 : Int), vi x3, vr 128] h Φ)) ∧ (xI h 109 (x3).toNat = (1 : Int) → (Ev l D Y_M_findLeft (d + 1) kc ks 138 [some (vr 100), some (vi x1), some (vi x2), some (vi x3), some (vi y0), none, none] [vi (1 : Int), vi x3, vr 128] h Φ))))))))) : Ev l D Y_M_findLeft (d + 1) kc ks 102 [some (vr 100), some (vi x1), some (vi x2), some (vi x3), none, none, none] [vi y0] h Φ := by
  refine a_istore (L' := [some (vr 100), some (vi x1), some (vi x2), some (vi x3), some (vi y0), none, none]) d_M_findLeft_102 (Nat.le_of_ble_eq_true rfl) rfl rfl ?_
  refine a_aload_n d_M_findLeft_104 rfl ?_
  refine a_getAe fl_M_74 d_M_findLeft_105 (beq_iff_eq.mpr (KNM_100 hM)) (KRM_100_27 hM) ?_
  refine a_iload_n d_M_findLeft_108 rfl ?_
  refine a_iload d_M_findLeft_109 rfl ?_
  obtain ⟨vt, vf⟩ := v
  refine a_if_eq (tgt := 137) d_M_findLeft_111 (by decide) (fun c => ?_) (fun c => ?_)
  · have v := vt (c); clear vt vf
    refine a_iconst d_M_findLeft_137 ⟨by decide, by decide⟩ ?_
    exact v
  · have v := vf (c); clear vt vf
    refine a_aload_n d_M_findLeft_114 rfl ?_
    refine a_getAe fl_M_28 d_M_findLeft_115 (beq_iff_eq.mpr (KNM_100 hM)) (KRM_100_8 hM) ?_
    refine a_iload_n d_M_findLeft_118 rfl ?_
    obtain ⟨c2, c3, v⟩ := v
    refine a_iald d_M_findLeft_119 (Or.inl (KNM_109 hM)) c2 (lt_len (NNM_109 hM) c3) ?_
    obtain ⟨vt, vf⟩ := v
    refine a_if_eq (tgt := 133) d_M_findLeft_120 (by decide) (fun c => ?_) (fun c => ?_)
    · have v := vt (c); clear vt vf
      refine a_iconst d_M_findLeft_133 ⟨by decide, by decide⟩ ?_
      refine a_goto (tgt := 138) d_M_findLeft_134 (by decide) ?_
      exact v
    · have v := vf (c); clear vt vf
      refine a_aload_n d_M_findLeft_123 rfl ?_
      refine a_getAe fl_M_28 d_M_findLeft_124 (beq_iff_eq.mpr (KNM_100 hM)) (KRM_100_8 hM) ?_
      refine a_iload_n d_M_findLeft_127 rfl ?_
      obtain ⟨c5, c6, v⟩ := v
      refine a_iald d_M_findLeft_128 (Or.inl (KNM_109 hM)) c5 (lt_len (NNM_109 hM) c6) ?_
      refine a_iconst d_M_findLeft_129 ⟨by decide, by decide⟩ ?_
      obtain ⟨vt, vf⟩ := v
      refine a_icmp_ne (tgt := 137) d_M_findLeft_130 (by decide) (fun c => ?_) (fun c => ?_)
      · have v := vt (c); clear vt vf
        refine a_iconst d_M_findLeft_137 ⟨by decide, by decide⟩ ?_
        exact v
      · have v := vf (Classical.not_not.mp c); clear vt vf
        refine a_iconst d_M_findLeft_133 ⟨by decide, by decide⟩ ?_
        refine a_goto (tgt := 138) d_M_findLeft_134 (by decide) ?_
        exact v
theorem m_M_findLeft_166 {l : Launch} {D : DD} {d kc ks : Nat} {h : Hp} {Φ : Option AV → Hp → Prop} {x1 : Int} {x2 : Int} {x3 : Int} {x4 : Int} {x5 : Int} (hM : MS h) (v : (x5 ≥ xI h 100 5 → (0 ≤ x3 ∧ x3 < 48 ∧ (x4 = 0 ∨ x4 = 1) ∧ (∀ h1 : Hp, h1 = sI h 128 (x3).toNat x4 → (Ev l D Y_M_findLeft (d + 1) kc ks 147 [some (vr 100), some (vi x1), some (vi x2), some (vi (wr (x3 + (1 : Int)))), none, none, none] [] h1 Φ)))) ∧ (x5 < xI h 100 5 → ((x4 = 0 → (0 ≤ x3 ∧ x3 < 48 ∧ (x4 = 0 ∨ x4 = 1) ∧ (∀ h2 : Hp, h2 = sI h 128 (x3).toNat x4 → (Ev l D Y_M_findLeft (d + 1) kc ks 147 [some (vr 100), some (vi x1), some (vi x2), some (vi (wr (x3 + (1 : Int)))), none, none, none] [] h2 Φ)))) ∧ (¬ x4 = 0 → (0 ≤ x5 ∧ x5 < 48 ∧ ((¬ xI h 108 (x5).toNat = x2 → (Ev l D Y_M_findLeft (d + 1) kc ks 232 [some (vr 100), some (vi x1), some (vi x2), some (vi x3), some (vi x4), some (vi x5), none] [vi (0 : Int)] h Φ)) ∧ (xI h 108 (x5).toNat = x2 → (0 ≤ x5 ∧ x5 < 48 ∧ (0 ≤ xI h 107 (x5).toNat ∧ xI h 107 (x5).toNat < 16 ∧ ((xI h 129 (xI h 107 (x5).toNat).toNat = 0 → (Ev l D Y_M_findLeft (d + 1) kc ks 232 [some (vr 100), some (vi x1), some (vi x2), some (vi x3), some (vi x4), some (vi x5), none] [vi (0 : Int)] h Φ)) ∧ (¬ xI h 129 (xI h 107 (x5).toNat).toNat = 0 → (0 ≤ x5 ∧ x5 < 48 ∧ ((xI h 109 (x5).toNat = 0 → (Ev l D Y_M_findLeft (d + 1) kc ks 232 [some (vr 100), some (vi x1), some (vi x2), some (vi x3), some (vi x4), some (vi x5), none] [vi (1 : Int)] h Φ)) ∧ (¬ xI h 109 (x5).toNat = 0 → (0 ≤ x5 ∧ x5 < 48 ∧ ((¬ xI h 109 (x5).toNat = (1 : Int) → (Ev l D Y_M_findLeft (d + 1) kc ks 232 [some (vr 100), some (vi x1), some (vi x2), some (vi x3), some (vi x4), some (vi x5), none] [vi (0 : Int)] h Φ)) ∧ (xI h 109 (x5).toNat = (1 : Int) → (Ev l D Y_M_findLeft (d + 1) kc ks 232 [some (vr 100), some (vi x1), some (vi x2), some (vi x3), some (vi x4), some (vi x5), none] [vi (1 : Int)] h Φ)))))))))))))))))) : Ev l D Y_M_findLeft (d + 1) kc ks 166 [some (vr 100), some (vi x1), some (vi x2), some (vi x3), some (vi x4), some (vi x5), none] [] h Φ := by
  refine a_iload d_M_findLeft_166 rfl ?_
  refine a_aload_n d_M_findLeft_168 rfl ?_
  refine a_getI fl_M_131 d_M_findLeft_169 (beq_iff_eq.mpr (KNM_100 hM)) ?_
  obtain ⟨vt, vf⟩ := v
  refine a_icmp_ge (tgt := 288) d_M_findLeft_172 (by decide) (fun c => ?_) (fun c => ?_)
  · have v := vt (c); clear vt vf
    refine a_aload_n d_M_findLeft_288 rfl ?_
    refine a_getAe fl_M_74 d_M_findLeft_289 (beq_iff_eq.mpr (KNM_100 hM)) (KRM_100_27 hM) ?_
    refine a_iload_n d_M_findLeft_292 rfl ?_
    refine a_iload d_M_findLeft_293 rfl ?_
    obtain ⟨c3, c4, c5, v⟩ := v
    have v := v _ rfl
    refine a_zast d_M_findLeft_295 (KNM_128 hM) (by decide) c3 (lt_len (NNM_128 hM) c4) c5 ?_
    refine a_iinc (L' := [some (vr 100), some (vi x1), some (vi x2), some (vi (wr (x3 + (1 : Int)))), some (vi x4), some (vi x5), none]) d_M_findLeft_296 rfl (Nat.le_of_ble_eq_true rfl) rfl rfl ?_
    refine a_goto (tgt := 147) d_M_findLeft_299 (by decide) ?_
    exact Ev.weak v ⟨rfl, rfl, rfl, rfl, trivial⟩
  · have v := vf (Int.not_le.mp c); clear vt vf
    refine a_iload d_M_findLeft_175 rfl ?_
    obtain ⟨vt, vf⟩ := v
    refine a_if_eq (tgt := 288) d_M_findLeft_177 (by decide) (fun c => ?_) (fun c => ?_)
    · have v := vt (c); clear vt vf
      refine a_aload_n d_M_findLeft_288 rfl ?_
      refine a_getAe fl_M_74 d_M_findLeft_289 (beq_iff_eq.mpr (KNM_100 hM)) (KRM_100_27 hM) ?_
      refine a_iload_n d_M_findLeft_292 rfl ?_
      refine a_iload d_M_findLeft_293 rfl ?_
      obtain ⟨c8, c9, c10, v⟩ := v
      have v := v _ rfl
      refine a_zast d_M_findLeft_295 (KNM_128 hM) (by decide) c8 (lt_len (NNM_128 hM) c9) c10 ?_
      refine a_iinc (L' := [some (vr 100), some (vi x1), some (vi x2), some (vi (wr (x3 + (1 : Int)))), some (vi x4), some (vi x5), none]) d_M_findLeft_296 rfl (Nat.le_of_ble_eq_true rfl) rfl rfl ?_
      refine a_goto (tgt := 147) d_M_findLeft_299 (by decide) ?_
      exact Ev.weak v ⟨rfl, rfl, rfl, rfl, trivial⟩
    · have v := vf (c); clear vt vf
      refine a_aload_n d_M_findLeft_180 rfl ?_
      refine a_getAe fl_M_25 d_M_findLeft_181 (beq_iff_eq.mpr (KNM_100 hM)) (KRM_100_7 hM) ?_
      refine a_iload d_M_findLeft_184 rfl ?_
      obtain ⟨c12, c13, v⟩ := v
      refine a_iald d_M_findLeft_186 (Or.inl (KNM_108 hM)) c12 (lt_len (NNM_108 hM) c13) ?_
      refine a_iload_n d_M_findLeft_187 rfl ?_
      obtain ⟨vt, vf⟩ := v
      refine a_icmp_ne (tgt := 231) d_M_findLeft_188 (by decide) (fun c => ?_) (fun c => ?_)
      · have v := vt (c); clear vt vf
        refine a_iconst d_M_findLeft_231 ⟨by decide, by decide⟩ ?_
        exact v
      · have v := vf (Classical.not_not.mp c); clear vt vf
        refine a_aload_n d_M_findLeft_191 rfl ?_
        refine a_getAe fl_M_77 d_M_findLeft_192 (beq_iff_eq.mpr (KNM_100 hM)) (KRM_100_28 hM) ?_
        refine a_aload_n d_M_findLeft_195 rfl ?_
        refine a_getAe fl_M_22 d_M_findLeft_196 (beq_iff_eq.mpr (KNM_100 hM)) (KRM_100_6 hM) ?_
        refine a_iload d_M_findLeft_199 rfl ?_
        obtain ⟨c15, c16, v⟩ := v
        refine a_iald d_M_findLeft_201 (Or.inl (KNM_107 hM)) c15 (lt_len (NNM_107 hM) c16) ?_
        obtain ⟨c18, c19, v⟩ := v
        refine a_zald d_M_findLeft_202 (KNM_129 hM) c18 (lt_len (NNM_129 hM) c19) ?_
        obtain ⟨vt, vf⟩ := v
        refine a_if_eq (tgt := 231) d_M_findLeft_203 (by decide) (fun c => ?_) (fun c => ?_)
        · have v := vt (c); clear vt vf
          refine a_iconst d_M_findLeft_231 ⟨by decide, by decide⟩ ?_
          exact v
        · have v := vf (c); clear vt vf
          refine a_aload_n d_M_findLeft_206 rfl ?_
          refine a_getAe fl_M_28 d_M_findLeft_207 (beq_iff_eq.mpr (KNM_100 hM)) (KRM_100_8 hM) ?_
          refine a_iload d_M_findLeft_210 rfl ?_
          obtain ⟨c21, c22, v⟩ := v
          refine a_iald d_M_findLeft_212 (Or.inl (KNM_109 hM)) c21 (lt_len (NNM_109 hM) c22) ?_
          obtain ⟨vt, vf⟩ := v
          refine a_if_eq (tgt := 227) d_M_findLeft_213 (by decide) (fun c => ?_) (fun c => ?_)
          · have v := vt (c); clear vt vf
            refine a_iconst d_M_findLeft_227 ⟨by decide, by decide⟩ ?_
            refine a_goto (tgt := 232) d_M_findLeft_228 (by decide) ?_
            exact v
          · have v := vf (c); clear vt vf
            refine a_aload_n d_M_findLeft_216 rfl ?_
            refine a_getAe fl_M_28 d_M_findLeft_217 (beq_iff_eq.mpr (KNM_100 hM)) (KRM_100_8 hM) ?_
            refine a_iload d_M_findLeft_220 rfl ?_
            obtain ⟨c24, c25, v⟩ := v
            refine a_iald d_M_findLeft_222 (Or.inl (KNM_109 hM)) c24 (lt_len (NNM_109 hM) c25) ?_
            refine a_iconst d_M_findLeft_223 ⟨by decide, by decide⟩ ?_
            obtain ⟨vt, vf⟩ := v
            refine a_icmp_ne (tgt := 231) d_M_findLeft_224 (by decide) (fun c => ?_) (fun c => ?_)
            · have v := vt (c); clear vt vf
              refine a_iconst d_M_findLeft_231 ⟨by decide, by decide⟩ ?_
              exact v
            · have v := vf (Classical.not_not.mp c); clear vt vf
              refine a_iconst d_M_findLeft_227 ⟨by decide, by decide⟩ ?_
              refine a_goto (tgt := 232) d_M_findLeft_228 (by decide) ?_
              exact v
theorem m_M_findLeft_138 {l : Launch} {D : DD} {d kc ks : Nat} {h : Hp} {Φ : Option AV → Hp → Prop} {x1 : Int} {x2 : Int} {x3 : Int} {x4 : Int} {y0 : Int} {y1 : Int} (hM : MS h) (v : 0 ≤ y1 ∧ y1 < 48 ∧ (y0 = 0 ∨ y0 = 1) ∧ (∀ h1 : Hp, h1 = sI h 128 (y1).toNat y0 → (Ev l D Y_M_findLeft (d + 1) kc ks 59 [some (vr 100), some (vi x1), some (vi x2), some (vi (wr (x3 + (1 : Int)))), none, none, none] [] h1 Φ))) : Ev l D Y_M_findLeft (d + 1) kc ks 138 [some (vr 100), some (vi x1), some (vi x2), some (vi x3), some (vi x4), none, none] [vi y0, vi y1, vr 128] h Φ := by
  obtain ⟨c3, c4, c5, v⟩ := v
  have v := v _ rfl
  refine a_zast d_M_findLeft_138 (KNM_128 hM) (by decide) c3 (lt_len (NNM_128 hM) c4) c5 ?_
  refine a_iinc (L' := [some (vr 100), some (vi x1), some (vi x2), some (vi (wr (x3 + (1 : Int)))), some (vi x4), none, none]) d_M_findLeft_139 rfl (Nat.le_of_ble_eq_true rfl) rfl rfl ?_
  refine a_goto (tgt := 59) d_M_findLeft_142 (by decide) ?_
  exact Ev.weak v ⟨rfl, rfl, rfl, rfl, trivial⟩
theorem m_M_findLeft_232 {l : Launch} {D : DD} {d kc ks : Nat} {h : Hp} {Φ : Option AV → Hp → Prop} {x1 : Int} {x2 : Int} {x3 : Int} {x4 : Int} {x5 : Int} {y0 : Int} (hM : MS h) (v : (y0 = 0 → (Ev l D Y_M_findLeft (d + 1) kc ks 280 [some (vr 100), some (vi x1), some (vi x2), some (vi x3), some (vi x4), some (vi x5), some (vi y0)] [vi (1 : Int)] h Φ)) ∧ (¬ y0 = 0 → (0 ≤ x5 ∧ x5 < 48 ∧ (0 ≤ x3 ∧ x3 < 48 ∧ ((xI h 107 (x5).toNat = xI h 107 (x3).toNat → (Ev l D Y_M_findLeft (d + 1) kc ks 280 [some (vr 100), some (vi x1), some (vi x2), some (vi x3), some (vi x4), some (vi x5), some (vi y0)] [vi (1 : Int)] h Φ)) ∧ (¬ xI h 107 (x5).toNat = xI h 107 (x3).toNat → (0 ≤ x5 ∧ x5 < 48 ∧ (0 ≤ x3 ∧ x3 < 48 ∧ (Ev l D Y_M_isUnder d 0 0 0 [some (vr 100), some (vi (xI h 107 (x5).toNat)), some (vi (xI h 107 (x3).toNat)), none, none] [] h (ki (fun r1 h1 => MS h1 ∧ ((¬ r1 = 0 → (Ev l D Y_M_findLeft (d + 1) kc ks 280 [some (vr 100), some (vi x1), some (vi x2), some (vi x3), some (vi x4), some (vi x5), some (vi y0)] [vi (0 : Int)] h1 Φ)) ∧ (r1 = 0 → (Ev l D Y_M_findLeft (d + 1) kc ks 280 [some (vr 100), some (vi x1), some (vi x2), some (vi x3), some (vi x4), some (vi x5), some (vi y0)] [vi (1 : Int)] h1 Φ)))))))))))))) : Ev l D Y_M_findLeft (d + 1) kc ks 232 [some (vr 100), some (vi x1), some (vi x2), some (vi x3), some (vi x4), some (vi x5), none] [vi y0] h Φ := by
  refine a_istore (L' := [some (vr 100), some (vi x1), some (vi x2), some (vi x3), some (vi x4), some (vi x5), some (vi y0)]) d_M_findLeft_232 (Nat.le_of_ble_eq_true rfl) rfl rfl ?_
  refine a_iload d_M_findLeft_234 rfl ?_
  obtain ⟨vt, vf⟩ := v
  refine a_if_eq (tgt := 275) d_M_findLeft_236 (by decide) (fun c => ?_) (fun c => ?_)
  · have v := vt (c); clear vt vf
    refine a_iconst d_M_findLeft_275 ⟨by decide, by decide⟩ ?_
    refine a_goto (tgt := 280) d_M_findLeft_276 (by decide) ?_
    exact v
  · have v := vf (c); clear vt vf
    refine a_aload_n d_M_findLeft_239 rfl ?_
    refine a_getAe fl_M_22 d_M_findLeft_240 (beq_iff_eq.mpr (KNM_100 hM)) (KRM_100_6 hM) ?_
    refine a_iload d_M_findLeft_243 rfl ?_
    obtain ⟨c2, c3, v⟩ := v
    refine a_iald d_M_findLeft_245 (Or.inl (KNM_107 hM)) c2 (lt_len (NNM_107 hM) c3) ?_
    refine a_aload_n d_M_findLeft_246 rfl ?_
    refine a_getAe fl_M_22 d_M_findLeft_247 (beq_iff_eq.mpr (KNM_100 hM)) (KRM_100_6 hM) ?_
    refine a_iload_n d_M_findLeft_250 rfl ?_
    obtain ⟨c5, c6, v⟩ := v
    refine a_iald d_M_findLeft_251 (Or.inl (KNM_107 hM)) c5 (lt_len (NNM_107 hM) c6) ?_
    obtain ⟨vt, vf⟩ := v
    refine a_icmp_eq (tgt := 275) d_M_findLeft_252 (by decide) (fun c => ?_) (fun c => ?_)
    · have v := vt (c); clear vt vf
      refine a_iconst d_M_findLeft_275 ⟨by decide, by decide⟩ ?_
      refine a_goto (tgt := 280) d_M_findLeft_276 (by decide) ?_
      exact v
    · have v := vf (c); clear vt vf
      refine a_aload_n d_M_findLeft_255 rfl ?_
      refine a_aload_n d_M_findLeft_256 rfl ?_
      refine a_getAe fl_M_22 d_M_findLeft_257 (beq_iff_eq.mpr (KNM_100 hM)) (KRM_100_6 hM) ?_
      refine a_iload d_M_findLeft_260 rfl ?_
      obtain ⟨c8, c9, v⟩ := v
      refine a_iald d_M_findLeft_262 (Or.inl (KNM_107 hM)) c8 (lt_len (NNM_107 hM) c9) ?_
      refine a_aload_n d_M_findLeft_263 rfl ?_
      refine a_getAe fl_M_22 d_M_findLeft_264 (beq_iff_eq.mpr (KNM_100 hM)) (KRM_100_6 hM) ?_
      refine a_iload_n d_M_findLeft_267 rfl ?_
      obtain ⟨c11, c12, v⟩ := v
      refine a_iald d_M_findLeft_268 (Or.inl (KNM_107 hM)) c11 (lt_len (NNM_107 hM) c12) ?_
      refine b_callV (as := [vi (xI h 107 (x5).toNat), vi (xI h 107 (x3).toNat)]) (b := 100) (st := []) (kd := 12) (kc1 := 0) (ks1 := 0) (kc2 := kc) (ks2 := ks) (d' := d) ml_M_166 rfl d_M_findLeft_269 rfl rfl (Nat.le_of_ble_eq_true rfl) (by decide) rfl (Nat.le_refl _) (by omega) (by omega) (KNM_100 hM) ?_
      refine Ev.mono v ?_
      intro u h1 v
      obtain ⟨r1, rfl, v⟩ := ki_el v
      obtain ⟨hm1, v⟩ := v
      change Ev l D Y_M_findLeft _ _ _ 272 [some (vr 100), some (vi x1), some (vi x2), some (vi x3), some (vi x4), some (vi x5), some (vi y0)] [vi r1] _ _
      obtain ⟨vt, vf⟩ := v
      refine a_if_ne (tgt := 279) d_M_findLeft_272 (by decide) (fun c => ?_) (fun c => ?_)
      · have v := vt (c); clear vt vf
        refine a_iconst d_M_findLeft_279 ⟨by decide, by decide⟩ ?_
        exact v
      · have v := vf (Classical.not_not.mp c); clear vt vf
        refine a_iconst d_M_findLeft_275 ⟨by decide, by decide⟩ ?_
        refine a_goto (tgt := 280) d_M_findLeft_276 (by decide) ?_
        exact v
theorem m_M_findLeft_280 {l : Launch} {D : DD} {d kc ks : Nat} {h : Hp} {Φ : Option AV → Hp → Prop} {x1 : Int} {x2 : Int} {x3 : Int} {x4 : Int} {x5 : Int} {x6 : Int} {y0 : Int} (hM : MS h) (v : Ev l D Y_M_findLeft (d + 1) kc ks 166 [some (vr 100), some (vi x1), some (vi x2), some (vi x3), some (vi y0), some (vi (wr (x5 + (1 : Int)))), none] [] h Φ) : Ev l D Y_M_findLeft (d + 1) kc ks 280 [some (vr 100), some (vi x1), some (vi x2), some (vi x3), some (vi x4), some (vi x5), some (vi x6)] [vi y0] h Φ := by
  refine a_istore (L' := [some (vr 100), some (vi x1), some (vi x2), some (vi x3), some (vi y0), some (vi x5), some (vi x6)]) d_M_findLeft_280 (Nat.le_of_ble_eq_true rfl) rfl rfl ?_
  refine a_iinc (L' := [some (vr 100), some (vi x1), some (vi x2), some (vi x3), some (vi y0), some (vi (wr (x5 + (1 : Int)))), some (vi x6)]) d_M_findLeft_282 rfl (Nat.le_of_ble_eq_true rfl) rfl rfl ?_
  refine a_goto (tgt := 166) d_M_findLeft_285 (by decide) ?_
  exact Ev.weak v ⟨rfl, rfl, rfl, rfl, rfl, rfl, trivial⟩
theorem d_M_find_0 : decode Y_M_find.2.1 0 = .ok (.iload_n 1, 1) := by decide +kernel
theorem d_M_find_1 : decode Y_M_find.2.1 1 = .ok (.istore_n 3, 1) := by decide +kernel
theorem d_M_find_2 : decode Y_M_find.2.1 2 = .ok (.iload_n 3, 1) := by decide +kernel
theorem d_M_find_3 : decode Y_M_find.2.1 3 = .ok (.iconst (-1), 1) := by decide +kernel
theorem d_M_find_4 : decode Y_M_find.2.1 4 = .ok (.if_icmp .eq 44, 3) := by decide +kernel
theorem d_M_find_7 : decode Y_M_find.2.1 7 = .ok (.aload_n 0, 1) := by decide +kernel
theorem d_M_find_8 : decode Y_M_find.2.1 8 = .ok (.iload_n 3, 1) := by decide +kernel
theorem d_M_find_9 : decode Y_M_find.2.1 9 = .ok (.iload_n 2, 1) := by decide +kernel
theorem d_M_find_10 : decode Y_M_find.2.1 10 = .ok (.invokevirtual 145, 3) := by decide +kernel
theorem d_M_find_13 : decode Y_M_find.2.1 13 = .ok (.istore 4, 2) := by decide +kernel
theorem d_M_find_15 : decode Y_M_find.2.1 15 = .ok (.iload 4, 2) := by decide +kernel
theorem d_M_find_17 : decode Y_M_find.2.1 17 = .ok (.iconst (-1), 1) := by decide +kernel
theorem d_M_find_18 : decode Y_M_find.2.1 18 = .ok (.if_icmp .eq 6, 3) := by decide +kernel
theorem d_M_find_21 : decode Y_M_find.2.1 21 = .ok (.iload 4, 2) := by decide +kernel
theorem d_M_find_23 : decode Y_M_find.2.1 23 = .ok (.ireturn, 1) := by decide +kernel
theorem d_M_find_24 : decode Y_M_find.2.1 24 = .ok (.aload_n 0, 1) := by decide +kernel
theorem d_M_find_25 : decode Y_M_find.2.1 25 = .ok (.getfield 7, 3) := by decide +kernel
theorem d_M_find_28 : decode Y_M_find.2.1 28 = .ok (.iload_n 3, 1) := by decide +kernel
theorem d_M_find_29 : decode Y_M_find.2.1 29 = .ok (.iaload, 1) := by decide +kernel
theorem d_M_find_30 : decode Y_M_find.2.1 30 = .ok (.iconst 2, 1) := by decide +kernel
theorem d_M_find_31 : decode Y_M_find.2.1 31 = .ok (.if_icmp .ne 7, 3) := by decide +kernel
theorem d_M_find_34 : decode Y_M_find.2.1 34 = .ok (.iconst (-1), 1) := by decide +kernel
theorem d_M_find_35 : decode Y_M_find.2.1 35 = .ok (.goto 9, 3) := by decide +kernel
theorem d_M_find_38 : decode Y_M_find.2.1 38 = .ok (.aload_n 0, 1) := by decide +kernel
theorem d_M_find_39 : decode Y_M_find.2.1 39 = .ok (.getfield 13, 3) := by decide +kernel
theorem d_M_find_42 : decode Y_M_find.2.1 42 = .ok (.iload_n 3, 1) := by decide +kernel
theorem d_M_find_43 : decode Y_M_find.2.1 43 = .ok (.iaload, 1) := by decide +kernel
theorem d_M_find_44 : decode Y_M_find.2.1 44 = .ok (.istore_n 3, 1) := by decide +kernel
theorem d_M_find_45 : decode Y_M_find.2.1 45 = .ok (.goto (-43), 3) := by decide +kernel
theorem d_M_find_48 : decode Y_M_find.2.1 48 = .ok (.aload_n 0, 1) := by decide +kernel
theorem d_M_find_49 : decode Y_M_find.2.1 49 = .ok (.iload_n 1, 1) := by decide +kernel
theorem d_M_find_50 : decode Y_M_find.2.1 50 = .ok (.iload_n 2, 1) := by decide +kernel
theorem d_M_find_51 : decode Y_M_find.2.1 51 = .ok (.invokevirtual 169, 3) := by decide +kernel
theorem d_M_find_54 : decode Y_M_find.2.1 54 = .ok (.iconst (-1), 1) := by decide +kernel
theorem d_M_find_55 : decode Y_M_find.2.1 55 = .ok (.istore 4, 2) := by decide +kernel
theorem d_M_find_57 : decode Y_M_find.2.1 57 = .ok (.iconst (-1), 1) := by decide +kernel
theorem d_M_find_58 : decode Y_M_find.2.1 58 = .ok (.istore 5, 2) := by decide +kernel
theorem d_M_find_60 : decode Y_M_find.2.1 60 = .ok (.iconst 0, 1) := by decide +kernel
theorem d_M_find_61 : decode Y_M_find.2.1 61 = .ok (.istore 6, 2) := by decide +kernel
theorem d_M_find_63 : decode Y_M_find.2.1 63 = .ok (.aload_n 0, 1) := by decide +kernel
theorem d_M_find_64 : decode Y_M_find.2.1 64 = .ok (.getfield 131, 3) := by decide +kernel
theorem d_M_find_67 : decode Y_M_find.2.1 67 = .ok (.iconst 1, 1) := by decide +kernel
theorem d_M_find_68 : decode Y_M_find.2.1 68 = .ok (.isub, 1) := by decide +kernel
theorem d_M_find_69 : decode Y_M_find.2.1 69 = .ok (.istore 7, 2) := by decide +kernel
theorem d_M_find_71 : decode Y_M_find.2.1 71 = .ok (.iload 7, 2) := by decide +kernel
theorem d_M_find_73 : decode Y_M_find.2.1 73 = .ok (.ifCond .lt 87, 3) := by decide +kernel
theorem d_M_find_76 : decode Y_M_find.2.1 76 = .ok (.aload_n 0, 1) := by decide +kernel
theorem d_M_find_77 : decode Y_M_find.2.1 77 = .ok (.getfield 74, 3) := by decide +kernel
theorem d_M_find_80 : decode Y_M_find.2.1 80 = .ok (.iload 7, 2) := by decide +kernel
theorem d_M_find_82 : decode Y_M_find.2.1 82 = .ok (.baload, 1) := by decide +kernel
theorem d_M_find_83 : decode Y_M_find.2.1 83 = .ok (.ifCond .eq 8, 3) := by decide +kernel
theorem d_M_find_86 : decode Y_M_find.2.1 86 = .ok (.iload 7, 2) := by decide +kernel
theorem d_M_find_88 : decode Y_M_find.2.1 88 = .ok (.goto 5, 3) := by decide +kernel
theorem d_M_find_91 : decode Y_M_find.2.1 91 = .ok (.iload 4, 2) := by decide +kernel
theorem d_M_find_93 : decode Y_M_find.2.1 93 = .ok (.istore 4, 2) := by decide +kernel
theorem d_M_find_95 : decode Y_M_find.2.1 95 = .ok (.aload_n 0, 1) := by decide +kernel
theorem d_M_find_96 : decode Y_M_find.2.1 96 = .ok (.getfield 74, 3) := by decide +kernel
theorem d_M_find_99 : decode Y_M_find.2.1 99 = .ok (.iload 7, 2) := by decide +kernel
theorem d_M_find_101 : decode Y_M_find.2.1 101 = .ok (.baload, 1) := by decide +kernel
theorem d_M_find_102 : decode Y_M_find.2.1 102 = .ok (.ifCond .eq 18, 3) := by decide +kernel
theorem d_M_find_105 : decode Y_M_find.2.1 105 = .ok (.aload_n 0, 1) := by decide +kernel
theorem d_M_find_106 : decode Y_M_find.2.1 106 = .ok (.getfield 28, 3) := by decide +kernel
theorem d_M_find_109 : decode Y_M_find.2.1 109 = .ok (.iload 7, 2) := by decide +kernel
theorem d_M_find_111 : decode Y_M_find.2.1 111 = .ok (.iaload, 1) := by decide +kernel
theorem d_M_find_112 : decode Y_M_find.2.1 112 = .ok (.ifCond .ne 8, 3) := by decide +kernel
theorem d_M_find_115 : decode Y_M_find.2.1 115 = .ok (.iload 7, 2) := by decide +kernel
theorem d_M_find_117 : decode Y_M_find.2.1 117 = .ok (.goto 5, 3) := by decide +kernel
theorem d_M_find_120 : decode Y_M_find.2.1 120 = .ok (.iload 5, 2) := by decide +kernel
theorem d_M_find_122 : decode Y_M_find.2.1 122 = .ok (.istore 5, 2) := by decide +kernel
theorem d_M_find_124 : decode Y_M_find.2.1 124 = .ok (.iload 6, 2) := by decide +kernel
theorem d_M_find_126 : decode Y_M_find.2.1 126 = .ok (.aload_n 0, 1) := by decide +kernel
theorem d_M_find_127 : decode Y_M_find.2.1 127 = .ok (.getfield 74, 3) := by decide +kernel
theorem d_M_find_130 : decode Y_M_find.2.1 130 = .ok (.iload 7, 2) := by decide +kernel
theorem d_M_find_132 : decode Y_M_find.2.1 132 = .ok (.baload, 1) := by decide +kernel
theorem d_M_find_133 : decode Y_M_find.2.1 133 = .ok (.ifCond .eq 17, 3) := by decide +kernel
theorem d_M_find_136 : decode Y_M_find.2.1 136 = .ok (.aload_n 0, 1) := by decide +kernel
theorem d_M_find_137 : decode Y_M_find.2.1 137 = .ok (.getfield 28, 3) := by decide +kernel
theorem d_M_find_140 : decode Y_M_find.2.1 140 = .ok (.iload 7, 2) := by decide +kernel
theorem d_M_find_142 : decode Y_M_find.2.1 142 = .ok (.iaload, 1) := by decide +kernel
theorem d_M_find_143 : decode Y_M_find.2.1 143 = .ok (.ifCond .ne 7, 3) := by decide +kernel
theorem d_M_find_146 : decode Y_M_find.2.1 146 = .ok (.iconst 1, 1) := by decide +kernel
theorem d_M_find_147 : decode Y_M_find.2.1 147 = .ok (.goto 4, 3) := by decide +kernel
theorem d_M_find_150 : decode Y_M_find.2.1 150 = .ok (.iconst 0, 1) := by decide +kernel
theorem d_M_find_151 : decode Y_M_find.2.1 151 = .ok (.iadd, 1) := by decide +kernel
theorem d_M_find_152 : decode Y_M_find.2.1 152 = .ok (.istore 6, 2) := by decide +kernel
theorem d_M_find_154 : decode Y_M_find.2.1 154 = .ok (.iinc 7 (-1), 3) := by decide +kernel
theorem d_M_find_157 : decode Y_M_find.2.1 157 = .ok (.goto (-86), 3) := by decide +kernel
theorem d_M_find_160 : decode Y_M_find.2.1 160 = .ok (.iload 6, 2) := by decide +kernel
theorem d_M_find_162 : decode Y_M_find.2.1 162 = .ok (.iconst 1, 1) := by decide +kernel
theorem d_M_find_163 : decode Y_M_find.2.1 163 = .ok (.if_icmp .ne 8, 3) := by decide +kernel
theorem d_M_find_166 : decode Y_M_find.2.1 166 = .ok (.iload 5, 2) := by decide +kernel
theorem d_M_find_168 : decode Y_M_find.2.1 168 = .ok (.goto 5, 3) := by decide +kernel
theorem d_M_find_171 : decode Y_M_find.2.1 171 = .ok (.iload 4, 2) := by decide +kernel
theorem d_M_find_173 : decode Y_M_find.2.1 173 = .ok (.ireturn, 1) := by decide +kernel
theorem m_M_find_0 {l : Launch} {D : DD} {d kc ks : Nat} {h : Hp} {Φ : Option AV → Hp → Prop} {x1 : Int} {x2 : Int} (hM : MS h) (v : Ev l D Y_M_find (d + 1) kc ks 2 [some (vr 100), some (vi x1), some (vi x2), some (vi x1), none, none, none, none] [] h Φ) : Ev l D Y_M_find (d + 1) kc ks 0 [some (vr 100), some (vi x1), some (vi x2), none, none, none, none, none] [] h Φ := by
  refine a_iload_n d_M_find_0 rfl ?_
  refine a_istore_n (L' := [some (vr 100), some (vi x1), some (vi x2), some (vi x1), none, none, none, none]) d_M_find_1 (Nat.le_of_ble_eq_true rfl) rfl rfl ?_
  exact v
theorem m_M_find_2 {l : Launch} {D : DD} {d kc ks : Nat} {h : Hp} {Φ : Option AV → Hp → Prop} {x1 : Int} {x2 : Int} {x3 : Int} (hM : MS h) (v : (x3 = (-1 : Int) → (Ev l D Y_M_findLeft d 0 0 0 [some (vr 100), some (vi x1), some (vi x2), none, none, none, none] [] h (kv (fun h1 => MS h1 ∧ (Ev l D Y_M_find (d + 1) kc ks 71 [some (vr 100), some (vi x1), some (vi x2), some (vi x3), some (vi (-1 : Int)), some (vi (-1 : Int)), some (vi (0 : Int)), some (vi (wr ((xI h1 100 5) - (1 : Int))))] [] h1 Φ))))) ∧ (¬ x3 = (-1 : Int) → (Ev l D Y_M_ownOf d 0 0 0 [some (vr 100), some (vi x3), some (vi x2), none] [] h (ki (fun r1 h2 => MS h2 ∧ ((r1 = (-1 : Int) → (0 ≤ x3 ∧ x3 < 16 ∧ ((¬ xI h2 102 (x3).toNat = (2 : Int) → (0 ≤ x3 ∧ x3 < 16 ∧ (Ev l D Y_M_find (d + 1) kc ks 2 [some (vr 100), some (vi x1), some (vi x2), some (vi (xI h2 103 (x3).toNat)), none, none, none, none] [] h2 Φ))) ∧ (xI h2 102 (x3).toNat = (2 : Int) → (Ev l D Y_M_find (d + 1) kc ks 2 [some (vr 100), some (vi x1), some (vi x2), some (vi (-1 : Int)), none, none, none, none] [] h2 Φ))))) ∧ (¬ r1 = (-1 : Int) → (Φ (some (vi r1)) h2)))))))) : Ev l D Y_M_find (d + 1) kc ks 2 [some (vr 100), some (vi x1), some (vi x2), some (vi x3), none, none, none, none] [] h Φ := by
  refine a_iload_n d_M_find_2 rfl ?_
  refine a_iconst d_M_find_3 ⟨by decide, by decide⟩ ?_
  obtain ⟨vt, vf⟩ := v
  refine a_icmp_eq (tgt := 48) d_M_find_4 (by decide) (fun c => ?_) (fun c => ?_)
  · have v := vt (c); clear vt vf
    refine a_aload_n d_M_find_48 rfl ?_
    refine a_iload_n d_M_find_49 rfl ?_
    refine a_iload_n d_M_find_50 rfl ?_
    refine b_callV (as := [vi x1, vi x2]) (b := 100) (st := []) (kd := 12) (kc1 := 0) (ks1 := 0) (kc2 := kc) (ks2 := ks) (d' := d) ml_M_169 rfl d_M_find_51 rfl rfl (Nat.le_of_ble_eq_true rfl) (by decide) rfl (Nat.le_refl _) (by omega) (by omega) (KNM_100 hM) ?_
    refine Ev.mono v ?_
    intro u h1 v
    obtain ⟨rfl, v⟩ := kv_el v
    obtain ⟨hm1, v⟩ := v
    change Ev l D Y_M_find _ _ _ 54 [some (vr 100), some (vi x1), some (vi x2), some (vi x3), none, none, none, none] [] _ _
    refine a_iconst d_M_find_54 ⟨by decide, by decide⟩ ?_
    refine a_istore (L' := [some (vr 100), some (vi x1), some (vi x2), some (vi x3), some (vi (-1 : Int)), none, none, none]) d_M_find_55 (Nat.le_of_ble_eq_true rfl) rfl rfl ?_
    refine a_iconst d_M_find_57 ⟨by decide, by decide⟩ ?_
    refine a_istore (L' := [some (vr 100), some (vi x1), some (vi x2), some (vi x3), some (vi (-1 : Int)), some (vi (-1 : Int)), none, none]) d_M_find_58 (Nat.le_of_ble_eq_true rfl) rfl rfl ?_
    refine a_iconst d_M_find_60 ⟨by decide, by decide⟩ ?_
    refine a_istore (L' := [some (vr 100), some (vi x1), some (vi x2), some (vi x3), some (vi (-1 : Int)), some (vi (-1 : Int)), some (vi (0 : Int)), none]) d_M_find_61 (Nat.le_of_ble_eq_true rfl) rfl rfl ?_
    refine a_aload_n d_M_find_63 rfl ?_
    refine a_getI fl_M_131 d_M_find_64 (beq_iff_eq.mpr (KNM_100 hm1)) ?_
    refine a_iconst d_M_find_67 ⟨by decide, by decide⟩ ?_
    refine a_isub d_M_find_68 ?_
    refine a_istore (L' := [some (vr 100), some (vi x1), some (vi x2), some (vi x3), some (vi (-1 : Int)), some (vi (-1 : Int)), some (vi (0 : Int)), some (vi (wr ((xI h1 100 5) - (1 : Int))))]) d_M_find_69 (Nat.le_of_ble_eq_true rfl) rfl rfl ?_
    exact v
  · have v := vf (c); clear vt vf
    refine a_aload_n d_M_find_7 rfl ?_
    refine a_iload_n d_M_find_8 rfl ?_
    refine a_iload_n d_M_find_9 rfl ?_
    refine b_callV (as := [vi x3, vi x2]) (b := 100) (st := []) (kd := 12) (kc1 := 0) (ks1 := 0) (kc2 := kc) (ks2 := ks) (d' := d) ml_M_145 rfl d_M_find_10 rfl rfl (Nat.le_of_ble_eq_true rfl) (by decide) rfl (Nat.le_refl _) (by omega) (by omega) (KNM_100 hM) ?_
    refine Ev.mono v ?_
    intro u h2 v
    obtain ⟨r1, rfl, v⟩ := ki_el v
    obtain ⟨hm2, v⟩ := v
    change Ev l D Y_M_find _ _ _ 13 [some (vr 100), some (vi x1), some (vi x2), some (vi x3), none, none, none, none] [vi r1] _ _
    refine a_istore (L' := [some (vr 100), some (vi x1), some (vi x2), some (vi x3), some (vi r1), none, none, none]) d_M_find_13 (Nat.le_of_ble_eq_true rfl) rfl rfl ?_
    refine a_iload d_M_find_15 rfl ?_
    refine a_iconst d_M_find_17 ⟨by decide, by decide⟩ ?_
    obtain ⟨vt, vf⟩ := v
    refine a_icmp_eq (tgt := 24) d_M_find_18 (by decide) (fun c => ?_) (fun c => ?_)
    · have v := vt (c); clear vt vf
      refine a_aload_n d_M_find_24 rfl ?_
      refine a_getAe fl_M_7 d_M_find_25 (beq_iff_eq.mpr (KNM_100 hm2)) (KRM_100_1 hm2) ?_
      refine a_iload_n d_M_find_28 rfl ?_
      obtain ⟨c3, c4, v⟩ := v
      refine a_iald d_M_find_29 (Or.inl (KNM_102 hm2)) c3 (lt_len (NNM_102 hm2) c4) ?_
      refine a_iconst d_M_find_30 ⟨by decide, by decide⟩ ?_
      obtain ⟨vt, vf⟩ := v
      refine a_icmp_ne (tgt := 38) d_M_find_31 (by decide) (fun c => ?_) (fun c => ?_)
      · have v := vt (c); clear vt vf
        refine a_aload_n d_M_find_38 rfl ?_
        refine a_getAe fl_M_13 d_M_find_39 (beq_iff_eq.mpr (KNM_100 hm2)) (KRM_100_2 hm2) ?_
        refine a_iload_n d_M_find_42 rfl ?_
        obtain ⟨c6, c7, v⟩ := v
        refine a_iald d_M_find_43 (Or.inl (KNM_103 hm2)) c6 (lt_len (NNM_103 hm2) c7) ?_
        refine a_istore_n (L' := [some (vr 100), some (vi x1), some (vi x2), some (vi (xI h2 103 (x3).toNat)), some (vi r1), none, none, none]) d_M_find_44 (Nat.le_of_ble_eq_true rfl) rfl rfl ?_
        refine a_goto (tgt := 2) d_M_find_45 (by decide) ?_
        exact Ev.weak v ⟨rfl, rfl, rfl, rfl, trivial⟩
      · have v := vf (Classical.not_not.mp c); clear vt vf
        refine a_iconst d_M_find_34 ⟨by decide, by decide⟩ ?_
        refine a_goto (tgt := 44) d_M_find_35 (by decide) ?_
        refine a_istore_n (L' := [some (vr 100), some (vi x1), some (vi x2), some (vi (-1 : Int)), some (vi r1), none, none, none]) d_M_find_44 (Nat.le_of_ble_eq_true rfl) rfl rfl ?_
        refine a_goto (tgt := 2) d_M_find_45 (by decide) ?_
        exact Ev.weak v ⟨rfl, rfl, rfl, rfl, trivial⟩
    · have v := vf (c); clear vt vf
      refine a_iload d_M_find_21 rfl ?_
      exact a_iret d_M_find_23 rfl v
theorem m_M_find_71 {l : Launch} {D : DD} {d kc ks : Nat} {h : Hp} {Φ : Option AV → Hp → Prop} {x1 : Int} {x2 : Int} {x3 : Int} {x4 : Int} {x5 : Int} {x6 : Int} {x7 : Int} (hM : MS h) (v : (x7 < 0 → ((¬ x6 = (1 : Int) → (Φ (some (vi x4)) h)) ∧ (x6 = (1 : Int) → (Φ (some (vi x5)) h)))) ∧ (x7 ≥ 0 → (0 ≤ x7 ∧ x7 < 48 ∧ ((xI h 128 (x7).toNat = 0 → (Ev l D Y_M_find (d + 1) kc ks 93 [some (vr 100), some (vi x1), some (vi x2), some (vi x3), some (vi x4), some (vi x5), some (vi x6), some (vi x7)] [vi x4] h Φ)) ∧ (¬ xI h 128 (x7).toNat = 0 → (Ev l D Y_M_find (d + 1) kc ks 93 [some (vr 100), some (vi x1), some (vi x2), some (vi x3), some (vi x4), some (vi x5), some (vi x6), some (vi x7)] [vi x7] h Φ)))))) : Ev l D Y_M_find (d + 1) kc ks 71 [some (vr 100), some (vi x1), some (vi x2), some (vi x3), some (vi x4), some (vi x5), some (vi x6), some (vi x7)] [] h Φ := by
  refine a_iload d_M_find_71 rfl ?_
  obtain ⟨vt, vf⟩ := v
  refine a_if_lt (tgt := 160) d_M_find_73 (by decide) (fun c => ?_) (fun c => ?_)
  · have v := vt (c); clear vt vf
    refine a_iload d_M_find_160 rfl ?_
    refine a_iconst d_M_find_162 ⟨by decide, by decide⟩ ?_
    obtain ⟨vt, vf⟩ := v
    refine a_icmp_ne (tgt := 171) d_M_find_163 (by decide) (fun c => ?_) (fun c => ?_)
    · have v := vt (c); clear vt vf
      refine a_iload d_M_find_171 rfl ?_
      exact a_iret d_M_find_173 rfl v
    · have v := vf (Classical.not_not.mp c); clear vt vf
      refine a_iload d_M_find_166 rfl ?_
      refine a_goto (tgt := 173) d_M_find_168 (by decide) ?_
      exact a_iret d_M_find_173 rfl v
  · have v := vf (Int.not_lt.mp c); clear vt vf
    refine a_aload_n d_M_find_76 rfl ?_
    refine a_getAe fl_M_74 d_M_find_77 (beq_iff_eq.mpr (KNM_100 hM)) (KRM_100_27 hM) ?_
    refine a_iload d_M_find_80 rfl ?_
    obtain ⟨c2, c3, v⟩ := v
    refine a_zald d_M_find_82 (KNM_128 hM) c2 (lt_len (NNM_128 hM) c3) ?_
    obtain ⟨vt, vf⟩ := v
    refine a_if_eq (tgt := 91) d_M_find_83 (by decide) (fun c => ?_) (fun c => ?_)
    · have v := vt (c); clear vt vf
      refine a_iload d_M_find_91 rfl ?_
      exact v
    · have v := vf (c); clear vt vf
      refine a_iload d_M_find_86 rfl ?_
      refine a_goto (tgt := 93) d_M_find_88 (by decide) ?_
      exact v
theorem m_M_find_93 {l : Launch} {D : DD} {d kc ks : Nat} {h : Hp} {Φ : Option AV → Hp → Prop} {x1 : Int} {x2 : Int} {x3 : Int} {x4 : Int} {x5 : Int} {x6 : Int} {x7 : Int} {y0 : Int} (hM : MS h) (v : 0 ≤ x7 ∧ x7 < 48 ∧ ((xI h 128 (x7).toNat = 0 → (Ev l D Y_M_find (d + 1) kc ks 122 [some (vr 100), some (vi x1), some (vi x2), some (vi x3), some (vi y0), some (vi x5), some (vi x6), some (vi x7)] [vi x5] h Φ)) ∧ (¬ xI h 128 (x7).toNat = 0 → (0 ≤ x7 ∧ x7 < 48 ∧ ((¬ xI h 109 (x7).toNat = 0 → (Ev l D Y_M_find (d + 1) kc ks 122 [some (vr 100), some (vi x1), some (vi x2), some (vi x3), some (vi y0), some (vi x5), some (vi x6), some (vi x7)] [vi x5] h Φ)) ∧ (xI h 109 (x7).toNat = 0 → (Ev l D Y_M_find (d + 1) kc ks 122 [some (vr 100), some (vi x1), some (vi x2), some (vi x3), some (vi y0), some (vi x5), some (vi x6), some (vi x7)] [vi x7] h Φ))))))) : Ev l D Y_M_find (d + 1) kc ks 93 [some (vr 100), some (vi x1), some (vi x2), some (vi x3), some (vi x4), some (vi x5), some (vi x6), some (vi x7)] [vi y0] h Φ := by
  refine a_istore (L' := [some (vr 100), some (vi x1), some (vi x2), some (vi x3), some (vi y0), some (vi x5), some (vi x6), some (vi x7)]) d_M_find_93 (Nat.le_of_ble_eq_true rfl) rfl rfl ?_
  refine a_aload_n d_M_find_95 rfl ?_
  refine a_getAe fl_M_74 d_M_find_96 (beq_iff_eq.mpr (KNM_100 hM)) (KRM_100_27 hM) ?_
  refine a_iload d_M_find_99 rfl ?_
  obtain ⟨c2, c3, v⟩ := v
  refine a_zald d_M_find_101 (KNM_128 hM) c2 (lt_len (NNM_128 hM) c3) ?_
  obtain ⟨vt, vf⟩ := v
  refine a_if_eq (tgt := 120) d_M_find_102 (by decide) (fun c => ?_) (fun c => ?_)
  · have v := vt (c); clear vt vf
    refine a_iload d_M_find_120 rfl ?_
    exact v
  · have v := vf (c); clear vt vf
    refine a_aload_n d_M_find_105 rfl ?_
    refine a_getAe fl_M_28 d_M_find_106 (beq_iff_eq.mpr (KNM_100 hM)) (KRM_100_8 hM) ?_
    refine a_iload d_M_find_109 rfl ?_
    obtain ⟨c5, c6, v⟩ := v
    refine a_iald d_M_find_111 (Or.inl (KNM_109 hM)) c5 (lt_len (NNM_109 hM) c6) ?_
    obtain ⟨vt, vf⟩ := v
    refine a_if_ne (tgt := 120) d_M_find_112 (by decide) (fun c => ?_) (fun c => ?_)
    · have v := vt (c); clear vt vf
      refine a_iload d_M_find_120 rfl ?_
      exact v
    · have v := vf (Classical.not_not.mp c); clear vt vf
      refine a_iload d_M_find_115 rfl ?_
      refine a_goto (tgt := 122) d_M_find_117 (by decide) ?_
      exact v
theorem m_M_find_122 {l : Launch} {D : DD} {d kc ks : Nat} {h : Hp} {Φ : Option AV → Hp → Prop} {x1 : Int} {x2 : Int} {x3 : Int} {x4 : Int} {x5 : Int} {x6 : Int} {x7 : Int} {y0 : Int} (hM : MS h) (v : 0 ≤ x7 ∧ x7 < 48 ∧ ((xI h 128 (x7).toNat = 0 → (Ev l D Y_M_find (d + 1) kc ks 151 [some (vr 100), some (vi x1), some (vi x2), some (vi x3), some (vi x4), some (vi y0), some (vi x6), some (vi x7)] [vi (0 : Int), vi x6] h Φ)) ∧ (¬ xI h 128 (x7).toNat = 0 → (0 ≤ x7 ∧ x7 < 48 ∧ ((¬ xI h 109 (x7).toNat = 0 → (Ev l D Y_M_find (d + 1) kc ks 151 [some (vr 100), some (vi x1), some (vi x2), some (vi x3), some (vi x4), some (vi y0), some (vi x6), some (vi x7)] [vi (0 : Int), vi x6] h Φ)) ∧ (xI h 109 (x7).toNat = 0 → (Ev l D Y_M_find (d + 1) kc ks 151 [some (vr 100), some (vi x1), some (vi x2), some (vi x3), some (vi x4), some (vi y0), some (vi x6), some (vi x7)] [vi (1 : Int), vi x6] h Φ))))))) : Ev l D Y_M_find (d + 1) kc ks 122 [some (vr 100), some (vi x1), some (vi x2), some (vi x3), some (vi x4), some (vi x5), some (vi x6), some (vi x7)] [vi y0] h Φ := by
  refine a_istore (L' := [some (vr 100), some (vi x1), some (vi x2), some (vi x3), some (vi x4), some (vi y0), some (vi x6), some (vi x7)]) d_M_find_122 (Nat.le_of_ble_eq_true rfl) rfl rfl ?_
  refine a_iload d_M_find_124 rfl ?_
  refine a_aload_n d_M_find_126 rfl ?_
  refine a_getAe fl_M_74 d_M_find_127 (beq_iff_eq.mpr (KNM_100 hM)) (KRM_100_27 hM) ?_
  refine a_iload d_M_find_130 rfl ?_
  obtain ⟨c2, c3, v⟩ := v
  refine a_zald d_M_find_132 (KNM_128 hM) c2 (lt_len (NNM_128 hM) c3) ?_
  obtain ⟨vt, vf⟩ := v
  refine a_if_eq (tgt := 150) d_M_find_133 (by decide) (fun c => ?_) (fun c => ?_)
  · have v := vt (c); clear vt vf
    refine a_iconst d_M_find_150 ⟨by decide, by decide⟩ ?_
    exact v
  · have v := vf (c); clear vt vf
    refine a_aload_n d_M_find_136 rfl ?_
    refine a_getAe fl_M_28 d_M_find_137 (beq_iff_eq.mpr (KNM_100 hM)) (KRM_100_8 hM) ?_
    refine a_iload d_M_find_140 rfl ?_
    obtain ⟨c5, c6, v⟩ := v
    refine a_iald d_M_find_142 (Or.inl (KNM_109 hM)) c5 (lt_len (NNM_109 hM) c6) ?_
    obtain ⟨vt, vf⟩ := v
    refine a_if_ne (tgt := 150) d_M_find_143 (by decide) (fun c => ?_) (fun c => ?_)
    · have v := vt (c); clear vt vf
      refine a_iconst d_M_find_150 ⟨by decide, by decide⟩ ?_
      exact v
    · have v := vf (Classical.not_not.mp c); clear vt vf
      refine a_iconst d_M_find_146 ⟨by decide, by decide⟩ ?_
      refine a_goto (tgt := 151) d_M_find_147 (by decide) ?_
      exact v
theorem m_M_find_151 {l : Launch} {D : DD} {d kc ks : Nat} {h : Hp} {Φ : Option AV → Hp → Prop} {x1 : Int} {x2 : Int} {x3 : Int} {x4 : Int} {x5 : Int} {x6 : Int} {x7 : Int} {y0 : Int} {y1 : Int} (hM : MS h) (v : Ev l D Y_M_find (d + 1) kc ks 71 [some (vr 100), some (vi x1), some (vi x2), some (vi x3), some (vi x4), some (vi x5), some (vi (wr (y1 + y0))), some (vi (wr (x7 + (-1 : Int))))] [] h Φ) : Ev l D Y_M_find (d + 1) kc ks 151 [some (vr 100), some (vi x1), some (vi x2), some (vi x3), some (vi x4), some (vi x5), some (vi x6), some (vi x7)] [vi y0, vi y1] h Φ := by
  refine a_iadd d_M_find_151 ?_
  refine a_istore (L' := [some (vr 100), some (vi x1), some (vi x2), some (vi x3), some (vi x4), some (vi x5), some (vi (wr (y1 + y0))), some (vi x7)]) d_M_find_152 (Nat.le_of_ble_eq_true rfl) rfl rfl ?_
  refine a_iinc (L' := [some (vr 100), some (vi x1), some (vi x2), some (vi x3), some (vi x4), some (vi x5), some (vi (wr (y1 + y0))), some (vi (wr (x7 + (-1 : Int))))]) d_M_find_154 rfl (Nat.le_of_ble_eq_true rfl) rfl rfl ?_
  refine a_goto (tgt := 71) d_M_find_157 (by decide) ?_
  exact v
theorem d_M_choose_0 : decode Y_M_choose.2.1 0 = .ok (.aload_n 0, 1) := by decide +kernel
theorem d_M_choose_1 : decode Y_M_choose.2.1 1 = .ok (.getfield 28, 3) := by decide +kernel
theorem d_M_choose_4 : decode Y_M_choose.2.1 4 = .ok (.iload_n 2, 1) := by decide +kernel
theorem d_M_choose_5 : decode Y_M_choose.2.1 5 = .ok (.iaload, 1) := by decide +kernel
theorem d_M_choose_6 : decode Y_M_choose.2.1 6 = .ok (.iconst 3, 1) := by decide +kernel
theorem d_M_choose_7 : decode Y_M_choose.2.1 7 = .ok (.if_icmp .ne 5, 3) := by decide +kernel
theorem d_M_choose_10 : decode Y_M_choose.2.1 10 = .ok (.iload_n 2, 1) := by decide +kernel
theorem d_M_choose_11 : decode Y_M_choose.2.1 11 = .ok (.ireturn, 1) := by decide +kernel
theorem d_M_choose_12 : decode Y_M_choose.2.1 12 = .ok (.iload_n 1, 1) := by decide +kernel
theorem d_M_choose_13 : decode Y_M_choose.2.1 13 = .ok (.istore_n 3, 1) := by decide +kernel
theorem d_M_choose_14 : decode Y_M_choose.2.1 14 = .ok (.iload_n 3, 1) := by decide +kernel
theorem d_M_choose_15 : decode Y_M_choose.2.1 15 = .ok (.iconst (-1), 1) := by decide +kernel
theorem d_M_choose_16 : decode Y_M_choose.2.1 16 = .ok (.if_icmp .eq 85, 3) := by decide +kernel
theorem d_M_choose_19 : decode Y_M_choose.2.1 19 = .ok (.aload_n 0, 1) := by decide +kernel
theorem d_M_choose_20 : decode Y_M_choose.2.1 20 = .ok (.iload_n 3, 1) := by decide +kernel
theorem d_M_choose_21 : decode Y_M_choose.2.1 21 = .ok (.aload_n 0, 1) := by decide +kernel
theorem d_M_choose_22 : decode Y_M_choose.2.1 22 = .ok (.getfield 25, 3) := by decide +kernel
theorem d_M_choose_25 : decode Y_M_choose.2.1 25 = .ok (.iload_n 2, 1) := by decide +kernel
theorem d_M_choose_26 : decode Y_M_choose.2.1 26 = .ok (.iaload, 1) := by decide +kernel
theorem d_M_choose_27 : decode Y_M_choose.2.1 27 = .ok (.invokevirtual 145, 3) := by decide +kernel
theorem d_M_choose_30 : decode Y_M_choose.2.1 30 = .ok (.istore 4, 2) := by decide +kernel
theorem d_M_choose_32 : decode Y_M_choose.2.1 32 = .ok (.iload 4, 2) := by decide +kernel
theorem d_M_choose_34 : decode Y_M_choose.2.1 34 = .ok (.iconst (-1), 1) := by decide +kernel
theorem d_M_choose_35 : decode Y_M_choose.2.1 35 = .ok (.if_icmp .eq 42, 3) := by decide +kernel
theorem d_M_choose_38 : decode Y_M_choose.2.1 38 = .ok (.aload_n 0, 1) := by decide +kernel
theorem d_M_choose_39 : decode Y_M_choose.2.1 39 = .ok (.getfield 28, 3) := by decide +kernel
theorem d_M_choose_42 : decode Y_M_choose.2.1 42 = .ok (.iload 4, 2) := by decide +kernel
theorem d_M_choose_44 : decode Y_M_choose.2.1 44 = .ok (.iaload, 1) := by decide +kernel
theorem d_M_choose_45 : decode Y_M_choose.2.1 45 = .ok (.ifCond .eq 14, 3) := by decide +kernel
theorem d_M_choose_48 : decode Y_M_choose.2.1 48 = .ok (.aload_n 0, 1) := by decide +kernel
theorem d_M_choose_49 : decode Y_M_choose.2.1 49 = .ok (.getfield 28, 3) := by decide +kernel
theorem d_M_choose_52 : decode Y_M_choose.2.1 52 = .ok (.iload 4, 2) := by decide +kernel
theorem d_M_choose_54 : decode Y_M_choose.2.1 54 = .ok (.iaload, 1) := by decide +kernel
theorem d_M_choose_55 : decode Y_M_choose.2.1 55 = .ok (.iconst 1, 1) := by decide +kernel
theorem d_M_choose_56 : decode Y_M_choose.2.1 56 = .ok (.if_icmp .ne 21, 3) := by decide +kernel
theorem d_M_choose_59 : decode Y_M_choose.2.1 59 = .ok (.aload_n 0, 1) := by decide +kernel
theorem d_M_choose_60 : decode Y_M_choose.2.1 60 = .ok (.getfield 28, 3) := by decide +kernel
theorem d_M_choose_63 : decode Y_M_choose.2.1 63 = .ok (.iload 4, 2) := by decide +kernel
theorem d_M_choose_65 : decode Y_M_choose.2.1 65 = .ok (.iaload, 1) := by decide +kernel
theorem d_M_choose_66 : decode Y_M_choose.2.1 66 = .ok (.ifCond .ne 8, 3) := by decide +kernel
theorem d_M_choose_69 : decode Y_M_choose.2.1 69 = .ok (.iload 4, 2) := by decide +kernel
theorem d_M_choose_71 : decode Y_M_choose.2.1 71 = .ok (.goto 5, 3) := by decide +kernel
theorem d_M_choose_74 : decode Y_M_choose.2.1 74 = .ok (.bipush (-4), 2) := by decide +kernel
theorem d_M_choose_76 : decode Y_M_choose.2.1 76 = .ok (.ireturn, 1) := by decide +kernel
theorem d_M_choose_77 : decode Y_M_choose.2.1 77 = .ok (.aload_n 0, 1) := by decide +kernel
theorem d_M_choose_78 : decode Y_M_choose.2.1 78 = .ok (.getfield 7, 3) := by decide +kernel
theorem d_M_choose_81 : decode Y_M_choose.2.1 81 = .ok (.iload_n 3, 1) := by decide +kernel
theorem d_M_choose_82 : decode Y_M_choose.2.1 82 = .ok (.iaload, 1) := by decide +kernel
theorem d_M_choose_83 : decode Y_M_choose.2.1 83 = .ok (.iconst 2, 1) := by decide +kernel
theorem d_M_choose_84 : decode Y_M_choose.2.1 84 = .ok (.if_icmp .ne 7, 3) := by decide +kernel
theorem d_M_choose_87 : decode Y_M_choose.2.1 87 = .ok (.iconst (-1), 1) := by decide +kernel
theorem d_M_choose_88 : decode Y_M_choose.2.1 88 = .ok (.goto 9, 3) := by decide +kernel
theorem d_M_choose_91 : decode Y_M_choose.2.1 91 = .ok (.aload_n 0, 1) := by decide +kernel
theorem d_M_choose_92 : decode Y_M_choose.2.1 92 = .ok (.getfield 13, 3) := by decide +kernel
theorem d_M_choose_95 : decode Y_M_choose.2.1 95 = .ok (.iload_n 3, 1) := by decide +kernel
theorem d_M_choose_96 : decode Y_M_choose.2.1 96 = .ok (.iaload, 1) := by decide +kernel
theorem d_M_choose_97 : decode Y_M_choose.2.1 97 = .ok (.istore_n 3, 1) := by decide +kernel
theorem d_M_choose_98 : decode Y_M_choose.2.1 98 = .ok (.goto (-84), 3) := by decide +kernel
theorem d_M_choose_101 : decode Y_M_choose.2.1 101 = .ok (.aload_n 0, 1) := by decide +kernel
theorem d_M_choose_102 : decode Y_M_choose.2.1 102 = .ok (.iload_n 1, 1) := by decide +kernel
theorem d_M_choose_103 : decode Y_M_choose.2.1 103 = .ok (.aload_n 0, 1) := by decide +kernel
theorem d_M_choose_104 : decode Y_M_choose.2.1 104 = .ok (.getfield 25, 3) := by decide +kernel
theorem d_M_choose_107 : decode Y_M_choose.2.1 107 = .ok (.iload_n 2, 1) := by decide +kernel
theorem d_M_choose_108 : decode Y_M_choose.2.1 108 = .ok (.iaload, 1) := by decide +kernel
theorem d_M_choose_109 : decode Y_M_choose.2.1 109 = .ok (.invokevirtual 169, 3) := by decide +kernel
theorem d_M_choose_112 : decode Y_M_choose.2.1 112 = .ok (.bipush (-4), 2) := by decide +kernel
theorem d_M_choose_114 : decode Y_M_choose.2.1 114 = .ok (.istore 4, 2) := by decide +kernel
theorem d_M_choose_116 : decode Y_M_choose.2.1 116 = .ok (.iconst 0, 1) := by decide +kernel
theorem d_M_choose_117 : decode Y_M_choose.2.1 117 = .ok (.istore 5, 2) := by decide +kernel
theorem d_M_choose_119 : decode Y_M_choose.2.1 119 = .ok (.iload 5, 2) := by decide +kernel
theorem d_M_choose_121 : decode Y_M_choose.2.1 121 = .ok (.aload_n 0, 1) := by decide +kernel
theorem d_M_choose_122 : decode Y_M_choose.2.1 122 = .ok (.getfield 131, 3) := by decide +kernel
theorem d_M_choose_125 : decode Y_M_choose.2.1 125 = .ok (.if_icmp .ge 45, 3) := by decide +kernel
theorem d_M_choose_128 : decode Y_M_choose.2.1 128 = .ok (.aload_n 0, 1) := by decide +kernel
theorem d_M_choose_129 : decode Y_M_choose.2.1 129 = .ok (.getfield 74, 3) := by decide +kernel
theorem d_M_choose_132 : decode Y_M_choose.2.1 132 = .ok (.iload 5, 2) := by decide +kernel
theorem d_M_choose_134 : decode Y_M_choose.2.1 134 = .ok (.baload, 1) := by decide +kernel
theorem d_M_choose_135 : decode Y_M_choose.2.1 135 = .ok (.ifCond .eq 29, 3) := by decide +kernel
theorem d_M_choose_138 : decode Y_M_choose.2.1 138 = .ok (.aload_n 0, 1) := by decide +kernel
theorem d_M_choose_139 : decode Y_M_choose.2.1 139 = .ok (.getfield 28, 3) := by decide +kernel
theorem d_M_choose_142 : decode Y_M_choose.2.1 142 = .ok (.iload 5, 2) := by decide +kernel
theorem d_M_choose_144 : decode Y_M_choose.2.1 144 = .ok (.iaload, 1) := by decide +kernel
theorem d_M_choose_145 : decode Y_M_choose.2.1 145 = .ok (.ifCond .ne 19, 3) := by decide +kernel
theorem d_M_choose_148 : decode Y_M_choose.2.1 148 = .ok (.iload 4, 2) := by decide +kernel
theorem d_M_choose_150 : decode Y_M_choose.2.1 150 = .ok (.bipush (-4), 2) := by decide +kernel
theorem d_M_choose_152 : decode Y_M_choose.2.1 152 = .ok (.if_icmp .ne 8, 3) := by decide +kernel
theorem d_M_choose_155 : decode Y_M_choose.2.1 155 = .ok (.iload 5, 2) := by decide +kernel
theorem d_M_choose_157 : decode Y_M_choose.2.1 157 = .ok (.goto 5, 3) := by decide +kernel
theorem d_M_choose_160 : decode Y_M_choose.2.1 160 = .ok (.bipush (-5), 2) := by decide +kernel
theorem d_M_choose_162 : decode Y_M_choose.2.1 162 = .ok (.istore 4, 2) := by decide +kernel
theorem d_M_choose_164 : decode Y_M_choose.2.1 164 = .ok (.iinc 5 1, 3) := by decide +kernel
theorem d_M_choose_167 : decode Y_M_choose.2.1 167 = .ok (.goto (-48), 3) := by decide +kernel
theorem d_M_choose_170 : decode Y_M_choose.2.1 170 = .ok (.iload 4, 2) := by decide +kernel
theorem d_M_choose_172 : decode Y_M_choose.2.1 172 = .ok (.ireturn, 1) := by decide +kernel
theorem m_M_choose_0 {l : Launch} {D : DD} {d kc ks : Nat} {h : Hp} {Φ : Option AV → Hp → Prop} {x1 : Int} {x2 : Int} (hM : MS h) (v : 0 ≤ x2 ∧ x2 < 48 ∧ ((¬ xI h 109 (x2).toNat = (3 : Int) → (Ev l D Y_M_choose (d + 1) kc ks 14 [some (vr 100), some (vi x1), some (vi x2), some (vi x1), none, none] [] h Φ)) ∧ (xI h 109 (x2).toNat = (3 : Int) → (Φ (some (vi x2)) h)))) : Ev l D Y_M_choose (d + 1) kc ks 0 [some (vr 100), some (vi x1), some (vi x2), none, none, none] [] h Φ := by
  refine a_aload_n d_M_choose_0 rfl ?_
  refine a_getAe fl_M_28 d_M_choose_1 (beq_iff_eq.mpr (KNM_100 hM)) (KRM_100_8 hM) ?_
  refine a_iload_n d_M_choose_4 rfl ?_
  obtain ⟨c2, c3, v⟩ := v
  refine a_iald d_M_choose_5 (Or.inl (KNM_109 hM)) c2 (lt_len (NNM_109 hM) c3) ?_
  refine a_iconst d_M_choose_6 ⟨by decide, by decide⟩ ?_
  obtain ⟨vt, vf⟩ := v
  refine a_icmp_ne (tgt := 12) d_M_choose_7 (by decide) (fun c => ?_) (fun c => ?_)
  · have v := vt (c); clear vt vf
    refine a_iload_n d_M_choose_12 rfl ?_
    refine a_istore_n (L' := [some (vr 100), some (vi x1), some (vi x2), some (vi x1), none, none]) d_M_choose_13 (Nat.le_of_ble_eq_true rfl) rfl rfl ?_
    exact v
  · have v := vf (Classical.not_not.mp c); clear vt vf
    refine a_iload_n d_M_choose_10 rfl ?_
    exact a_iret d_M_choose_11 rfl v
theorem m_M_choose_14 {l : Launch} {D : DD} {d kc ks : Nat} {h : Hp} {Φ : Option AV → Hp → Prop} {x1 : Int} {x2 : Int} {x3 : Int} (hM : MS h) (v : (x3 = (-1 : Int) → (0 ≤ x2 ∧ x2 < 48 ∧ (Ev l D Y_M_findLeft d 0 0 0 [some (vr 100), some (vi x1), some (vi (xI h 108 (x2).toNat)), none, none, none, none] [] h (kv (fun h1 => MS h1 ∧ (Ev l D Y_M_choose (d + 1) kc ks 119 [some (vr 100), some (vi x1), some (vi x2), some (vi x3), some (vi (-4 : Int)), some (vi (0 : Int))] [] h1 Φ)))))) ∧ (¬ x3 = (-1 : Int) → (0 ≤ x2 ∧ x2 < 48 ∧ (Ev l D Y_M_ownOf d 0 0 0 [some (vr 100), some (vi x3), some (vi (xI h 108 (x2).toNat)), none] [] h (ki (fun r1 h2 => MS h2 ∧ ((r1 = (-1 : Int) → (0 ≤ x3 ∧ x3 < 16 ∧ ((¬ xI h2 102 (x3).toNat = (2 : Int) → (0 ≤ x3 ∧ x3 < 16 ∧ (Ev l D Y_M_choose (d + 1) kc ks 14 [some (vr 100), some (vi x1), some (vi x2), some (vi (xI h2 103 (x3).toNat)), none, none] [] h2 Φ))) ∧ (xI h2 102 (x3).toNat = (2 : Int) → (Ev l D Y_M_choose (d + 1) kc ks 14 [some (vr 100), some (vi x1), some (vi x2), some (vi (-1 : Int)), none, none] [] h2 Φ))))) ∧ (¬ r1 = (-1 : Int) → (0 ≤ r1 ∧ r1 < 48 ∧ ((xI h2 109 (r1).toNat = 0 → (0 ≤ r1 ∧ r1 < 48 ∧ ((¬ xI h2 109 (r1).toNat = 0 → (Φ (some (vi (-4 : Int))) h2)) ∧ (xI h2 109 (r1).toNat = 0 → (Φ (some (vi r1)) h2))))) ∧ (¬ xI h2 109 (r1).toNat = 0 → (0 ≤ r1 ∧ r1 < 48 ∧ ((¬ xI h2 109 (r1).toNat = (1 : Int) → (0 ≤ x3 ∧ x3 < 16 ∧ ((¬ xI h2 102 (x3).toNat = (2 : Int) → (0 ≤ x3 ∧ x3 < 16 ∧ (Ev l D Y_M_choose (d + 1) kc ks 14 [some (vr 100), some (vi x1), some (vi x2), some (vi (xI h2 103 (x3).toNat)), none, none] [] h2 Φ))) ∧ (xI h2 102 (x3).toNat = (2 : Int) → (Ev l D Y_M_choose (d + 1) kc ks 14 [some (vr 100), some (vi x1), some (vi x2), some (vi (-1 : Int)), none, none] [] h2 Φ))))) ∧ (xI h2 109 (r1).toNat = (1 : Int) → (0 ≤ r1 ∧ r1 < 48 ∧ ((¬ xI h2 109 (r1).toNat = 0 → (Φ (some (vi (-4 : Int))) h2)) ∧ (xI h2 109 (r1).toNat = 0 → (Φ (some (vi r1)) h2)))))))))))))))))) : Ev l D Y_M_choose (d + 1) kc ks 14 [some (vr 100), some (vi x1), some (vi x2), some (vi x3), none, none] [] h Φ := by
  refine a_iload_n d_M_choose_14 rfl ?_
  refine a_iconst d_M_choose_15 ⟨by decide, by decide⟩ ?_
  obtain ⟨vt, vf⟩ := v
  refine a_icmp_eq (tgt := 101) d_M_choose_16 (by decide) (fun c => ?_) (fun c => ?_)
  · have v := vt (c); clear vt vf
    refine a_aload_n d_M_choose_101 rfl ?_
    refine a_iload_n d_M_choose_102 rfl ?_
    refine a_aload_n d_M_choose_103 rfl ?_
    refine a_getAe fl_M_25 d_M_choose_104 (beq_iff_eq.mpr (KNM_100 hM)) (KRM_100_7 hM) ?_
    refine a_iload_n d_M_choose_107 rfl ?_
    obtain ⟨c2, c3, v⟩ := v
    refine a_iald d_M_choose_108 (Or.inl (KNM_108 hM)) c2 (lt_len (NNM_108 hM) c3) ?_
    refine b_callV (as := [vi x1, vi (xI h 108 (x2).toNat)]) (b := 100) (st := []) (kd := 12) (kc1 := 0) (ks1 := 0) (kc2 := kc) (ks2 := ks) (d' := d) ml_M_169 rfl d_M_choose_109 rfl rfl (Nat.le_of_ble_eq_true rfl) (by decide) rfl (Nat.le_refl _) (by omega) (by omega) (KNM_100 hM) ?_
    refine Ev.mono v ?_
    intro u h1 v
    obtain ⟨rfl, v⟩ := kv_el v
    obtain ⟨hm1, v⟩ := v
    change Ev l D Y_M_choose _ _ _ 112 [some (vr 100), some (vi x1), some (vi x2), some (vi x3), none, none] [] _ _
    refine a_bipush d_M_choose_112 ⟨by decide, by decide⟩ (by decide) ?_
    refine a_istore (L' := [some (vr 100), some (vi x1), some (vi x2), some (vi x3), some (vi (-4 : Int)), none]) d_M_choose_114 (Nat.le_of_ble_eq_true rfl) rfl rfl ?_
    refine a_iconst d_M_choose_116 ⟨by decide, by decide⟩ ?_
    refine a_istore (L' := [some (vr 100), some (vi x1), some (vi x2), some (vi x3), some (vi (-4 : Int)), some (vi (0 : Int))]) d_M_choose_117 (Nat.le_of_ble_eq_true rfl) rfl rfl ?_
    exact v
  · have v := vf (c); clear vt vf
    refine a_aload_n d_M_choose_19 rfl ?_
    refine a_iload_n d_M_choose_20 rfl ?_
    refine a_aload_n d_M_choose_21 rfl ?_
    refine a_getAe fl_M_25 d_M_choose_22 (beq_iff_eq.mpr (KNM_100 hM)) (KRM_100_7 hM) ?_
    refine a_iload_n d_M_choose_25 rfl ?_
    obtain ⟨c6, c7, v⟩ := v
    refine a_iald d_M_choose_26 (Or.inl (KNM_108 hM)) c6 (lt_len (NNM_108 hM) c7) ?_
    refine b_callV (as := [vi x3, vi (xI h 108 (x2).toNat)]) (b := 100) (st := []) (kd := 12) (kc1 := 0) (ks1 := 0) (kc2 := kc) (ks2 := ks) (d' := d) ml_M_145 rfl d_M_choose_27 rfl rfl (Nat.le_of_ble_eq_true rfl) (by decide) rfl (Nat.le_refl _) (by omega) (by omega) (KNM_100 hM) ?_
    refine Ev.mono v ?_
    intro u h2 v
    obtain ⟨r1, rfl, v⟩ := ki_el v
    obtain ⟨hm2, v⟩ := v
    change Ev l D Y_M_choose _ _ _ 30 [some (vr 100), some (vi x1), some (vi x2), some (vi x3), none, none] [vi r1] _ _
    refine a_istore (L' := [some (vr 100), some (vi x1), some (vi x2), some (vi x3), some (vi r1), none]) d_M_choose_30 (Nat.le_of_ble_eq_true rfl) rfl rfl ?_
    refine a_iload d_M_choose_32 rfl ?_
    refine a_iconst d_M_choose_34 ⟨by decide, by decide⟩ ?_
    obtain ⟨vt, vf⟩ := v
    refine a_icmp_eq (tgt := 77) d_M_choose_35 (by decide) (fun c => ?_) (fun c => ?_)
    · have v := vt (c); clear vt vf
      refine a_aload_n d_M_choose_77 rfl ?_
      refine a_getAe fl_M_7 d_M_choose_78 (beq_iff_eq.mpr (KNM_100 hm2)) (KRM_100_1 hm2) ?_
      refine a_iload_n d_M_choose_81 rfl ?_
      obtain ⟨c9, c10, v⟩ := v
      refine a_iald d_M_choose_82 (Or.inl (KNM_102 hm2)) c9 (lt_len (NNM_102 hm2) c10) ?_
      refine a_iconst d_M_choose_83 ⟨by decide, by decide⟩ ?_
      obtain ⟨vt, vf⟩ := v
      refine a_icmp_ne (tgt := 91) d_M_choose_84 (by decide) (fun c => ?_) (fun c => ?_)
      · have v := vt (c); clear vt vf
        refine a_aload_n d_M_choose_91 rfl ?_
        refine a_getAe fl_M_13 d_M_choose_92 (beq_iff_eq.mpr (KNM_100 hm2)) (KRM_100_2 hm2) ?_
        refine a_iload_n d_M_choose_95 rfl ?_
        obtain ⟨c12, c13, v⟩ := v
        refine a_iald d_M_choose_96 (Or.inl (KNM_103 hm2)) c12 (lt_len (NNM_103 hm2) c13) ?_
        refine a_istore_n (L' := [some (vr 100), some (vi x1), some (vi x2), some (vi (xI h2 103 (x3).toNat)), some (vi r1), none]) d_M_choose_97 (Nat.le_of_ble_eq_true rfl) rfl rfl ?_
        refine a_goto (tgt := 14) d_M_choose_98 (by decide) ?_
        exact Ev.weak v ⟨rfl, rfl, rfl, rfl, trivial⟩
      · have v := vf (Classical.not_not.mp c); clear vt vf
        refine a_iconst d_M_choose_87 ⟨by decide, by decide⟩ ?_
        refine a_goto (tgt := 97) d_M_choose_88 (by decide) ?_
        refine a_istore_n (L' := [some (vr 100), some (vi x1), some (vi x2), some (vi (-1 : Int)), some (vi r1), none]) d_M_choose_97 (Nat.le_of_ble_eq_true rfl) rfl rfl ?_
        refine a_goto (tgt := 14) d_M_choose_98 (by decide) ?_
        exact Ev.weak v ⟨rfl, rfl, rfl, rfl, trivial⟩
    · have v := vf (c); clear vt vf
      refine a_aload_n d_M_choose_38 rfl ?_
      refine a_getAe fl_M_28 d_M_choose_39 (beq_iff_eq.mpr (KNM_100 hm2)) (KRM_100_8 hm2) ?_
      refine a_iload d_M_choose_42 rfl ?_
      obtain ⟨c15, c16, v⟩ := v
      refine a_iald d_M_choose_44 (Or.inl (KNM_109 hm2)) c15 (lt_len (NNM_109 hm2) c16) ?_
      obtain ⟨vt, vf⟩ := v
      refine a_if_eq (tgt := 59) d_M_choose_45 (by decide) (fun c => ?_) (fun c => ?_)
      · have v := vt (c); clear vt vf
        refine a_aload_n d_M_choose_59 rfl ?_
        refine a_getAe fl_M_28 d_M_choose_60 (beq_iff_eq.mpr (KNM_100 hm2)) (KRM_100_8 hm2) ?_
        refine a_iload d_M_choose_63 rfl ?_
        obtain ⟨c18, c19, v⟩ := v
        refine a_iald d_M_choose_65 (Or.inl (KNM_109 hm2)) c18 (lt_len (NNM_109 hm2) c19) ?_
        obtain ⟨vt, vf⟩ := v
        refine a_if_ne (tgt := 74) d_M_choose_66 (by decide) (fun c => ?_) (fun c => ?_)
        · have v := vt (c); clear vt vf
          refine a_bipush d_M_choose_74 ⟨by decide, by decide⟩ (by decide) ?_
          exact a_iret d_M_choose_76 rfl v
        · have v := vf (Classical.not_not.mp c); clear vt vf
          refine a_iload d_M_choose_69 rfl ?_
          refine a_goto (tgt := 76) d_M_choose_71 (by decide) ?_
          exact a_iret d_M_choose_76 rfl v
      · have v := vf (c); clear vt vf
        refine a_aload_n d_M_choose_48 rfl ?_
        refine a_getAe fl_M_28 d_M_choose_49 (beq_iff_eq.mpr (KNM_100 hm2)) (KRM_100_8 hm2) ?_
        refine a_iload d_M_choose_52 rfl ?_
        obtain ⟨c21, c22, v⟩ := v
        refine a_iald d_M_choose_54 (Or.inl (KNM_109 hm2)) c21 (lt_len (NNM_109 hm2) c22) ?_
        refine a_iconst d_M_choose_55 ⟨by decide, by decide⟩ ?_
        obtain ⟨vt, vf⟩ := v
        refine a_icmp_ne (tgt := 77) d_M_choose_56 (by decide) (fun c => ?_) (fun c => ?_)
        · have v := vt (c); clear vt vf
          refine a_aload_n d_M_choose_77 rfl ?_
          refine a_getAe fl_M_7 d_M_choose_78 (beq_iff_eq.mpr (KNM_100 hm2)) (KRM_100_1 hm2) ?_
          refine a_iload_n d_M_choose_81 rfl ?_
          obtain ⟨c24, c25, v⟩ := v
          refine a_iald d_M_choose_82 (Or.inl (KNM_102 hm2)) c24 (lt_len (NNM_102 hm2) c25) ?_
          refine a_iconst d_M_choose_83 ⟨by decide, by decide⟩ ?_
          obtain ⟨vt, vf⟩ := v
          refine a_icmp_ne (tgt := 91) d_M_choose_84 (by decide) (fun c => ?_) (fun c => ?_)
          · have v := vt (c); clear vt vf
            refine a_aload_n d_M_choose_91 rfl ?_
            refine a_getAe fl_M_13 d_M_choose_92 (beq_iff_eq.mpr (KNM_100 hm2)) (KRM_100_2 hm2) ?_
            refine a_iload_n d_M_choose_95 rfl ?_
            obtain ⟨c27, c28, v⟩ := v
            refine a_iald d_M_choose_96 (Or.inl (KNM_103 hm2)) c27 (lt_len (NNM_103 hm2) c28) ?_
            refine a_istore_n (L' := [some (vr 100), some (vi x1), some (vi x2), some (vi (xI h2 103 (x3).toNat)), some (vi r1), none]) d_M_choose_97 (Nat.le_of_ble_eq_true rfl) rfl rfl ?_
            refine a_goto (tgt := 14) d_M_choose_98 (by decide) ?_
            exact Ev.weak v ⟨rfl, rfl, rfl, rfl, trivial⟩
          · have v := vf (Classical.not_not.mp c); clear vt vf
            refine a_iconst d_M_choose_87 ⟨by decide, by decide⟩ ?_
            refine a_goto (tgt := 97) d_M_choose_88 (by decide) ?_
            refine a_istore_n (L' := [some (vr 100), some (vi x1), some (vi x2), some (vi (-1 : Int)), some (vi r1), none]) d_M_choose_97 (Nat.le_of_ble_eq_true rfl) rfl rfl ?_
            refine a_goto (tgt := 14) d_M_choose_98 (by decide) ?_
            exact Ev.weak v ⟨rfl, rfl, rfl, rfl, trivial⟩
        · have v := vf (Classical.not_not.mp c); clear vt vf
          refine a_aload_n d_M_choose_59 rfl ?_
          refine a_getAe fl_M_28 d_M_choose_60 (beq_iff_eq.mpr (KNM_100 hm2)) (KRM_100_8 hm2) ?_
          refine a_iload d_M_choose_63 rfl ?_
          obtain ⟨c30, c31, v⟩ := v
          refine a_iald d_M_choose_65 (Or.inl (KNM_109 hm2)) c30 (lt_len (NNM_109 hm2) c31) ?_
          obtain ⟨vt, vf⟩ := v
          refine a_if_ne (tgt := 74) d_M_choose_66 (by decide) (fun c => ?_) (fun c => ?_)
          · have v := vt (c); clear vt vf
            refine a_bipush d_M_choose_74 ⟨by decide, by decide⟩ (by decide) ?_
            exact a_iret d_M_choose_76 rfl v
          · have v := vf (Classical.not_not.mp c); clear vt vf
            refine a_iload d_M_choose_69 rfl ?_
            refine a_goto (tgt := 76) d_M_choose_71 (by decide) ?_
            exact a_iret d_M_choose_76 rfl v
theorem m_M_choose_119 {l : Launch} {D : DD} {d kc ks : Nat} {h : Hp} {Φ : Option AV → Hp → Prop} {x1 : Int} {x2 : Int} {x3 : Int} {x4 : Int} {x5 : Int} (hM : MS h) (v : (x5 ≥ xI h 100 5 → (Φ (some (vi x4)) h)) ∧ (x5 < xI h 100 5 → (0 ≤ x5 ∧ x5 < 48 ∧ ((xI h 128 (x5).toNat = 0 → (Ev l D Y_M_choose (d + 1) kc ks 119 [some (vr 100), some (vi x1), some (vi x2), some (vi x3), some (vi x4), some (vi (wr (x5 + (1 : Int))))] [] h Φ)) ∧ (¬ xI h 128 (x5).toNat = 0 → (0 ≤ x5 ∧ x5 < 48 ∧ ((¬ xI h 109 (x5).toNat = 0 → (Ev l D Y_M_choose (d + 1) kc ks 119 [some (vr 100), some (vi x1), some (vi x2), some (vi x3), some (vi x4), some (vi (wr (x5 + (1 : Int))))] [] h Φ)) ∧ (xI h 109 (x5).toNat = 0 → ((¬ x4 = (-4 : Int) → (Ev l D Y_M_choose (d + 1) kc ks 119 [some (vr 100), some (vi x1), some (vi x2), some (vi x3), some (vi (-5 : Int)), some (vi (wr (x5 + (1 : Int))))] [] h Φ)) ∧ (x4 = (-4 : Int) → (Ev l D Y_M_choose (d + 1) kc ks 119 [some (vr 100), some (vi x1), some (vi x2), some (vi x3), some (vi x5), some (vi (wr (x5 + (1 : Int))))] [] h Φ))))))))))) : Ev l D Y_M_choose (d + 1) kc ks 119 [some (vr 100), some (vi x1), some (vi x2), some (vi x3), some (vi x4), some (vi x5)] [] h Φ := by
  refine a_iload d_M_choose_119 rfl ?_
  refine a_aload_n d_M_choose_121 rfl ?_
  refine a_getI fl_M_131 d_M_choose_122 (beq_iff_eq.mpr (KNM_100 hM)) ?_
  obtain ⟨vt, vf⟩ := v
  refine a_icmp_ge (tgt := 170) d_M_choose_125 (by decide) (fun c => ?_) (fun c => ?_)
  · have v := vt (c); clear vt vf
    refine a_iload d_M_choose_170 rfl ?_
    exact a_iret d_M_choose_172 rfl v
  · have v := vf (Int.not_le.mp c); clear vt vf
    refine a_aload_n d_M_choose_128 rfl ?_
    refine a_getAe fl_M_74 d_M_choose_129 (beq_iff_eq.mpr (KNM_100 hM)) (KRM_100_27 hM) ?_
    refine a_iload d_M_choose_132 rfl ?_
    obtain ⟨c2, c3, v⟩ := v
    refine a_zald d_M_choose_134 (KNM_128 hM) c2 (lt_len (NNM_128 hM) c3) ?_
    obtain ⟨vt, vf⟩ := v
    refine a_if_eq (tgt := 164) d_M_choose_135 (by decide) (fun c => ?_) (fun c => ?_)
    · have v := vt (c); clear vt vf
      refine a_iinc (L' := [some (vr 100), some (vi x1), some (vi x2), some (vi x3), some (vi x4), some (vi (wr (x5 + (1 : Int))))]) d_M_choose_164 rfl (Nat.le_of_ble_eq_true rfl) rfl rfl ?_
      refine a_goto (tgt := 119) d_M_choose_167 (by decide) ?_
      exact v
    · have v := vf (c); clear vt vf
      refine a_aload_n d_M_choose_138 rfl ?_
      refine a_getAe fl_M_28 d_M_choose_139 (beq_iff_eq.mpr (KNM_100 hM)) (KRM_100_8 hM) ?_
      refine a_iload d_M_choose_142 rfl ?_
      obtain ⟨c5, c6, v⟩ := v
      refine a_iald d_M_choose_144 (Or.inl (KNM_109 hM)) c5 (lt_len (NNM_109 hM) c6) ?_
      obtain ⟨vt, vf⟩ := v
      refine a_if_ne (tgt := 164) d_M_choose_145 (by decide) (fun c => ?_) (fun c => ?_)
      · have v := vt (c); clear vt vf
        refine a_iinc (L' := [some (vr 100), some (vi x1), some (vi x2), some (vi x3), some (vi x4), some (vi (wr (x5 + (1 : Int))))]) d_M_choose_164 rfl (Nat.le_of_ble_eq_true rfl) rfl rfl ?_
        refine a_goto (tgt := 119) d_M_choose_167 (by decide) ?_
        exact v
      · have v := vf (Classical.not_not.mp c); clear vt vf
        refine a_iload d_M_choose_148 rfl ?_
        refine a_bipush d_M_choose_150 ⟨by decide, by decide⟩ (by decide) ?_
        obtain ⟨vt, vf⟩ := v
        refine a_icmp_ne (tgt := 160) d_M_choose_152 (by decide) (fun c => ?_) (fun c => ?_)
        · have v := vt (c); clear vt vf
          refine a_bipush d_M_choose_160 ⟨by decide, by decide⟩ (by decide) ?_
          refine a_istore (L' := [some (vr 100), some (vi x1), some (vi x2), some (vi x3), some (vi (-5 : Int)), some (vi x5)]) d_M_choose_162 (Nat.le_of_ble_eq_true rfl) rfl rfl ?_
          refine a_iinc (L' := [some (vr 100), some (vi x1), some (vi x2), some (vi x3), some (vi (-5 : Int)), some (vi (wr (x5 + (1 : Int))))]) d_M_choose_164 rfl (Nat.le_of_ble_eq_true rfl) rfl rfl ?_
          refine a_goto (tgt := 119) d_M_choose_167 (by decide) ?_
          exact v
        · have v := vf (Classical.not_not.mp c); clear vt vf
          refine a_iload d_M_choose_155 rfl ?_
          refine a_goto (tgt := 162) d_M_choose_157 (by decide) ?_
          refine a_istore (L' := [some (vr 100), some (vi x1), some (vi x2), some (vi x3), some (vi x5), some (vi x5)]) d_M_choose_162 (Nat.le_of_ble_eq_true rfl) rfl rfl ?_
          refine a_iinc (L' := [some (vr 100), some (vi x1), some (vi x2), some (vi x3), some (vi x5), some (vi (wr (x5 + (1 : Int))))]) d_M_choose_164 rfl (Nat.le_of_ble_eq_true rfl) rfl rfl ?_
          refine a_goto (tgt := 119) d_M_choose_167 (by decide) ?_
          exact v
theorem d_M_chosenOf_0 : decode Y_M_chosenOf.2.1 0 = .ok (.aload_n 0, 1) := by decide +kernel
theorem d_M_chosenOf_1 : decode Y_M_chosenOf.2.1 1 = .ok (.iload_n 2, 1) := by decide +kernel
theorem d_M_chosenOf_2 : decode Y_M_chosenOf.2.1 2 = .ok (.iload_n 3, 1) := by decide +kernel
theorem d_M_chosenOf_3 : decode Y_M_chosenOf.2.1 3 = .ok (.invokevirtual 173, 3) := by decide +kernel
theorem d_M_chosenOf_6 : decode Y_M_chosenOf.2.1 6 = .ok (.istore 4, 2) := by decide +kernel
theorem d_M_chosenOf_8 : decode Y_M_chosenOf.2.1 8 = .ok (.iload 4, 2) := by decide +kernel
theorem d_M_chosenOf_10 : decode Y_M_chosenOf.2.1 10 = .ok (.iconst (-1), 1) := by decide +kernel
theorem d_M_chosenOf_11 : decode Y_M_chosenOf.2.1 11 = .ok (.if_icmp .ne 8, 3) := by decide +kernel
theorem d_M_chosenOf_14 : decode Y_M_chosenOf.2.1 14 = .ok (.bipush (-2), 2) := by decide +kernel
theorem d_M_chosenOf_16 : decode Y_M_chosenOf.2.1 16 = .ok (.goto 26, 3) := by decide +kernel
theorem d_M_chosenOf_19 : decode Y_M_chosenOf.2.1 19 = .ok (.aload_n 0, 1) := by decide +kernel
theorem d_M_chosenOf_20 : decode Y_M_chosenOf.2.1 20 = .ok (.getfield 28, 3) := by decide +kernel
theorem d_M_chosenOf_23 : decode Y_M_chosenOf.2.1 23 = .ok (.iload 4, 2) := by decide +kernel
theorem d_M_chosenOf_25 : decode Y_M_chosenOf.2.1 25 = .ok (.iaload, 1) := by decide +kernel
theorem d_M_chosenOf_26 : decode Y_M_chosenOf.2.1 26 = .ok (.iconst 2, 1) := by decide +kernel
theorem d_M_chosenOf_27 : decode Y_M_chosenOf.2.1 27 = .ok (.if_icmp .ne 8, 3) := by decide +kernel
theorem d_M_chosenOf_30 : decode Y_M_chosenOf.2.1 30 = .ok (.bipush (-3), 2) := by decide +kernel
theorem d_M_chosenOf_32 : decode Y_M_chosenOf.2.1 32 = .ok (.goto 10, 3) := by decide +kernel
theorem d_M_chosenOf_35 : decode Y_M_chosenOf.2.1 35 = .ok (.aload_n 0, 1) := by decide +kernel
theorem d_M_chosenOf_36 : decode Y_M_chosenOf.2.1 36 = .ok (.iload_n 1, 1) := by decide +kernel
theorem d_M_chosenOf_37 : decode Y_M_chosenOf.2.1 37 = .ok (.iload 4, 2) := by decide +kernel
theorem d_M_chosenOf_39 : decode Y_M_chosenOf.2.1 39 = .ok (.invokevirtual 176, 3) := by decide +kernel
theorem d_M_chosenOf_42 : decode Y_M_chosenOf.2.1 42 = .ok (.ireturn, 1) := by decide +kernel
theorem m_M_chosenOf_0 {l : Launch} {D : DD} {d kc ks : Nat} {h : Hp} {Φ : Option AV → Hp → Prop} {x1 : Int} {x2 : Int} {x3 : Int} (hM : MS h) (v : Ev l D Y_M_find d 0 0 0 [some (vr 100), some (vi x2), some (vi x3), none, none, none, none, none] [] h (ki (fun r1 h1 => MS h1 ∧ ((¬ r1 = (-1 : Int) → (0 ≤ r1 ∧ r1 < 48 ∧ ((¬ xI h1 109 (r1).toNat = (2 : Int) → (Ev l D Y_M_choose d 0 0 0 [some (vr 100), some (vi x1), some (vi r1), none, none, none] [] h1 (ki (fun r2 h2 => MS h2 ∧ (Φ (some (vi r2)) h2))))) ∧ (xI h1 109 (r1).toNat = (2 : Int) → (Φ (some (vi (-3 : Int))) h1))))) ∧ (r1 = (-1 : Int) → (Φ (some (vi (-2 : Int))) h1)))))) : Ev l D Y_M_chosenOf (d + 1) kc ks 0 [some (vr 100), some (vi x1), some (vi x2), some (vi x3), none] [] h Φ := by
  refine a_aload_n d_M_chosenOf_0 rfl ?_
  refine a_iload_n d_M_chosenOf_1 rfl ?_
  refine a_iload_n d_M_chosenOf_2 rfl ?_
  refine b_callV (as := [vi x2, vi x3]) (b := 100) (st := []) (kd := 12) (kc1 := 0) (ks1 := 0) (kc2 := kc) (ks2 := ks) (d' := d) ml_M_173 rfl d_M_chosenOf_3 rfl rfl (Nat.le_of_ble_eq_true rfl) (by decide) rfl (Nat.le_refl _) (by omega) (by omega) (KNM_100 hM) ?_
  refine Ev.mono v ?_
  intro u h1 v
  obtain ⟨r1, rfl, v⟩ := ki_el v
  obtain ⟨hm1, v⟩ := v
  change Ev l D Y_M_chosenOf _ _ _ 6 [some (vr 100), some (vi x1), some (vi x2), some (vi x3), none] [vi r1] _ _
  refine a_istore (L' := [some (vr 100), some (vi x1), some (vi x2), some (vi x3), some (vi r1)]) d_M_chosenOf_6 (Nat.le_of_ble_eq_true rfl) rfl rfl ?_
  refine a_iload d_M_chosenOf_8 rfl ?_
  refine a_iconst d_M_chosenOf_10 ⟨by decide, by decide⟩ ?_
  obtain ⟨vt, vf⟩ := v
  refine a_icmp_ne (tgt := 19) d_M_chosenOf_11 (by decide) (fun c => ?_) (fun c => ?_)
  · have v := vt (c); clear vt vf
    refine a_aload_n d_M_chosenOf_19 rfl ?_
    refine a_getAe fl_M_28 d_M_chosenOf_20 (beq_iff_eq.mpr (KNM_100 hm1)) (KRM_100_8 hm1) ?_
    refine a_iload d_M_chosenOf_23 rfl ?_
    obtain ⟨c2, c3, v⟩ := v
    refine a_iald d_M_chosenOf_25 (Or.inl (KNM_109 hm1)) c2 (lt_len (NNM_109 hm1) c3) ?_
    refine a_iconst d_M_chosenOf_26 ⟨by decide, by decide⟩ ?_
    obtain ⟨vt, vf⟩ := v
    refine a_icmp_ne (tgt := 35) d_M_chosenOf_27 (by decide) (fun c => ?_) (fun c => ?_)
    · have v := vt (c); clear vt vf
      refine a_aload_n d_M_chosenOf_35 rfl ?_
      refine a_iload_n d_M_chosenOf_36 rfl ?_
      refine a_iload d_M_chosenOf_37 rfl ?_
      refine b_callV (as := [vi x1, vi r1]) (b := 100) (st := []) (kd := 12) (kc1 := 0) (ks1 := 0) (kc2 := kc) (ks2 := ks) (d' := d) ml_M_176 rfl d_M_chosenOf_39 rfl rfl (Nat.le_of_ble_eq_true rfl) (by decide) rfl (Nat.le_refl _) (by omega) (by omega) (KNM_100 hm1) ?_
      refine Ev.mono v ?_
      intro u h2 v
      obtain ⟨r2, rfl, v⟩ := ki_el v
      obtain ⟨hm2, v⟩ := v
      change Ev l D Y_M_chosenOf _ _ _ 42 [some (vr 100), some (vi x1), some (vi x2), some (vi x3), some (vi r1)] [vi r2] _ _
      exact a_iret d_M_chosenOf_42 rfl v
    · have v := vf (Classical.not_not.mp c); clear vt vf
      refine a_bipush d_M_chosenOf_30 ⟨by decide, by decide⟩ (by decide) ?_
      refine a_goto (tgt := 42) d_M_chosenOf_32 (by decide) ?_
      exact a_iret d_M_chosenOf_42 rfl v
  · have v := vf (Classical.not_not.mp c); clear vt vf
    refine a_bipush d_M_chosenOf_14 ⟨by decide, by decide⟩ (by decide) ?_
    refine a_goto (tgt := 42) d_M_chosenOf_16 (by decide) ?_
    exact a_iret d_M_chosenOf_42 rfl v
theorem d_M_under_0 : decode Y_M_under.2.1 0 = .ok (.aload_n 0, 1) := by decide +kernel
theorem d_M_under_1 : decode Y_M_under.2.1 1 = .ok (.iload_n 1, 1) := by decide +kernel
theorem d_M_under_2 : decode Y_M_under.2.1 2 = .ok (.invokevirtual 141, 3) := by decide +kernel
theorem d_M_under_5 : decode Y_M_under.2.1 5 = .ok (.ifCond .eq 11, 3) := by decide +kernel
theorem d_M_under_8 : decode Y_M_under.2.1 8 = .ok (.aload_n 0, 1) := by decide +kernel
theorem d_M_under_9 : decode Y_M_under.2.1 9 = .ok (.iload_n 2, 1) := by decide +kernel
theorem d_M_under_10 : decode Y_M_under.2.1 10 = .ok (.invokevirtual 141, 3) := by decide +kernel
theorem d_M_under_13 : decode Y_M_under.2.1 13 = .ok (.ifCond .ne 8, 3) := by decide +kernel
theorem d_M_under_16 : decode Y_M_under.2.1 16 = .ok (.bipush (-101), 2) := by decide +kernel
theorem d_M_under_18 : decode Y_M_under.2.1 18 = .ok (.goto 17, 3) := by decide +kernel
theorem d_M_under_21 : decode Y_M_under.2.1 21 = .ok (.aload_n 0, 1) := by decide +kernel
theorem d_M_under_22 : decode Y_M_under.2.1 22 = .ok (.iload_n 1, 1) := by decide +kernel
theorem d_M_under_23 : decode Y_M_under.2.1 23 = .ok (.iload_n 2, 1) := by decide +kernel
theorem d_M_under_24 : decode Y_M_under.2.1 24 = .ok (.invokevirtual 166, 3) := by decide +kernel
theorem d_M_under_27 : decode Y_M_under.2.1 27 = .ok (.ifCond .eq 7, 3) := by decide +kernel
theorem d_M_under_30 : decode Y_M_under.2.1 30 = .ok (.iconst 1, 1) := by decide +kernel
theorem d_M_under_31 : decode Y_M_under.2.1 31 = .ok (.goto 4, 3) := by decide +kernel
theorem d_M_under_34 : decode Y_M_under.2.1 34 = .ok (.iconst 0, 1) := by decide +kernel
theorem d_M_under_35 : decode Y_M_under.2.1 35 = .ok (.ireturn, 1) := by decide +kernel
theorem m_M_under_0 {l : Launch} {D : DD} {d kc ks : Nat} {h : Hp} {Φ : Option AV → Hp → Prop} {x1 : Int} {x2 : Int} (hM : MS h) (v : Ev l D Y_M_isType d 0 0 0 [some (vr 100), some (vi x1)] [] h (ki (fun r1 h1 => MS h1 ∧ ((r1 = 0 → (Φ (some (vi (-101 : Int))) h1)) ∧ (¬ r1 = 0 → (Ev l D Y_M_isType d 0 0 0 [some (vr 100), some (vi x2)] [] h1 (ki (fun r2 h2 => MS h2 ∧ ((¬ r2 = 0 → (Ev l D Y_M_isUnder d 0 0 0 [some (vr 100), some (vi x1), some (vi x2), none, none] [] h2 (ki (fun r3 h3 => MS h3 ∧ ((r3 = 0 → (Φ (some (vi (0 : Int))) h3)) ∧ (¬ r3 = 0 → (Φ (some (vi (1 : Int))) h3))))))) ∧ (r2 = 0 → (Φ (some (vi (-101 : Int))) h2))))))))))) : Ev l D Y_M_under (d + 1) kc ks 0 [some (vr 100), some (vi x1), some (vi x2)] [] h Φ := by
  refine a_aload_n d_M_under_0 rfl ?_
  refine a_iload_n d_M_under_1 rfl ?_
  refine b_callV (as := [vi x1]) (b := 100) (st := []) (kd := 12) (kc1 := 0) (ks1 := 0) (kc2 := kc) (ks2 := ks) (d' := d) ml_M_141 rfl d_M_under_2 rfl rfl (Nat.le_of_ble_eq_true rfl) (by decide) rfl (Nat.le_refl _) (by omega) (by omega) (KNM_100 hM) ?_
  refine Ev.mono v ?_
  intro u h1 v
  obtain ⟨r1, rfl, v⟩ := ki_el v
  obtain ⟨hm1, v⟩ := v
  change Ev l D Y_M_under _ _ _ 5 [some (vr 100), some (vi x1), some (vi x2)] [vi r1] _ _
  obtain ⟨vt, vf⟩ := v
  refine a_if_eq (tgt := 16) d_M_under_5 (by decide) (fun c => ?_) (fun c => ?_)
  · have v := vt (c); clear vt vf
    refine a_bipush d_M_under_16 ⟨by decide, by decide⟩ (by decide) ?_
    refine a_goto (tgt := 35) d_M_under_18 (by decide) ?_
    exact a_iret d_M_under_35 rfl v
  · have v := vf (c); clear vt vf
    refine a_aload_n d_M_under_8 rfl ?_
    refine a_iload_n d_M_under_9 rfl ?_
    refine b_callV (as := [vi x2]) (b := 100) (st := []) (kd := 12) (kc1 := 0) (ks1 := 0) (kc2 := kc) (ks2 := ks) (d' := d) ml_M_141 rfl d_M_under_10 rfl rfl (Nat.le_of_ble_eq_true rfl) (by decide) rfl (Nat.le_refl _) (by omega) (by omega) (KNM_100 hm1) ?_
    refine Ev.mono v ?_
    intro u h2 v
    obtain ⟨r2, rfl, v⟩ := ki_el v
    obtain ⟨hm2, v⟩ := v
    change Ev l D Y_M_under _ _ _ 13 [some (vr 100), some (vi x1), some (vi x2)] [vi r2] _ _
    obtain ⟨vt, vf⟩ := v
    refine a_if_ne (tgt := 21) d_M_under_13 (by decide) (fun c => ?_) (fun c => ?_)
    · have v := vt (c); clear vt vf
      refine a_aload_n d_M_under_21 rfl ?_
      refine a_iload_n d_M_under_22 rfl ?_
      refine a_iload_n d_M_under_23 rfl ?_
      refine b_callV (as := [vi x1, vi x2]) (b := 100) (st := []) (kd := 12) (kc1 := 0) (ks1 := 0) (kc2 := kc) (ks2 := ks) (d' := d) ml_M_166 rfl d_M_under_24 rfl rfl (Nat.le_of_ble_eq_true rfl) (by decide) rfl (Nat.le_refl _) (by omega) (by omega) (KNM_100 hm2) ?_
      refine Ev.mono v ?_
      intro u h3 v
      obtain ⟨r3, rfl, v⟩ := ki_el v
      obtain ⟨hm3, v⟩ := v
      change Ev l D Y_M_under _ _ _ 27 [some (vr 100), some (vi x1), some (vi x2)] [vi r3] _ _
      obtain ⟨vt, vf⟩ := v
      refine a_if_eq (tgt := 34) d_M_under_27 (by decide) (fun c => ?_) (fun c => ?_)
      · have v := vt (c); clear vt vf
        refine a_iconst d_M_under_34 ⟨by decide, by decide⟩ ?_
        exact a_iret d_M_under_35 rfl v
      · have v := vf (c); clear vt vf
        refine a_iconst d_M_under_30 ⟨by decide, by decide⟩ ?_
        refine a_goto (tgt := 35) d_M_under_31 (by decide) ?_
        exact a_iret d_M_under_35 rfl v
    · have v := vf (Classical.not_not.mp c); clear vt vf
      refine a_bipush d_M_under_16 ⟨by decide, by decide⟩ (by decide) ?_
      refine a_goto (tgt := 35) d_M_under_18 (by decide) ?_
      exact a_iret d_M_under_35 rfl v
theorem d_M_found_0 : decode Y_M_found.2.1 0 = .ok (.aload_n 0, 1) := by decide +kernel
theorem d_M_found_1 : decode Y_M_found.2.1 1 = .ok (.iload_n 1, 1) := by decide +kernel
theorem d_M_found_2 : decode Y_M_found.2.1 2 = .ok (.invokevirtual 141, 3) := by decide +kernel
theorem d_M_found_5 : decode Y_M_found.2.1 5 = .ok (.ifCond .ne 8, 3) := by decide +kernel
theorem d_M_found_8 : decode Y_M_found.2.1 8 = .ok (.bipush (-101), 2) := by decide +kernel
theorem d_M_found_10 : decode Y_M_found.2.1 10 = .ok (.goto 24, 3) := by decide +kernel
theorem d_M_found_13 : decode Y_M_found.2.1 13 = .ok (.iload_n 2, 1) := by decide +kernel
theorem d_M_found_14 : decode Y_M_found.2.1 14 = .ok (.iconst 0, 1) := by decide +kernel
theorem d_M_found_15 : decode Y_M_found.2.1 15 = .ok (.bipush 9, 2) := by decide +kernel
theorem d_M_found_17 : decode Y_M_found.2.1 17 = .ok (.invokestatic 127, 3) := by decide +kernel
theorem d_M_found_20 : decode Y_M_found.2.1 20 = .ok (.ifCond .ne 8, 3) := by decide +kernel
theorem d_M_found_23 : decode Y_M_found.2.1 23 = .ok (.bipush (-102), 2) := by decide +kernel
theorem d_M_found_25 : decode Y_M_found.2.1 25 = .ok (.goto 9, 3) := by decide +kernel
theorem d_M_found_28 : decode Y_M_found.2.1 28 = .ok (.aload_n 0, 1) := by decide +kernel
theorem d_M_found_29 : decode Y_M_found.2.1 29 = .ok (.iload_n 1, 1) := by decide +kernel
theorem d_M_found_30 : decode Y_M_found.2.1 30 = .ok (.iload_n 2, 1) := by decide +kernel
theorem d_M_found_31 : decode Y_M_found.2.1 31 = .ok (.invokevirtual 173, 3) := by decide +kernel
theorem d_M_found_34 : decode Y_M_found.2.1 34 = .ok (.ireturn, 1) := by decide +kernel
theorem m_M_found_0 {l : Launch} {D : DD} {d kc ks : Nat} {h : Hp} {Φ : Option AV → Hp → Prop} {x1 : Int} {x2 : Int} (hM : MS h) (v : Ev l D Y_M_isType d 0 0 0 [some (vr 100), some (vi x1)] [] h (ki (fun r1 h1 => MS h1 ∧ ((¬ r1 = 0 → (Ev l D Y_M_in d 0 0 0 [some (vi x2), some (vi (0 : Int)), some (vi (9 : Int))] [] h1 (ki (fun r2 h2 => MS h2 ∧ ((¬ r2 = 0 → (Ev l D Y_M_find d 0 0 0 [some (vr 100), some (vi x1), some (vi x2), none, none, none, none, none] [] h2 (ki (fun r3 h3 => MS h3 ∧ (Φ (some (vi r3)) h3))))) ∧ (r2 = 0 → (Φ (some (vi (-102 : Int))) h2))))))) ∧ (r1 = 0 → (Φ (some (vi (-101 : Int))) h1)))))) : Ev l D Y_M_found (d + 1) kc ks 0 [some (vr 100), some (vi x1), some (vi x2)] [] h Φ := by
  refine a_aload_n d_M_found_0 rfl ?_
  refine a_iload_n d_M_found_1 rfl ?_
  refine b_callV (as := [vi x1]) (b := 100) (st := []) (kd := 12) (kc1 := 0) (ks1 := 0) (kc2 := kc) (ks2 := ks) (d' := d) ml_M_141 rfl d_M_found_2 rfl rfl (Nat.le_of_ble_eq_true rfl) (by decide) rfl (Nat.le_refl _) (by omega) (by omega) (KNM_100 hM) ?_
  refine Ev.mono v ?_
  intro u h1 v
  obtain ⟨r1, rfl, v⟩ := ki_el v
  obtain ⟨hm1, v⟩ := v
  change Ev l D Y_M_found _ _ _ 5 [some (vr 100), some (vi x1), some (vi x2)] [vi r1] _ _
  obtain ⟨vt, vf⟩ := v
  refine a_if_ne (tgt := 13) d_M_found_5 (by decide) (fun c => ?_) (fun c => ?_)
  · have v := vt (c); clear vt vf
    refine a_iload_n d_M_found_13 rfl ?_
    refine a_iconst d_M_found_14 ⟨by decide, by decide⟩ ?_
    refine a_bipush d_M_found_15 ⟨by decide, by decide⟩ (by decide) ?_
    refine b_callS (as := [vi x2, vi (0 : Int), vi (9 : Int)]) (st := []) (kc1 := 0) (ks1 := 0) (kc2 := kc) (ks2 := ks) (d' := d) ml_M_127 rfl d_M_found_17 rfl rfl (Nat.le_of_ble_eq_true rfl) rfl (Nat.le_refl _) (by omega) (by omega) ?_
    refine Ev.mono v ?_
    intro u h2 v
    obtain ⟨r2, rfl, v⟩ := ki_el v
    obtain ⟨hm2, v⟩ := v
    change Ev l D Y_M_found _ _ _ 20 [some (vr 100), some (vi x1), some (vi x2)] [vi r2] _ _
    obtain ⟨vt, vf⟩ := v
    refine a_if_ne (tgt := 28) d_M_found_20 (by decide) (fun c => ?_) (fun c => ?_)
    · have v := vt (c); clear vt vf
      refine a_aload_n d_M_found_28 rfl ?_
      refine a_iload_n d_M_found_29 rfl ?_
      refine a_iload_n d_M_found_30 rfl ?_
      refine b_callV (as := [vi x1, vi x2]) (b := 100) (st := []) (kd := 12) (kc1 := 0) (ks1 := 0) (kc2 := kc) (ks2 := ks) (d' := d) ml_M_173 rfl d_M_found_31 rfl rfl (Nat.le_of_ble_eq_true rfl) (by decide) rfl (Nat.le_refl _) (by omega) (by omega) (KNM_100 hm2) ?_
      refine Ev.mono v ?_
      intro u h3 v
      obtain ⟨r3, rfl, v⟩ := ki_el v
      obtain ⟨hm3, v⟩ := v
      change Ev l D Y_M_found _ _ _ 34 [some (vr 100), some (vi x1), some (vi x2)] [vi r3] _ _
      exact a_iret d_M_found_34 rfl v
    · have v := vf (Classical.not_not.mp c); clear vt vf
      refine a_bipush d_M_found_23 ⟨by decide, by decide⟩ (by decide) ?_
      refine a_goto (tgt := 34) d_M_found_25 (by decide) ?_
      exact a_iret d_M_found_34 rfl v
  · have v := vf (Classical.not_not.mp c); clear vt vf
    refine a_bipush d_M_found_8 ⟨by decide, by decide⟩ (by decide) ?_
    refine a_goto (tgt := 34) d_M_found_10 (by decide) ?_
    exact a_iret d_M_found_34 rfl v
theorem d_M_chosen_0 : decode Y_M_chosen.2.1 0 = .ok (.aload_n 0, 1) := by decide +kernel
theorem d_M_chosen_1 : decode Y_M_chosen.2.1 1 = .ok (.iload_n 1, 1) := by decide +kernel
theorem d_M_chosen_2 : decode Y_M_chosen.2.1 2 = .ok (.invokevirtual 141, 3) := by decide +kernel
theorem d_M_chosen_5 : decode Y_M_chosen.2.1 5 = .ok (.ifCond .eq 11, 3) := by decide +kernel
theorem d_M_chosen_8 : decode Y_M_chosen.2.1 8 = .ok (.aload_n 0, 1) := by decide +kernel
theorem d_M_chosen_9 : decode Y_M_chosen.2.1 9 = .ok (.iload_n 2, 1) := by decide +kernel
theorem d_M_chosen_10 : decode Y_M_chosen.2.1 10 = .ok (.invokevirtual 141, 3) := by decide +kernel
theorem d_M_chosen_13 : decode Y_M_chosen.2.1 13 = .ok (.ifCond .ne 6, 3) := by decide +kernel
theorem d_M_chosen_16 : decode Y_M_chosen.2.1 16 = .ok (.bipush (-101), 2) := by decide +kernel
theorem d_M_chosen_18 : decode Y_M_chosen.2.1 18 = .ok (.ireturn, 1) := by decide +kernel
theorem d_M_chosen_19 : decode Y_M_chosen.2.1 19 = .ok (.iload_n 3, 1) := by decide +kernel
theorem d_M_chosen_20 : decode Y_M_chosen.2.1 20 = .ok (.iconst 0, 1) := by decide +kernel
theorem d_M_chosen_21 : decode Y_M_chosen.2.1 21 = .ok (.bipush 9, 2) := by decide +kernel
theorem d_M_chosen_23 : decode Y_M_chosen.2.1 23 = .ok (.invokestatic 127, 3) := by decide +kernel
theorem d_M_chosen_26 : decode Y_M_chosen.2.1 26 = .ok (.ifCond .eq 12, 3) := by decide +kernel
theorem d_M_chosen_29 : decode Y_M_chosen.2.1 29 = .ok (.aload_n 0, 1) := by decide +kernel
theorem d_M_chosen_30 : decode Y_M_chosen.2.1 30 = .ok (.iload_n 1, 1) := by decide +kernel
theorem d_M_chosen_31 : decode Y_M_chosen.2.1 31 = .ok (.iload_n 2, 1) := by decide +kernel
theorem d_M_chosen_32 : decode Y_M_chosen.2.1 32 = .ok (.invokevirtual 166, 3) := by decide +kernel
theorem d_M_chosen_35 : decode Y_M_chosen.2.1 35 = .ok (.ifCond .ne 8, 3) := by decide +kernel
theorem d_M_chosen_38 : decode Y_M_chosen.2.1 38 = .ok (.bipush (-102), 2) := by decide +kernel
theorem d_M_chosen_40 : decode Y_M_chosen.2.1 40 = .ok (.goto 10, 3) := by decide +kernel
theorem d_M_chosen_43 : decode Y_M_chosen.2.1 43 = .ok (.aload_n 0, 1) := by decide +kernel
theorem d_M_chosen_44 : decode Y_M_chosen.2.1 44 = .ok (.iload_n 1, 1) := by decide +kernel
theorem d_M_chosen_45 : decode Y_M_chosen.2.1 45 = .ok (.iload_n 2, 1) := by decide +kernel
theorem d_M_chosen_46 : decode Y_M_chosen.2.1 46 = .ok (.iload_n 3, 1) := by decide +kernel
theorem d_M_chosen_47 : decode Y_M_chosen.2.1 47 = .ok (.invokevirtual 179, 3) := by decide +kernel
theorem d_M_chosen_50 : decode Y_M_chosen.2.1 50 = .ok (.ireturn, 1) := by decide +kernel
theorem m_M_chosen_0 {l : Launch} {D : DD} {d kc ks : Nat} {h : Hp} {Φ : Option AV → Hp → Prop} {x1 : Int} {x2 : Int} {x3 : Int} (hM : MS h) (v : Ev l D Y_M_isType d 0 0 0 [some (vr 100), some (vi x1)] [] h (ki (fun r1 h1 => MS h1 ∧ ((r1 = 0 → (Φ (some (vi (-101 : Int))) h1)) ∧ (¬ r1 = 0 → (Ev l D Y_M_isType d 0 0 0 [some (vr 100), some (vi x2)] [] h1 (ki (fun r2 h2 => MS h2 ∧ ((¬ r2 = 0 → (Ev l D Y_M_in d 0 0 0 [some (vi x3), some (vi (0 : Int)), some (vi (9 : Int))] [] h2 (ki (fun r3 h3 => MS h3 ∧ ((r3 = 0 → (Φ (some (vi (-102 : Int))) h3)) ∧ (¬ r3 = 0 → (Ev l D Y_M_isUnder d 0 0 0 [some (vr 100), some (vi x1), some (vi x2), none, none] [] h3 (ki (fun r4 h4 => MS h4 ∧ ((¬ r4 = 0 → (Ev l D Y_M_chosenOf d 0 0 0 [some (vr 100), some (vi x1), some (vi x2), some (vi x3), none] [] h4 (ki (fun r5 h5 => MS h5 ∧ (Φ (some (vi r5)) h5))))) ∧ (r4 = 0 → (Φ (some (vi (-102 : Int))) h4)))))))))))) ∧ (r2 = 0 → (Φ (some (vi (-101 : Int))) h2))))))))))) : Ev l D Y_M_chosen (d + 1) kc ks 0 [some (vr 100), some (vi x1), some (vi x2), some (vi x3)] [] h Φ := by
  refine a_aload_n d_M_chosen_0 rfl ?_
  refine a_iload_n d_M_chosen_1 rfl ?_
  refine b_callV (as := [vi x1]) (b := 100) (st := []) (kd := 12) (kc1 := 0) (ks1 := 0) (kc2 := kc) (ks2 := ks) (d' := d) ml_M_141 rfl d_M_chosen_2 rfl rfl (Nat.le_of_ble_eq_true rfl) (by decide) rfl (Nat.le_refl _) (by omega) (by omega) (KNM_100 hM) ?_
  refine Ev.mono v ?_
  intro u h1 v
  obtain ⟨r1, rfl, v⟩ := ki_el v
  obtain ⟨hm1, v⟩ := v
  change Ev l D Y_M_chosen _ _ _ 5 [some (vr 100), some (vi x1), some (vi x2), some (vi x3)] [vi r1] _ _
  obtain ⟨vt, vf⟩ := v
  refine a_if_eq (tgt := 16) d_M_chosen_5 (by decide) (fun c => ?_) (fun c => ?_)
  · have v := vt (c); clear vt vf
    refine a_bipush d_M_chosen_16 ⟨by decide, by decide⟩ (by decide) ?_
    exact a_iret d_M_chosen_18 rfl v
  · have v := vf (c); clear vt vf
    refine a_aload_n d_M_chosen_8 rfl ?_
    refine a_iload_n d_M_chosen_9 rfl ?_
    refine b_callV (as := [vi x2]) (b := 100) (st := []) (kd := 12) (kc1 := 0) (ks1 := 0) (kc2 := kc) (ks2 := ks) (d' := d) ml_M_141 rfl d_M_chosen_10 rfl rfl (Nat.le_of_ble_eq_true rfl) (by decide) rfl (Nat.le_refl _) (by omega) (by omega) (KNM_100 hm1) ?_
    refine Ev.mono v ?_
    intro u h2 v
    obtain ⟨r2, rfl, v⟩ := ki_el v
    obtain ⟨hm2, v⟩ := v
    change Ev l D Y_M_chosen _ _ _ 13 [some (vr 100), some (vi x1), some (vi x2), some (vi x3)] [vi r2] _ _
    obtain ⟨vt, vf⟩ := v
    refine a_if_ne (tgt := 19) d_M_chosen_13 (by decide) (fun c => ?_) (fun c => ?_)
    · have v := vt (c); clear vt vf
      refine a_iload_n d_M_chosen_19 rfl ?_
      refine a_iconst d_M_chosen_20 ⟨by decide, by decide⟩ ?_
      refine a_bipush d_M_chosen_21 ⟨by decide, by decide⟩ (by decide) ?_
      refine b_callS (as := [vi x3, vi (0 : Int), vi (9 : Int)]) (st := []) (kc1 := 0) (ks1 := 0) (kc2 := kc) (ks2 := ks) (d' := d) ml_M_127 rfl d_M_chosen_23 rfl rfl (Nat.le_of_ble_eq_true rfl) rfl (Nat.le_refl _) (by omega) (by omega) ?_
      refine Ev.mono v ?_
      intro u h3 v
      obtain ⟨r3, rfl, v⟩ := ki_el v
      obtain ⟨hm3, v⟩ := v
      change Ev l D Y_M_chosen _ _ _ 26 [some (vr 100), some (vi x1), some (vi x2), some (vi x3)] [vi r3] _ _
      obtain ⟨vt, vf⟩ := v
      refine a_if_eq (tgt := 38) d_M_chosen_26 (by decide) (fun c => ?_) (fun c => ?_)
      · have v := vt (c); clear vt vf
        refine a_bipush d_M_chosen_38 ⟨by decide, by decide⟩ (by decide) ?_
        refine a_goto (tgt := 50) d_M_chosen_40 (by decide) ?_
        exact a_iret d_M_chosen_50 rfl v
      · have v := vf (c); clear vt vf
        refine a_aload_n d_M_chosen_29 rfl ?_
        refine a_iload_n d_M_chosen_30 rfl ?_
        refine a_iload_n d_M_chosen_31 rfl ?_
        refine b_callV (as := [vi x1, vi x2]) (b := 100) (st := []) (kd := 12) (kc1 := 0) (ks1 := 0) (kc2 := kc) (ks2 := ks) (d' := d) ml_M_166 rfl d_M_chosen_32 rfl rfl (Nat.le_of_ble_eq_true rfl) (by decide) rfl (Nat.le_refl _) (by omega) (by omega) (KNM_100 hm3) ?_
        refine Ev.mono v ?_
        intro u h4 v
        obtain ⟨r4, rfl, v⟩ := ki_el v
        obtain ⟨hm4, v⟩ := v
        change Ev l D Y_M_chosen _ _ _ 35 [some (vr 100), some (vi x1), some (vi x2), some (vi x3)] [vi r4] _ _
        obtain ⟨vt, vf⟩ := v
        refine a_if_ne (tgt := 43) d_M_chosen_35 (by decide) (fun c => ?_) (fun c => ?_)
        · have v := vt (c); clear vt vf
          refine a_aload_n d_M_chosen_43 rfl ?_
          refine a_iload_n d_M_chosen_44 rfl ?_
          refine a_iload_n d_M_chosen_45 rfl ?_
          refine a_iload_n d_M_chosen_46 rfl ?_
          refine b_callV (as := [vi x1, vi x2, vi x3]) (b := 100) (st := []) (kd := 12) (kc1 := 0) (ks1 := 0) (kc2 := kc) (ks2 := ks) (d' := d) ml_M_179 rfl d_M_chosen_47 rfl rfl (Nat.le_of_ble_eq_true rfl) (by decide) rfl (Nat.le_refl _) (by omega) (by omega) (KNM_100 hm4) ?_
          refine Ev.mono v ?_
          intro u h5 v
          obtain ⟨r5, rfl, v⟩ := ki_el v
          obtain ⟨hm5, v⟩ := v
          change Ev l D Y_M_chosen _ _ _ 50 [some (vr 100), some (vi x1), some (vi x2), some (vi x3)] [vi r5] _ _
          exact a_iret d_M_chosen_50 rfl v
        · have v := vf (Classical.not_not.mp c); clear vt vf
          refine a_bipush d_M_chosen_38 ⟨by decide, by decide⟩ (by decide) ?_
          refine a_goto (tgt := 50) d_M_chosen_40 (by decide) ?_
          exact a_iret d_M_chosen_50 rfl v
    · have v := vf (Classical.not_not.mp c); clear vt vf
      refine a_bipush d_M_chosen_16 ⟨by decide, by decide⟩ (by decide) ?_
      exact a_iret d_M_chosen_18 rfl v
theorem d_M_hasPlain_0 : decode Y_M_hasPlain.2.1 0 = .ok (.iconst 0, 1) := by decide +kernel
theorem d_M_hasPlain_1 : decode Y_M_hasPlain.2.1 1 = .ok (.istore_n 2, 1) := by decide +kernel
theorem d_M_hasPlain_2 : decode Y_M_hasPlain.2.1 2 = .ok (.iconst 0, 1) := by decide +kernel
theorem d_M_hasPlain_3 : decode Y_M_hasPlain.2.1 3 = .ok (.istore_n 3, 1) := by decide +kernel
theorem d_M_hasPlain_4 : decode Y_M_hasPlain.2.1 4 = .ok (.iload_n 3, 1) := by decide +kernel
theorem d_M_hasPlain_5 : decode Y_M_hasPlain.2.1 5 = .ok (.aload_n 0, 1) := by decide +kernel
theorem d_M_hasPlain_6 : decode Y_M_hasPlain.2.1 6 = .ok (.getfield 131, 3) := by decide +kernel
theorem d_M_hasPlain_9 : decode Y_M_hasPlain.2.1 9 = .ok (.if_icmp .ge 38, 3) := by decide +kernel
theorem d_M_hasPlain_12 : decode Y_M_hasPlain.2.1 12 = .ok (.iload_n 2, 1) := by decide +kernel
theorem d_M_hasPlain_13 : decode Y_M_hasPlain.2.1 13 = .ok (.ifCond .ne 22, 3) := by decide +kernel
theorem d_M_hasPlain_16 : decode Y_M_hasPlain.2.1 16 = .ok (.aload_n 0, 1) := by decide +kernel
theorem d_M_hasPlain_17 : decode Y_M_hasPlain.2.1 17 = .ok (.getfield 22, 3) := by decide +kernel
theorem d_M_hasPlain_20 : decode Y_M_hasPlain.2.1 20 = .ok (.iload_n 3, 1) := by decide +kernel
theorem d_M_hasPlain_21 : decode Y_M_hasPlain.2.1 21 = .ok (.iaload, 1) := by decide +kernel
theorem d_M_hasPlain_22 : decode Y_M_hasPlain.2.1 22 = .ok (.iload_n 1, 1) := by decide +kernel
theorem d_M_hasPlain_23 : decode Y_M_hasPlain.2.1 23 = .ok (.if_icmp .ne 16, 3) := by decide +kernel
theorem d_M_hasPlain_26 : decode Y_M_hasPlain.2.1 26 = .ok (.aload_n 0, 1) := by decide +kernel
theorem d_M_hasPlain_27 : decode Y_M_hasPlain.2.1 27 = .ok (.getfield 28, 3) := by decide +kernel
theorem d_M_hasPlain_30 : decode Y_M_hasPlain.2.1 30 = .ok (.iload_n 3, 1) := by decide +kernel
theorem d_M_hasPlain_31 : decode Y_M_hasPlain.2.1 31 = .ok (.iaload, 1) := by decide +kernel
theorem d_M_hasPlain_32 : decode Y_M_hasPlain.2.1 32 = .ok (.ifCond .ne 7, 3) := by decide +kernel
theorem d_M_hasPlain_35 : decode Y_M_hasPlain.2.1 35 = .ok (.iconst 1, 1) := by decide +kernel
theorem d_M_hasPlain_36 : decode Y_M_hasPlain.2.1 36 = .ok (.goto 4, 3) := by decide +kernel
theorem d_M_hasPlain_39 : decode Y_M_hasPlain.2.1 39 = .ok (.iconst 0, 1) := by decide +kernel
theorem d_M_hasPlain_40 : decode Y_M_hasPlain.2.1 40 = .ok (.istore_n 2, 1) := by decide +kernel
theorem d_M_hasPlain_41 : decode Y_M_hasPlain.2.1 41 = .ok (.iinc 3 1, 3) := by decide +kernel
theorem d_M_hasPlain_44 : decode Y_M_hasPlain.2.1 44 = .ok (.goto (-40), 3) := by decide +kernel
theorem d_M_hasPlain_47 : decode Y_M_hasPlain.2.1 47 = .ok (.iload_n 2, 1) := by decide +kernel
theorem d_M_hasPlain_48 : decode Y_M_hasPlain.2.1 48 = .ok (.ireturn, 1) := by decide +kernel
theorem m_M_hasPlain_0 {l : Launch} {D : DD} {d kc ks : Nat} {h : Hp} {Φ : Option AV → Hp → Prop} {x1 : Int} (hM : MS h) (v : Ev l D Y_M_hasPlain d kc ks 4 [some (vr 100), some (vi x1), some (vi (0 : Int)), some (vi (0 : Int))] [] h Φ) : Ev l D Y_M_hasPlain d kc ks 0 [some (vr 100), some (vi x1), none, none] [] h Φ := by
  refine a_iconst d_M_hasPlain_0 ⟨by decide, by decide⟩ ?_
  refine a_istore_n (L' := [some (vr 100), some (vi x1), some (vi (0 : Int)), none]) d_M_hasPlain_1 (Nat.le_of_ble_eq_true rfl) rfl rfl ?_
  refine a_iconst d_M_hasPlain_2 ⟨by decide, by decide⟩ ?_
  refine a_istore_n (L' := [some (vr 100), some (vi x1), some (vi (0 : Int)), some (vi (0 : Int))]) d_M_hasPlain_3 (Nat.le_of_ble_eq_true rfl) rfl rfl ?_
  exact v
theorem m_M_hasPlain_4 {l : Launch} {D : DD} {d kc ks : Nat} {h : Hp} {Φ : Option AV → Hp → Prop} {x1 : Int} {x2 : Int} {x3 : Int} (hM : MS h) (v : (x3 ≥ xI h 100 5 → ((x2 = 0 ∨ x2 = 1) ∧ Φ (some (vi x2)) h)) ∧ (x3 < xI h 100 5 → ((¬ x2 = 0 → (Ev l D Y_M_hasPlain d kc ks 40 [some (vr 100), some (vi x1), some (vi x2), some (vi x3)] [vi (1 : Int)] h Φ)) ∧ (x2 = 0 → (0 ≤ x3 ∧ x3 < 48 ∧ ((¬ xI h 107 (x3).toNat = x1 → (Ev l D Y_M_hasPlain d kc ks 40 [some (vr 100), some (vi x1), some (vi x2), some (vi x3)] [vi (0 : Int)] h Φ)) ∧ (xI h 107 (x3).toNat = x1 → (0 ≤ x3 ∧ x3 < 48 ∧ ((¬ xI h 109 (x3).toNat = 0 → (Ev l D Y_M_hasPlain d kc ks 40 [some (vr 100), some (vi x1), some (vi x2), some (vi x3)] [vi (0 : Int)] h Φ)) ∧ (xI h 109 (x3).toNat = 0 → (Ev l D Y_M_hasPlain d kc ks 40 [some (vr 100), some (vi x1), some (vi x2), some (vi x3)] [vi (1 : Int)] h Φ))))))))))) : Ev l D Y_M_hasPlain d kc ks 4 [some (vr 100), some (vi x1), some (vi x2), some (vi x3)] [] h Φ := by
  refine a_iload_n d_M_hasPlain_4 rfl ?_
  refine a_aload_n d_M_hasPlain_5 rfl ?_
  refine a_getI fl_M_131 d_M_hasPlain_6 (beq_iff_eq.mpr (KNM_100 hM)) ?_
  obtain ⟨vt, vf⟩ := v
  refine a_icmp_ge (tgt := 47) d_M_hasPlain_9 (by decide) (fun c => ?_) (fun c => ?_)
  · have v := vt (c); clear vt vf
    refine a_iload_n d_M_hasPlain_47 rfl ?_
    exact a_zret d_M_hasPlain_48 rfl v.1 v.2
  · have v := vf (Int.not_le.mp c); clear vt vf
    refine a_iload_n d_M_hasPlain_12 rfl ?_
    obtain ⟨vt, vf⟩ := v
    refine a_if_ne (tgt := 35) d_M_hasPlain_13 (by decide) (fun c => ?_) (fun c => ?_)
    · have v := vt (c); clear vt vf
      refine a_iconst d_M_hasPlain_35 ⟨by decide, by decide⟩ ?_
      refine a_goto (tgt := 40) d_M_hasPlain_36 (by decide) ?_
      exact v
    · have v := vf (Classical.not_not.mp c); clear vt vf
      refine a_aload_n d_M_hasPlain_16 rfl ?_
      refine a_getAe fl_M_22 d_M_hasPlain_17 (beq_iff_eq.mpr (KNM_100 hM)) (KRM_100_6 hM) ?_
      refine a_iload_n d_M_hasPlain_20 rfl ?_
      obtain ⟨c2, c3, v⟩ := v
      refine a_iald d_M_hasPlain_21 (Or.inl (KNM_107 hM)) c2 (lt_len (NNM_107 hM) c3) ?_
      refine a_iload_n d_M_hasPlain_22 rfl ?_
      obtain ⟨vt, vf⟩ := v
      refine a_icmp_ne (tgt := 39) d_M_hasPlain_23 (by decide) (fun c => ?_) (fun c => ?_)
      · have v := vt (c); clear vt vf
        refine a_iconst d_M_hasPlain_39 ⟨by decide, by decide⟩ ?_
        exact v
      · have v := vf (Classical.not_not.mp c); clear vt vf
        refine a_aload_n d_M_hasPlain_26 rfl ?_
        refine a_getAe fl_M_28 d_M_hasPlain_27 (beq_iff_eq.mpr (KNM_100 hM)) (KRM_100_8 hM) ?_
        refine a_iload_n d_M_hasPlain_30 rfl ?_
        obtain ⟨c5, c6, v⟩ := v
        refine a_iald d_M_hasPlain_31 (Or.inl (KNM_109 hM)) c5 (lt_len (NNM_109 hM) c6) ?_
        obtain ⟨vt, vf⟩ := v
        refine a_if_ne (tgt := 39) d_M_hasPlain_32 (by decide) (fun c => ?_) (fun c => ?_)
        · have v := vt (c); clear vt vf
          refine a_iconst d_M_hasPlain_39 ⟨by decide, by decide⟩ ?_
          exact v
        · have v := vf (Classical.not_not.mp c); clear vt vf
          refine a_iconst d_M_hasPlain_35 ⟨by decide, by decide⟩ ?_
          refine a_goto (tgt := 40) d_M_hasPlain_36 (by decide) ?_
          exact v
theorem m_M_hasPlain_40 {l : Launch} {D : DD} {d kc ks : Nat} {h : Hp} {Φ : Option AV → Hp → Prop} {x1 : Int} {x2 : Int} {x3 : Int} {y0 : Int} (hM : MS h) (v : Ev l D Y_M_hasPlain d kc ks 4 [some (vr 100), some (vi x1), some (vi y0), some (vi (wr (x3 + (1 : Int))))] [] h Φ) : Ev l D Y_M_hasPlain d kc ks 40 [some (vr 100), some (vi x1), some (vi x2), some (vi x3)] [vi y0] h Φ := by
  refine a_istore_n (L' := [some (vr 100), some (vi x1), some (vi y0), some (vi x3)]) d_M_hasPlain_40 (Nat.le_of_ble_eq_true rfl) rfl rfl ?_
  refine a_iinc (L' := [some (vr 100), some (vi x1), some (vi y0), some (vi (wr (x3 + (1 : Int))))]) d_M_hasPlain_41 rfl (Nat.le_of_ble_eq_true rfl) rfl rfl ?_
  refine a_goto (tgt := 4) d_M_hasPlain_44 (by decide) ?_
  exact v
theorem d_M_findWith_0 : decode Y_M_findWith.2.1 0 = .ok (.iconst 0, 1) := by decide +kernel
theorem d_M_findWith_1 : decode Y_M_findWith.2.1 1 = .ok (.istore_n 2, 1) := by decide +kernel
theorem d_M_findWith_2 : decode Y_M_findWith.2.1 2 = .ok (.iload_n 2, 1) := by decide +kernel
theorem d_M_findWith_3 : decode Y_M_findWith.2.1 3 = .ok (.bipush 16, 2) := by decide +kernel
theorem d_M_findWith_5 : decode Y_M_findWith.2.1 5 = .ok (.if_icmp .ge 25, 3) := by decide +kernel
theorem d_M_findWith_8 : decode Y_M_findWith.2.1 8 = .ok (.aload_n 0, 1) := by decide +kernel
theorem d_M_findWith_9 : decode Y_M_findWith.2.1 9 = .ok (.getfield 80, 3) := by decide +kernel
theorem d_M_findWith_12 : decode Y_M_findWith.2.1 12 = .ok (.iload_n 2, 1) := by decide +kernel
theorem d_M_findWith_13 : decode Y_M_findWith.2.1 13 = .ok (.iload_n 2, 1) := by decide +kernel
theorem d_M_findWith_14 : decode Y_M_findWith.2.1 14 = .ok (.iload_n 1, 1) := by decide +kernel
theorem d_M_findWith_15 : decode Y_M_findWith.2.1 15 = .ok (.if_icmp .ne 7, 3) := by decide +kernel
theorem d_M_findWith_18 : decode Y_M_findWith.2.1 18 = .ok (.iconst 1, 1) := by decide +kernel
theorem d_M_findWith_19 : decode Y_M_findWith.2.1 19 = .ok (.goto 4, 3) := by decide +kernel
theorem d_M_findWith_22 : decode Y_M_findWith.2.1 22 = .ok (.iconst 0, 1) := by decide +kernel
theorem d_M_findWith_23 : decode Y_M_findWith.2.1 23 = .ok (.bastore, 1) := by decide +kernel
theorem d_M_findWith_24 : decode Y_M_findWith.2.1 24 = .ok (.iinc 2 1, 3) := by decide +kernel
theorem d_M_findWith_27 : decode Y_M_findWith.2.1 27 = .ok (.goto (-25), 3) := by decide +kernel
theorem d_M_findWith_30 : decode Y_M_findWith.2.1 30 = .ok (.iconst 0, 1) := by decide +kernel
theorem d_M_findWith_31 : decode Y_M_findWith.2.1 31 = .ok (.istore_n 2, 1) := by decide +kernel
theorem d_M_findWith_32 : decode Y_M_findWith.2.1 32 = .ok (.iload_n 2, 1) := by decide +kernel
theorem d_M_findWith_33 : decode Y_M_findWith.2.1 33 = .ok (.aload_n 0, 1) := by decide +kernel
theorem d_M_findWith_34 : decode Y_M_findWith.2.1 34 = .ok (.getfield 123, 3) := by decide +kernel
theorem d_M_findWith_37 : decode Y_M_findWith.2.1 37 = .ok (.if_icmp .ge 66, 3) := by decide +kernel
theorem d_M_findWith_40 : decode Y_M_findWith.2.1 40 = .ok (.aload_n 0, 1) := by decide +kernel
theorem d_M_findWith_41 : decode Y_M_findWith.2.1 41 = .ok (.getfield 7, 3) := by decide +kernel
theorem d_M_findWith_44 : decode Y_M_findWith.2.1 44 = .ok (.iload_n 1, 1) := by decide +kernel
theorem d_M_findWith_45 : decode Y_M_findWith.2.1 45 = .ok (.iaload, 1) := by decide +kernel
theorem d_M_findWith_46 : decode Y_M_findWith.2.1 46 = .ok (.iconst 2, 1) := by decide +kernel
theorem d_M_findWith_47 : decode Y_M_findWith.2.1 47 = .ok (.if_icmp .eq 56, 3) := by decide +kernel
theorem d_M_findWith_50 : decode Y_M_findWith.2.1 50 = .ok (.aload_n 0, 1) := by decide +kernel
theorem d_M_findWith_51 : decode Y_M_findWith.2.1 51 = .ok (.getfield 80, 3) := by decide +kernel
theorem d_M_findWith_54 : decode Y_M_findWith.2.1 54 = .ok (.iload_n 2, 1) := by decide +kernel
theorem d_M_findWith_55 : decode Y_M_findWith.2.1 55 = .ok (.aload_n 0, 1) := by decide +kernel
theorem d_M_findWith_56 : decode Y_M_findWith.2.1 56 = .ok (.getfield 80, 3) := by decide +kernel
theorem d_M_findWith_59 : decode Y_M_findWith.2.1 59 = .ok (.iload_n 2, 1) := by decide +kernel
theorem d_M_findWith_60 : decode Y_M_findWith.2.1 60 = .ok (.baload, 1) := by decide +kernel
theorem d_M_findWith_61 : decode Y_M_findWith.2.1 61 = .ok (.ifCond .ne 30, 3) := by decide +kernel
theorem d_M_findWith_64 : decode Y_M_findWith.2.1 64 = .ok (.aload_n 0, 1) := by decide +kernel
theorem d_M_findWith_65 : decode Y_M_findWith.2.1 65 = .ok (.iload_n 1, 1) := by decide +kernel
theorem d_M_findWith_66 : decode Y_M_findWith.2.1 66 = .ok (.iload_n 2, 1) := by decide +kernel
theorem d_M_findWith_67 : decode Y_M_findWith.2.1 67 = .ok (.invokevirtual 166, 3) := by decide +kernel
theorem d_M_findWith_70 : decode Y_M_findWith.2.1 70 = .ok (.ifCond .eq 25, 3) := by decide +kernel
theorem d_M_findWith_73 : decode Y_M_findWith.2.1 73 = .ok (.aload_n 0, 1) := by decide +kernel
theorem d_M_findWith_74 : decode Y_M_findWith.2.1 74 = .ok (.getfield 7, 3) := by decide +kernel
theorem d_M_findWith_77 : decode Y_M_findWith.2.1 77 = .ok (.iload_n 2, 1) := by decide +kernel
theorem d_M_findWith_78 : decode Y_M_findWith.2.1 78 = .ok (.iaload, 1) := by decide +kernel
theorem d_M_findWith_79 : decode Y_M_findWith.2.1 79 = .ok (.iconst 2, 1) := by decide +kernel
theorem d_M_findWith_80 : decode Y_M_findWith.2.1 80 = .ok (.if_icmp .ne 11, 3) := by decide +kernel
theorem d_M_findWith_83 : decode Y_M_findWith.2.1 83 = .ok (.aload_n 0, 1) := by decide +kernel
theorem d_M_findWith_84 : decode Y_M_findWith.2.1 84 = .ok (.iload_n 2, 1) := by decide +kernel
theorem d_M_findWith_85 : decode Y_M_findWith.2.1 85 = .ok (.invokevirtual 183, 3) := by decide +kernel
theorem d_M_findWith_88 : decode Y_M_findWith.2.1 88 = .ok (.ifCond .eq 7, 3) := by decide +kernel
theorem d_M_findWith_91 : decode Y_M_findWith.2.1 91 = .ok (.iconst 1, 1) := by decide +kernel
theorem d_M_findWith_92 : decode Y_M_findWith.2.1 92 = .ok (.goto 4, 3) := by decide +kernel
theorem d_M_findWith_95 : decode Y_M_findWith.2.1 95 = .ok (.iconst 0, 1) := by decide +kernel
theorem d_M_findWith_96 : decode Y_M_findWith.2.1 96 = .ok (.bastore, 1) := by decide +kernel
theorem d_M_findWith_97 : decode Y_M_findWith.2.1 97 = .ok (.iinc 2 1, 3) := by decide +kernel
theorem d_M_findWith_100 : decode Y_M_findWith.2.1 100 = .ok (.goto (-68), 3) := by decide +kernel
theorem d_M_findWith_103 : decode Y_M_findWith.2.1 103 = .ok (.return_, 1) := by decide +kernel
theorem m_M_findWith_0 {l : Launch} {D : DD} {d kc ks : Nat} {h : Hp} {Φ : Option AV → Hp → Prop} {x1 : Int} (hM : MS h) (v : Ev l D Y_M_findWith (d + 1) kc ks 2 [some (vr 100), some (vi x1), some (vi (0 : Int))] [] h Φ) : Ev l D Y_M_findWith (d + 1) kc ks 0 [some (vr 100), some (vi x1), none] [] h Φ := by
  refine a_iconst d_M_findWith_0 ⟨by decide, by decide⟩ ?_
  refine a_istore_n (L' := [some (vr 100), some (vi x1), some (vi (0 : Int))]) d_M_findWith_1 (Nat.le_of_ble_eq_true rfl) rfl rfl ?_
  exact v
theorem m_M_findWith_2 {l : Launch} {D : DD} {d kc ks : Nat} {h : Hp} {Φ : Option AV → Hp → Prop} {x1 : Int} {x2 : Int} (hM : MS h) (v : (x2 ≥ (16 : Int) → (Ev l D Y_M_findWith (d + 1) kc ks 32 [some (vr 100), some (vi x1), some (vi (0 : Int))] [] h Φ)) ∧ (x2 < (16 : Int) → ((¬ x2 = x1 → (0 ≤ x2 ∧ x2 < 16 ∧ (∀ h1 : Hp, h1 = sI h 130 (x2).toNat (0 : Int) → (Ev l D Y_M_findWith (d + 1) kc ks 2 [some (vr 100), some (vi x1), some (vi (wr (x2 + (1 : Int))))] [] h1 Φ)))) ∧ (x2 = x1 → (0 ≤ x2 ∧ x2 < 16 ∧ (∀ h2 : Hp, h2 = sI h 130 (x2).toNat (1 : Int) → (Ev l D Y_M_findWith (d + 1) kc ks 2 [some (vr 100), some (vi x1), some (vi (wr (x2 + (1 : Int))))] [] h2 Φ))))))) : Ev l D Y_M_findWith (d + 1) kc ks 2 [some (vr 100), some (vi x1), some (vi x2)] [] h Φ := by
  refine a_iload_n d_M_findWith_2 rfl ?_
  refine a_bipush d_M_findWith_3 ⟨by decide, by decide⟩ (by decide) ?_
  obtain ⟨vt, vf⟩ := v
  refine a_icmp_ge (tgt := 30) d_M_findWith_5 (by decide) (fun c => ?_) (fun c => ?_)
  · have v := vt (c); clear vt vf
    refine a_iconst d_M_findWith_30 ⟨by decide, by decide⟩ ?_
    refine a_istore_n (L' := [some (vr 100), some (vi x1), some (vi (0 : Int))]) d_M_findWith_31 (Nat.le_of_ble_eq_true rfl) rfl rfl ?_
    exact v
  · have v := vf (Int.not_le.mp c); clear vt vf
    refine a_aload_n d_M_findWith_8 rfl ?_
    refine a_getAe fl_M_80 d_M_findWith_9 (beq_iff_eq.mpr (KNM_100 hM)) (KRM_100_29 hM) ?_
    refine a_iload_n d_M_findWith_12 rfl ?_
    refine a_iload_n d_M_findWith_13 rfl ?_
    refine a_iload_n d_M_findWith_14 rfl ?_
    obtain ⟨vt, vf⟩ := v
    refine a_icmp_ne (tgt := 22) d_M_findWith_15 (by decide) (fun c => ?_) (fun c => ?_)
    · have v := vt (c); clear vt vf
      refine a_iconst d_M_findWith_22 ⟨by decide, by decide⟩ ?_
      obtain ⟨c3, c4, v⟩ := v
      have v := v _ rfl
      refine a_zast d_M_findWith_23 (KNM_130 hM) (by decide) c3 (lt_len (NNM_130 hM) c4) (Or.inl rfl) ?_
      refine a_iinc (L' := [some (vr 100), some (vi x1), some (vi (wr (x2 + (1 : Int))))]) d_M_findWith_24 rfl (Nat.le_of_ble_eq_true rfl) rfl rfl ?_
      refine a_goto (tgt := 2) d_M_findWith_27 (by decide) ?_
      exact v
    · have v := vf (Classical.not_not.mp c); clear vt vf
      refine a_iconst d_M_findWith_18 ⟨by decide, by decide⟩ ?_
      refine a_goto (tgt := 23) d_M_findWith_19 (by decide) ?_
      obtain ⟨c7, c8, v⟩ := v
      have v := v _ rfl
      refine a_zast d_M_findWith_23 (KNM_130 hM) (by decide) c7 (lt_len (NNM_130 hM) c8) (Or.inr rfl) ?_
      refine a_iinc (L' := [some (vr 100), some (vi x1), some (vi (wr (x2 + (1 : Int))))]) d_M_findWith_24 rfl (Nat.le_of_ble_eq_true rfl) rfl rfl ?_
      refine a_goto (tgt := 2) d_M_findWith_27 (by decide) ?_
      exact v
theorem m_M_findWith_32 {l : Launch} {D : DD} {d kc ks : Nat} {h : Hp} {Φ : Option AV → Hp → Prop} {x1 : Int} {x2 : Int} (hM : MS h) (v : (x2 ≥ xI h 100 0 → (Φ none h)) ∧ (x2 < xI h 100 0 → (0 ≤ x1 ∧ x1 < 16 ∧ ((xI h 102 (x1).toNat = (2 : Int) → (Φ none h)) ∧ (¬ xI h 102 (x1).toNat = (2 : Int) → (0 ≤ x2 ∧ x2 < 16 ∧ ((¬ xI h 130 (x2).toNat = 0 → (Ev l D Y_M_findWith (d + 1) kc ks 96 [some (vr 100), some (vi x1), some (vi x2)] [vi (1 : Int), vi x2, vr 130] h Φ)) ∧ (xI h 130 (x2).toNat = 0 → (Ev l D Y_M_isUnder d 0 0 0 [some (vr 100), some (vi x1), some (vi x2), none, none] [] h (ki (fun r1 h1 => MS h1 ∧ ((r1 = 0 → (Ev l D Y_M_findWith (d + 1) kc ks 96 [some (vr 100), some (vi x1), some (vi x2)] [vi (0 : Int), vi x2, vr 130] h1 Φ)) ∧ (¬ r1 = 0 → (0 ≤ x2 ∧ x2 < 16 ∧ ((¬ xI h1 102 (x2).toNat = (2 : Int) → (Ev l D Y_M_findWith (d + 1) kc ks 96 [some (vr 100), some (vi x1), some (vi x2)] [vi (1 : Int), vi x2, vr 130] h1 Φ)) ∧ (xI h1 102 (x2).toNat = (2 : Int) → (Ev l D Y_M_hasPlain d 0 0 0 [some (vr 100), some (vi x2), none, none] [] h1 (ki (fun r2 h2 => MS h2 ∧ ((r2 = 0 → (Ev l D Y_M_findWith (d + 1) kc ks 96 [some (vr 100), some (vi x1), some (vi x2)] [vi (0 : Int), vi x2, vr 130] h2 Φ)) ∧ (¬ r2 = 0 → (Ev l D Y_M_findWith (d + 1) kc ks 96 [some (vr 100), some (vi x1), some (vi x2)] [vi (1 : Int), vi x2, vr 130] h2 Φ)))))))))))))))))))))) : Ev l D Y_M_findWith (d + 1) kc ks 32 [some (vr 100), some (vi x1), some (vi x2)] [] h Φ := by
  refine a_iload_n d_M_findWith_32 rfl ?_
  refine a_aload_n d_M_findWith_33 rfl ?_
  refine a_getI fl_M_123 d_M_findWith_34 (beq_iff_eq.mpr (KNM_100 hM)) ?_
  obtain ⟨vt, vf⟩ := v
  refine a_icmp_ge (tgt := 103) d_M_findWith_37 (by decide) (fun c => ?_) (fun c => ?_)
  · have v := vt (c); clear vt vf
    exact a_vret d_M_findWith_103 rfl v
  · have v := vf (Int.not_le.mp c); clear vt vf
    refine a_aload_n d_M_findWith_40 rfl ?_
    refine a_getAe fl_M_7 d_M_findWith_41 (beq_iff_eq.mpr (KNM_100 hM)) (KRM_100_1 hM) ?_
    refine a_iload_n d_M_findWith_44 rfl ?_
    obtain ⟨c2, c3, v⟩ := v
    refine a_iald d_M_findWith_45 (Or.inl (KNM_102 hM)) c2 (lt_len (NNM_102 hM) c3) ?_
    refine a_iconst d_M_findWith_46 ⟨by decide, by decide⟩ ?_
    obtain ⟨vt, vf⟩ := v
    refine a_icmp_eq (tgt := 103) d_M_findWith_47 (by decide) (fun c => ?_) (fun c => ?_)
    · have v := vt (c); clear vt vf
      exact a_vret d_M_findWith_103 rfl v
    · have v := vf (c); clear vt vf
      refine a_aload_n d_M_findWith_50 rfl ?_
      refine a_getAe fl_M_80 d_M_findWith_51 (beq_iff_eq.mpr (KNM_100 hM)) (KRM_100_29 hM) ?_
      refine a_iload_n d_M_findWith_54 rfl ?_
      refine a_aload_n d_M_findWith_55 rfl ?_
      refine a_getAe fl_M_80 d_M_findWith_56 (beq_iff_eq.mpr (KNM_100 hM)) (KRM_100_29 hM) ?_
      refine a_iload_n d_M_findWith_59 rfl ?_
      obtain ⟨c5, c6, v⟩ := v
      refine a_zald d_M_findWith_60 (KNM_130 hM) c5 (lt_len (NNM_130 hM) c6) ?_
      obtain ⟨vt, vf⟩ := v
      refine a_if_ne (tgt := 91) d_M_findWith_61 (by decide) (fun c => ?_) (fun c => ?_)
      · have v := vt (c); clear vt vf
        refine a_iconst d_M_findWith_91 ⟨by decide, by decide⟩ ?_
        refine a_goto (tgt := 96) d_M_findWith_92 (by decide) ?_
        exact v
      · have v := vf (Classical.not_not.mp c); clear vt vf
        refine a_aload_n d_M_findWith_64 rfl ?_
        refine a_iload_n d_M_findWith_65 rfl ?_
        refine a_iload_n d_M_findWith_66 rfl ?_
        refine b_callV (as := [vi x1, vi x2]) (b := 100) (st := [vi x2, vr 130]) (kd := 12) (kc1 := 0) (ks1 := 0) (kc2 := kc) (ks2 := ks) (d' := d) ml_M_166 rfl d_M_findWith_67 rfl rfl (Nat.le_of_ble_eq_true rfl) (by decide) rfl (Nat.le_refl _) (by omega) (by omega) (KNM_100 hM) ?_
        refine Ev.mono v ?_
        intro u h1 v
        obtain ⟨r1, rfl, v⟩ := ki_el v
        obtain ⟨hm1, v⟩ := v
        change Ev l D Y_M_findWith _ _ _ 70 [some (vr 100), some (vi x1), some (vi x2)] [vi r1, vi x2, vr 130] _ _
        obtain ⟨vt, vf⟩ := v
        refine a_if_eq (tgt := 95) d_M_findWith_70 (by decide) (fun c => ?_) (fun c => ?_)
        · have v := vt (c); clear vt vf
          refine a_iconst d_M_findWith_95 ⟨by decide, by decide⟩ ?_
          exact v
        · have v := vf (c); clear vt vf
          refine a_aload_n d_M_findWith_73 rfl ?_
          refine a_getAe fl_M_7 d_M_findWith_74 (beq_iff_eq.mpr (KNM_100 hm1)) (KRM_100_1 hm1) ?_
          refine a_iload_n d_M_findWith_77 rfl ?_
          obtain ⟨c8, c9, v⟩ := v
          refine a_iald d_M_findWith_78 (Or.inl (KNM_102 hm1)) c8 (lt_len (NNM_102 hm1) c9) ?_
          refine a_iconst d_M_findWith_79 ⟨by decide, by decide⟩ ?_
          obtain ⟨vt, vf⟩ := v
          refine a_icmp_ne (tgt := 91) d_M_findWith_80 (by decide) (fun c => ?_) (fun c => ?_)
          · have v := vt (c); clear vt vf
            refine a_iconst d_M_findWith_91 ⟨by decide, by decide⟩ ?_
            refine a_goto (tgt := 96) d_M_findWith_92 (by decide) ?_
            exact v
          · have v := vf (Classical.not_not.mp c); clear vt vf
            refine a_aload_n d_M_findWith_83 rfl ?_
            refine a_iload_n d_M_findWith_84 rfl ?_
            refine b_callV (as := [vi x2]) (b := 100) (st := [vi x2, vr 130]) (kd := 12) (kc1 := 0) (ks1 := 0) (kc2 := kc) (ks2 := ks) (d' := d) ml_M_183 rfl d_M_findWith_85 rfl rfl (Nat.le_of_ble_eq_true rfl) (by decide) rfl (Nat.le_refl _) (by omega) (by omega) (KNM_100 hm1) ?_
            refine Ev.mono v ?_
            intro u h2 v
            obtain ⟨r2, rfl, v⟩ := ki_el v
            obtain ⟨hm2, v⟩ := v
            change Ev l D Y_M_findWith _ _ _ 88 [some (vr 100), some (vi x1), some (vi x2)] [vi r2, vi x2, vr 130] _ _
            obtain ⟨vt, vf⟩ := v
            refine a_if_eq (tgt := 95) d_M_findWith_88 (by decide) (fun c => ?_) (fun c => ?_)
            · have v := vt (c); clear vt vf
              refine a_iconst d_M_findWith_95 ⟨by decide, by decide⟩ ?_
              exact v
            · have v := vf (c); clear vt vf
              refine a_iconst d_M_findWith_91 ⟨by decide, by decide⟩ ?_
              refine a_goto (tgt := 96) d_M_findWith_92 (by decide) ?_
              exact v
theorem m_M_findWith_96 {l : Launch} {D : DD} {d kc ks : Nat} {h : Hp} {Φ : Option AV → Hp → Prop} {x1 : Int} {x2 : Int} {y0 : Int} {y1 : Int} (hM : MS h) (v : 0 ≤ y1 ∧ y1 < 16 ∧ (y0 = 0 ∨ y0 = 1) ∧ (∀ h1 : Hp, h1 = sI h 130 (y1).toNat y0 → (Ev l D Y_M_findWith (d + 1) kc ks 32 [some (vr 100), some (vi x1), some (vi (wr (x2 + (1 : Int))))] [] h1 Φ))) : Ev l D Y_M_findWith (d + 1) kc ks 96 [some (vr 100), some (vi x1), some (vi x2)] [vi y0, vi y1, vr 130] h Φ := by
  obtain ⟨c3, c4, c5, v⟩ := v
  have v := v _ rfl
  refine a_zast d_M_findWith_96 (KNM_130 hM) (by decide) c3 (lt_len (NNM_130 hM) c4) c5 ?_
  refine a_iinc (L' := [some (vr 100), some (vi x1), some (vi (wr (x2 + (1 : Int))))]) d_M_findWith_97 rfl (Nat.le_of_ble_eq_true rfl) rfl rfl ?_
  refine a_goto (tgt := 32) d_M_findWith_100 (by decide) ?_
  exact v
theorem d_M_reach_0 : decode Y_M_reach.2.1 0 = .ok (.aload_n 0, 1) := by decide +kernel
theorem d_M_reach_1 : decode Y_M_reach.2.1 1 = .ok (.aload_n 0, 1) := by decide +kernel
theorem d_M_reach_2 : decode Y_M_reach.2.1 2 = .ok (.getfield 186, 3) := by decide +kernel
theorem d_M_reach_5 : decode Y_M_reach.2.1 5 = .ok (.ifCond .ne 12, 3) := by decide +kernel
theorem d_M_reach_8 : decode Y_M_reach.2.1 8 = .ok (.aload_n 0, 1) := by decide +kernel
theorem d_M_reach_9 : decode Y_M_reach.2.1 9 = .ok (.getfield 50, 3) := by decide +kernel
theorem d_M_reach_12 : decode Y_M_reach.2.1 12 = .ok (.iload_n 1, 1) := by decide +kernel
theorem d_M_reach_13 : decode Y_M_reach.2.1 13 = .ok (.baload, 1) := by decide +kernel
theorem d_M_reach_14 : decode Y_M_reach.2.1 14 = .ok (.ifCond .ne 7, 3) := by decide +kernel
theorem d_M_reach_17 : decode Y_M_reach.2.1 17 = .ok (.iconst 1, 1) := by decide +kernel
theorem d_M_reach_18 : decode Y_M_reach.2.1 18 = .ok (.goto 4, 3) := by decide +kernel
theorem d_M_reach_21 : decode Y_M_reach.2.1 21 = .ok (.iconst 0, 1) := by decide +kernel
theorem d_M_reach_22 : decode Y_M_reach.2.1 22 = .ok (.putfield 186, 3) := by decide +kernel
theorem d_M_reach_25 : decode Y_M_reach.2.1 25 = .ok (.aload_n 0, 1) := by decide +kernel
theorem d_M_reach_26 : decode Y_M_reach.2.1 26 = .ok (.getfield 50, 3) := by decide +kernel
theorem d_M_reach_29 : decode Y_M_reach.2.1 29 = .ok (.iload_n 1, 1) := by decide +kernel
theorem d_M_reach_30 : decode Y_M_reach.2.1 30 = .ok (.iconst 1, 1) := by decide +kernel
theorem d_M_reach_31 : decode Y_M_reach.2.1 31 = .ok (.bastore, 1) := by decide +kernel
theorem d_M_reach_32 : decode Y_M_reach.2.1 32 = .ok (.return_, 1) := by decide +kernel
theorem m_M_reach_0 {l : Launch} {D : DD} {d kc ks : Nat} {h : Hp} {Φ : Option AV → Hp → Prop} {x1 : Int} (hM : MS h) (v : (¬ xI h 100 17 = 0 → (Ev l D Y_M_reach d kc ks 22 [some (vr 100), some (vi x1)] [vi (1 : Int), vr 100] h Φ)) ∧ (xI h 100 17 = 0 → (0 ≤ x1 ∧ x1 < 48 ∧ ((¬ xI h 119 (x1).toNat = 0 → (Ev l D Y_M_reach d kc ks 22 [some (vr 100), some (vi x1)] [vi (0 : Int), vr 100] h Φ)) ∧ (xI h 119 (x1).toNat = 0 → (Ev l D Y_M_reach d kc ks 22 [some (vr 100), some (vi x1)] [vi (1 : Int), vr 100] h Φ)))))) : Ev l D Y_M_reach d kc ks 0 [some (vr 100), some (vi x1)] [] h Φ := by
  refine a_aload_n d_M_reach_0 rfl ?_
  refine a_aload_n d_M_reach_1 rfl ?_
  refine a_getZ fl_M_186 d_M_reach_2 (beq_iff_eq.mpr (KNM_100 hM)) ?_
  obtain ⟨vt, vf⟩ := v
  refine a_if_ne (tgt := 17) d_M_reach_5 (by decide) (fun c => ?_) (fun c => ?_)
  · have v := vt (c); clear vt vf
    refine a_iconst d_M_reach_17 ⟨by decide, by decide⟩ ?_
    refine a_goto (tgt := 22) d_M_reach_18 (by decide) ?_
    exact v
  · have v := vf (Classical.not_not.mp c); clear vt vf
    refine a_aload_n d_M_reach_8 rfl ?_
    refine a_getAe fl_M_50 d_M_reach_9 (beq_iff_eq.mpr (KNM_100 hM)) (KRM_100_18 hM) ?_
    refine a_iload_n d_M_reach_12 rfl ?_
    obtain ⟨c2, c3, v⟩ := v
    refine a_zald d_M_reach_13 (KNM_119 hM) c2 (lt_len (NNM_119 hM) c3) ?_
    obtain ⟨vt, vf⟩ := v
    refine a_if_ne (tgt := 21) d_M_reach_14 (by decide) (fun c => ?_) (fun c => ?_)
    · have v := vt (c); clear vt vf
      refine a_iconst d_M_reach_21 ⟨by decide, by decide⟩ ?_
      exact v
    · have v := vf (Classical.not_not.mp c); clear vt vf
      refine a_iconst d_M_reach_17 ⟨by decide, by decide⟩ ?_
      refine a_goto (tgt := 22) d_M_reach_18 (by decide) ?_
      exact v
theorem m_M_reach_22 {l : Launch} {D : DD} {d kc ks : Nat} {h : Hp} {Φ : Option AV → Hp → Prop} {x1 : Int} {y0 : Int} (hM : MS h) (v : (y0 = 0 ∨ y0 = 1) ∧ (∀ h1 : Hp, h1 = sI h 100 17 y0 → (0 ≤ x1 ∧ x1 < 48 ∧ (∀ h2 : Hp, h2 = sI h1 119 (x1).toNat (1 : Int) → (Φ none h2))))) : Ev l D Y_M_reach d kc ks 22 [some (vr 100), some (vi x1)] [vi y0, vr 100] h Φ := by
  obtain ⟨c3, v⟩ := v
  have v := v _ rfl
  refine a_putZ fl_M_186 d_M_reach_22 (beq_iff_eq.mpr (KNM_100 hM)) (by decide) c3 ?_
  refine a_aload_n d_M_reach_25 rfl ?_
  refine a_getAe fl_M_50 d_M_reach_26 (beq_iff_eq.mpr (KNM_100 hM)) (KRM_100_18 hM) ?_
  refine a_iload_n d_M_reach_29 rfl ?_
  refine a_iconst d_M_reach_30 ⟨by decide, by decide⟩ ?_
  obtain ⟨c6, c7, v⟩ := v
  have v := v _ rfl
  refine a_zast d_M_reach_31 (KNM_119 hM) (by decide) c6 (lt_len (NNM_119 hM) c7) (Or.inr rfl) ?_
  exact a_vret d_M_reach_32 rfl v
theorem d_M_call_0 : decode Y_M_call.2.1 0 = .ok (.aload_n 0, 1) := by decide +kernel
theorem d_M_call_1 : decode Y_M_call.2.1 1 = .ok (.aload_n 0, 1) := by decide +kernel
theorem d_M_call_2 : decode Y_M_call.2.1 2 = .ok (.getfield 186, 3) := by decide +kernel
theorem d_M_call_5 : decode Y_M_call.2.1 5 = .ok (.ifCond .ne 17, 3) := by decide +kernel
theorem d_M_call_8 : decode Y_M_call.2.1 8 = .ok (.aload_n 0, 1) := by decide +kernel
theorem d_M_call_9 : decode Y_M_call.2.1 9 = .ok (.getfield 62, 3) := by decide +kernel
theorem d_M_call_12 : decode Y_M_call.2.1 12 = .ok (.bipush 48, 2) := by decide +kernel
theorem d_M_call_14 : decode Y_M_call.2.1 14 = .ok (.iload_n 1, 1) := by decide +kernel
theorem d_M_call_15 : decode Y_M_call.2.1 15 = .ok (.imul, 1) := by decide +kernel
theorem d_M_call_16 : decode Y_M_call.2.1 16 = .ok (.iload_n 2, 1) := by decide +kernel
theorem d_M_call_17 : decode Y_M_call.2.1 17 = .ok (.iadd, 1) := by decide +kernel
theorem d_M_call_18 : decode Y_M_call.2.1 18 = .ok (.baload, 1) := by decide +kernel
theorem d_M_call_19 : decode Y_M_call.2.1 19 = .ok (.ifCond .ne 7, 3) := by decide +kernel
theorem d_M_call_22 : decode Y_M_call.2.1 22 = .ok (.iconst 1, 1) := by decide +kernel
theorem d_M_call_23 : decode Y_M_call.2.1 23 = .ok (.goto 4, 3) := by decide +kernel
theorem d_M_call_26 : decode Y_M_call.2.1 26 = .ok (.iconst 0, 1) := by decide +kernel
theorem d_M_call_27 : decode Y_M_call.2.1 27 = .ok (.putfield 186, 3) := by decide +kernel
theorem d_M_call_30 : decode Y_M_call.2.1 30 = .ok (.aload_n 0, 1) := by decide +kernel
theorem d_M_call_31 : decode Y_M_call.2.1 31 = .ok (.getfield 62, 3) := by decide +kernel
theorem d_M_call_34 : decode Y_M_call.2.1 34 = .ok (.bipush 48, 2) := by decide +kernel
theorem d_M_call_36 : decode Y_M_call.2.1 36 = .ok (.iload_n 1, 1) := by decide +kernel
theorem d_M_call_37 : decode Y_M_call.2.1 37 = .ok (.imul, 1) := by decide +kernel
theorem d_M_call_38 : decode Y_M_call.2.1 38 = .ok (.iload_n 2, 1) := by decide +kernel
theorem d_M_call_39 : decode Y_M_call.2.1 39 = .ok (.iadd, 1) := by decide +kernel
theorem d_M_call_40 : decode Y_M_call.2.1 40 = .ok (.iconst 1, 1) := by decide +kernel
theorem d_M_call_41 : decode Y_M_call.2.1 41 = .ok (.bastore, 1) := by decide +kernel
theorem d_M_call_42 : decode Y_M_call.2.1 42 = .ok (.aload_n 0, 1) := by decide +kernel
theorem d_M_call_43 : decode Y_M_call.2.1 43 = .ok (.iload_n 2, 1) := by decide +kernel
theorem d_M_call_44 : decode Y_M_call.2.1 44 = .ok (.invokevirtual 189, 3) := by decide +kernel
theorem d_M_call_47 : decode Y_M_call.2.1 47 = .ok (.return_, 1) := by decide +kernel
theorem m_M_call_0 {l : Launch} {D : DD} {d kc ks : Nat} {h : Hp} {Φ : Option AV → Hp → Prop} {x1 : Int} {x2 : Int} (hM : MS h) (v : (¬ xI h 100 17 = 0 → (Ev l D Y_M_call (d + 1) kc ks 27 [some (vr 100), some (vi x1), some (vi x2)] [vi (1 : Int), vr 100] h Φ)) ∧ (xI h 100 17 = 0 → (0 ≤ wr ((wr ((48 : Int) * x1)) + x2) ∧ wr ((wr ((48 : Int) * x1)) + x2) < 7680 ∧ ((¬ xI h 123 (wr ((wr ((48 : Int) * x1)) + x2)).toNat = 0 → (Ev l D Y_M_call (d + 1) kc ks 27 [some (vr 100), some (vi x1), some (vi x2)] [vi (0 : Int), vr 100] h Φ)) ∧ (xI h 123 (wr ((wr ((48 : Int) * x1)) + x2)).toNat = 0 → (Ev l D Y_M_call (d + 1) kc ks 27 [some (vr 100), some (vi x1), some (vi x2)] [vi (1 : Int), vr 100] h Φ)))))) : Ev l D Y_M_call (d + 1) kc ks 0 [some (vr 100), some (vi x1), some (vi x2)] [] h Φ := by
  refine a_aload_n d_M_call_0 rfl ?_
  refine a_aload_n d_M_call_1 rfl ?_
  refine a_getZ fl_M_186 d_M_call_2 (beq_iff_eq.mpr (KNM_100 hM)) ?_
  obtain ⟨vt, vf⟩ := v
  refine a_if_ne (tgt := 22) d_M_call_5 (by decide) (fun c => ?_) (fun c => ?_)
  · have v := vt (c); clear vt vf
    refine a_iconst d_M_call_22 ⟨by decide, by decide⟩ ?_
    refine a_goto (tgt := 27) d_M_call_23 (by decide) ?_
    exact v
  · have v := vf (Classical.not_not.mp c); clear vt vf
    refine a_aload_n d_M_call_8 rfl ?_
    refine a_getAe fl_M_62 d_M_call_9 (beq_iff_eq.mpr (KNM_100 hM)) (KRM_100_22 hM) ?_
    refine a_bipush d_M_call_12 ⟨by decide, by decide⟩ (by decide) ?_
    refine a_iload_n d_M_call_14 rfl ?_
    refine a_imul d_M_call_15 ?_
    refine a_iload_n d_M_call_16 rfl ?_
    refine a_iadd d_M_call_17 ?_
    obtain ⟨c2, c3, v⟩ := v
    refine a_zald d_M_call_18 (KNM_123 hM) c2 (lt_len (NNM_123 hM) c3) ?_
    obtain ⟨vt, vf⟩ := v
    refine a_if_ne (tgt := 26) d_M_call_19 (by decide) (fun c => ?_) (fun c => ?_)
    · have v := vt (c); clear vt vf
      refine a_iconst d_M_call_26 ⟨by decide, by decide⟩ ?_
      exact v
    · have v := vf (Classical.not_not.mp c); clear vt vf
      refine a_iconst d_M_call_22 ⟨by decide, by decide⟩ ?_
      refine a_goto (tgt := 27) d_M_call_23 (by decide) ?_
      exact v
theorem m_M_call_27 {l : Launch} {D : DD} {d kc ks : Nat} {h : Hp} {Φ : Option AV → Hp → Prop} {x1 : Int} {x2 : Int} {y0 : Int} (hM : MS h) (v : (y0 = 0 ∨ y0 = 1) ∧ (∀ h1 : Hp, h1 = sI h 100 17 y0 → (0 ≤ wr ((wr ((48 : Int) * x1)) + x2) ∧ wr ((wr ((48 : Int) * x1)) + x2) < 7680 ∧ (∀ h2 : Hp, h2 = sI h1 123 (wr ((wr ((48 : Int) * x1)) + x2)).toNat (1 : Int) → (Ev l D Y_M_reach d 0 0 0 [some (vr 100), some (vi x2)] [] h2 (kv (fun h3 => MS h3 ∧ (Φ none h3)))))))) : Ev l D Y_M_call (d + 1) kc ks 27 [some (vr 100), some (vi x1), some (vi x2)] [vi y0, vr 100] h Φ := by
  obtain ⟨c3, v⟩ := v
  have v := v _ rfl
  refine a_putZ fl_M_186 d_M_call_27 (beq_iff_eq.mpr (KNM_100 hM)) (by decide) c3 ?_
  refine a_aload_n d_M_call_30 rfl ?_
  refine a_getAe fl_M_62 d_M_call_31 (beq_iff_eq.mpr (KNM_100 hM)) (KRM_100_22 hM) ?_
  refine a_bipush d_M_call_34 ⟨by decide, by decide⟩ (by decide) ?_
  refine a_iload_n d_M_call_36 rfl ?_
  refine a_imul d_M_call_37 ?_
  refine a_iload_n d_M_call_38 rfl ?_
  refine a_iadd d_M_call_39 ?_
  refine a_iconst d_M_call_40 ⟨by decide, by decide⟩ ?_
  obtain ⟨c6, c7, v⟩ := v
  have v := v _ rfl
  refine a_zast d_M_call_41 (KNM_123 hM) (by decide) c6 (lt_len (NNM_123 hM) c7) (Or.inr rfl) ?_
  refine a_aload_n d_M_call_42 rfl ?_
  refine a_iload_n d_M_call_43 rfl ?_
  refine b_callV (as := [vi x2]) (b := 100) (st := []) (kd := 12) (kc1 := 0) (ks1 := 0) (kc2 := kc) (ks2 := ks) (d' := d) ml_M_189 rfl d_M_call_44 rfl rfl (Nat.le_of_ble_eq_true rfl) (by decide) rfl (Nat.le_refl _) (by omega) (by omega) (KNM_100 hM) ?_
  refine Ev.mono v ?_
  intro u h3 v
  obtain ⟨rfl, v⟩ := kv_el v
  obtain ⟨hm1, v⟩ := v
  change Ev l D Y_M_call _ _ _ 47 [some (vr 100), some (vi x1), some (vi x2)] [] _ _
  exact a_vret d_M_call_47 rfl v
theorem d_M_fault_0 : decode Y_M_fault.2.1 0 = .ok (.aload_n 0, 1) := by decide +kernel
theorem d_M_fault_1 : decode Y_M_fault.2.1 1 = .ok (.getfield 65, 3) := by decide +kernel
theorem d_M_fault_4 : decode Y_M_fault.2.1 4 = .ok (.iconst 4, 1) := by decide +kernel
theorem d_M_fault_5 : decode Y_M_fault.2.1 5 = .ok (.iload_n 1, 1) := by decide +kernel
theorem d_M_fault_6 : decode Y_M_fault.2.1 6 = .ok (.imul, 1) := by decide +kernel
theorem d_M_fault_7 : decode Y_M_fault.2.1 7 = .ok (.iconst 2, 1) := by decide +kernel
theorem d_M_fault_8 : decode Y_M_fault.2.1 8 = .ok (.isub, 1) := by decide +kernel
theorem d_M_fault_9 : decode Y_M_fault.2.1 9 = .ok (.iload_n 2, 1) := by decide +kernel
theorem d_M_fault_10 : decode Y_M_fault.2.1 10 = .ok (.isub, 1) := by decide +kernel
theorem d_M_fault_11 : decode Y_M_fault.2.1 11 = .ok (.dup2, 1) := by decide +kernel
theorem d_M_fault_12 : decode Y_M_fault.2.1 12 = .ok (.iaload, 1) := by decide +kernel
theorem d_M_fault_13 : decode Y_M_fault.2.1 13 = .ok (.iconst 1, 1) := by decide +kernel
theorem d_M_fault_14 : decode Y_M_fault.2.1 14 = .ok (.iadd, 1) := by decide +kernel
theorem d_M_fault_15 : decode Y_M_fault.2.1 15 = .ok (.iastore, 1) := by decide +kernel
theorem d_M_fault_16 : decode Y_M_fault.2.1 16 = .ok (.return_, 1) := by decide +kernel
theorem m_M_fault_0 {l : Launch} {D : DD} {d kc ks : Nat} {h : Hp} {Φ : Option AV → Hp → Prop} {x1 : Int} {x2 : Int} (hM : MS h) (v : 0 ≤ wr ((wr ((wr ((4 : Int) * x1)) - (2 : Int))) - x2) ∧ wr ((wr ((wr ((4 : Int) * x1)) - (2 : Int))) - x2) < 640 ∧ (0 ≤ wr ((wr ((wr ((4 : Int) * x1)) - (2 : Int))) - x2) ∧ wr ((wr ((wr ((4 : Int) * x1)) - (2 : Int))) - x2) < 640 ∧ (∀ h1 : Hp, h1 = sI h 124 (wr ((wr ((wr ((4 : Int) * x1)) - (2 : Int))) - x2)).toNat (wr ((xI h 124 (wr ((wr ((wr ((4 : Int) * x1)) - (2 : Int))) - x2)).toNat) + (1 : Int))) → (Φ none h1)))) : Ev l D Y_M_fault d kc ks 0 [some (vr 100), some (vi x1), some (vi x2)] [] h Φ := by
  refine a_aload_n d_M_fault_0 rfl ?_
  refine a_getAe fl_M_65 d_M_fault_1 (beq_iff_eq.mpr (KNM_100 hM)) (KRM_100_23 hM) ?_
  refine a_iconst d_M_fault_4 ⟨by decide, by decide⟩ ?_
  refine a_iload_n d_M_fault_5 rfl ?_
  refine a_imul d_M_fault_6 ?_
  refine a_iconst d_M_fault_7 ⟨by decide, by decide⟩ ?_
  refine a_isub d_M_fault_8 ?_
  refine a_iload_n d_M_fault_9 rfl ?_
  refine a_isub d_M_fault_10 ?_
  refine a_dup2 d_M_fault_11 rfl rfl ?_
  obtain ⟨c2, c3, v⟩ := v
  refine a_iald d_M_fault_12 (Or.inl (KNM_124 hM)) c2 (lt_len (NNM_124 hM) c3) ?_
  refine a_iconst d_M_fault_13 ⟨by decide, by decide⟩ ?_
  refine a_iadd d_M_fault_14 ?_
  obtain ⟨c6, c7, v⟩ := v
  have v := v _ rfl
  refine a_iast d_M_fault_15 (KNM_124 hM) (by decide) c6 (lt_len (NNM_124 hM) c7) ?_
  exact a_vret d_M_fault_16 rfl v
theorem d_M_beginBy_0 : decode Y_M_beginBy.2.1 0 = .ok (.aload_n 0, 1) := by decide +kernel
theorem d_M_beginBy_1 : decode Y_M_beginBy.2.1 1 = .ok (.iload_n 2, 1) := by decide +kernel
theorem d_M_beginBy_2 : decode Y_M_beginBy.2.1 2 = .ok (.invokevirtual 192, 3) := by decide +kernel
theorem d_M_beginBy_5 : decode Y_M_beginBy.2.1 5 = .ok (.iconst 0, 1) := by decide +kernel
theorem d_M_beginBy_6 : decode Y_M_beginBy.2.1 6 = .ok (.istore_n 3, 1) := by decide +kernel
theorem d_M_beginBy_7 : decode Y_M_beginBy.2.1 7 = .ok (.iload_n 3, 1) := by decide +kernel
theorem d_M_beginBy_8 : decode Y_M_beginBy.2.1 8 = .ok (.aload_n 0, 1) := by decide +kernel
theorem d_M_beginBy_9 : decode Y_M_beginBy.2.1 9 = .ok (.getfield 123, 3) := by decide +kernel
theorem d_M_beginBy_12 : decode Y_M_beginBy.2.1 12 = .ok (.if_icmp .ge 71, 3) := by decide +kernel
theorem d_M_beginBy_15 : decode Y_M_beginBy.2.1 15 = .ok (.aload_n 0, 1) := by decide +kernel
theorem d_M_beginBy_16 : decode Y_M_beginBy.2.1 16 = .ok (.getfield 80, 3) := by decide +kernel
theorem d_M_beginBy_19 : decode Y_M_beginBy.2.1 19 = .ok (.iload_n 3, 1) := by decide +kernel
theorem d_M_beginBy_20 : decode Y_M_beginBy.2.1 20 = .ok (.baload, 1) := by decide +kernel
theorem d_M_beginBy_21 : decode Y_M_beginBy.2.1 21 = .ok (.ifCond .eq 56, 3) := by decide +kernel
theorem d_M_beginBy_24 : decode Y_M_beginBy.2.1 24 = .ok (.aload_n 0, 1) := by decide +kernel
theorem d_M_beginBy_25 : decode Y_M_beginBy.2.1 25 = .ok (.aload_n 0, 1) := by decide +kernel
theorem d_M_beginBy_26 : decode Y_M_beginBy.2.1 26 = .ok (.getfield 186, 3) := by decide +kernel
theorem d_M_beginBy_29 : decode Y_M_beginBy.2.1 29 = .ok (.ifCond .ne 12, 3) := by decide +kernel
theorem d_M_beginBy_32 : decode Y_M_beginBy.2.1 32 = .ok (.aload_n 0, 1) := by decide +kernel
theorem d_M_beginBy_33 : decode Y_M_beginBy.2.1 33 = .ok (.getfield 56, 3) := by decide +kernel
theorem d_M_beginBy_36 : decode Y_M_beginBy.2.1 36 = .ok (.iload_n 3, 1) := by decide +kernel
theorem d_M_beginBy_37 : decode Y_M_beginBy.2.1 37 = .ok (.baload, 1) := by decide +kernel
theorem d_M_beginBy_38 : decode Y_M_beginBy.2.1 38 = .ok (.ifCond .ne 7, 3) := by decide +kernel
theorem d_M_beginBy_41 : decode Y_M_beginBy.2.1 41 = .ok (.iconst 1, 1) := by decide +kernel
theorem d_M_beginBy_42 : decode Y_M_beginBy.2.1 42 = .ok (.goto 4, 3) := by decide +kernel
theorem d_M_beginBy_45 : decode Y_M_beginBy.2.1 45 = .ok (.iconst 0, 1) := by decide +kernel
theorem d_M_beginBy_46 : decode Y_M_beginBy.2.1 46 = .ok (.putfield 186, 3) := by decide +kernel
theorem d_M_beginBy_49 : decode Y_M_beginBy.2.1 49 = .ok (.aload_n 0, 1) := by decide +kernel
theorem d_M_beginBy_50 : decode Y_M_beginBy.2.1 50 = .ok (.getfield 56, 3) := by decide +kernel
theorem d_M_beginBy_53 : decode Y_M_beginBy.2.1 53 = .ok (.iload_n 3, 1) := by decide +kernel
theorem d_M_beginBy_54 : decode Y_M_beginBy.2.1 54 = .ok (.iconst 1, 1) := by decide +kernel
theorem d_M_beginBy_55 : decode Y_M_beginBy.2.1 55 = .ok (.bastore, 1) := by decide +kernel
theorem d_M_beginBy_56 : decode Y_M_beginBy.2.1 56 = .ok (.aload_n 0, 1) := by decide +kernel
theorem d_M_beginBy_57 : decode Y_M_beginBy.2.1 57 = .ok (.iload_n 3, 1) := by decide +kernel
theorem d_M_beginBy_58 : decode Y_M_beginBy.2.1 58 = .ok (.iconst (-1), 1) := by decide +kernel
theorem d_M_beginBy_59 : decode Y_M_beginBy.2.1 59 = .ok (.invokevirtual 145, 3) := by decide +kernel
theorem d_M_beginBy_62 : decode Y_M_beginBy.2.1 62 = .ok (.istore 4, 2) := by decide +kernel
theorem d_M_beginBy_64 : decode Y_M_beginBy.2.1 64 = .ok (.iload 4, 2) := by decide +kernel
theorem d_M_beginBy_66 : decode Y_M_beginBy.2.1 66 = .ok (.iconst (-1), 1) := by decide +kernel
theorem d_M_beginBy_67 : decode Y_M_beginBy.2.1 67 = .ok (.if_icmp .eq 10, 3) := by decide +kernel
theorem d_M_beginBy_70 : decode Y_M_beginBy.2.1 70 = .ok (.aload_n 0, 1) := by decide +kernel
theorem d_M_beginBy_71 : decode Y_M_beginBy.2.1 71 = .ok (.iload_n 1, 1) := by decide +kernel
theorem d_M_beginBy_72 : decode Y_M_beginBy.2.1 72 = .ok (.iload 4, 2) := by decide +kernel
theorem d_M_beginBy_74 : decode Y_M_beginBy.2.1 74 = .ok (.invokevirtual 195, 3) := by decide +kernel
theorem d_M_beginBy_77 : decode Y_M_beginBy.2.1 77 = .ok (.iinc 3 1, 3) := by decide +kernel
theorem d_M_beginBy_80 : decode Y_M_beginBy.2.1 80 = .ok (.goto (-73), 3) := by decide +kernel
theorem d_M_beginBy_83 : decode Y_M_beginBy.2.1 83 = .ok (.return_, 1) := by decide +kernel
theorem m_M_beginBy_0 {l : Launch} {D : DD} {d kc ks : Nat} {h : Hp} {Φ : Option AV → Hp → Prop} {x1 : Int} {x2 : Int} (hM : MS h) (v : Ev l D Y_M_findWith d 0 0 0 [some (vr 100), some (vi x2), none] [] h (kv (fun h1 => MS h1 ∧ (Ev l D Y_M_beginBy (d + 1) kc ks 7 [some (vr 100), some (vi x1), some (vi x2), some (vi (0 : Int)), none] [] h1 Φ)))) : Ev l D Y_M_beginBy (d + 1) kc ks 0 [some (vr 100), some (vi x1), some (vi x2), none, none] [] h Φ := by
  refine a_aload_n d_M_beginBy_0 rfl ?_
  refine a_iload_n d_M_beginBy_1 rfl ?_
  refine b_callV (as := [vi x2]) (b := 100) (st := []) (kd := 12) (kc1 := 0) (ks1 := 0) (kc2 := kc) (ks2 := ks) (d' := d) ml_M_192 rfl d_M_beginBy_2 rfl rfl (Nat.le_of_ble_eq_true rfl) (by decide) rfl (Nat.le_refl _) (by omega) (by omega) (KNM_100 hM) ?_
  refine Ev.mono v ?_
  intro u h1 v
  obtain ⟨rfl, v⟩ := kv_el v
  obtain ⟨hm1, v⟩ := v
  change Ev l D Y_M_beginBy _ _ _ 5 [some (vr 100), some (vi x1), some (vi x2), none, none] [] _ _
  refine a_iconst d_M_beginBy_5 ⟨by decide, by decide⟩ ?_
  refine a_istore_n (L' := [some (vr 100), some (vi x1), some (vi x2), some (vi (0 : Int)), none]) d_M_beginBy_6 (Nat.le_of_ble_eq_true rfl) rfl rfl ?_
  exact v
theorem m_M_beginBy_7 {l : Launch} {D : DD} {d kc ks : Nat} {h : Hp} {Φ : Option AV → Hp → Prop} {x1 : Int} {x2 : Int} {x3 : Int} (hM : MS h) (v : (x3 ≥ xI h 100 0 → (Φ none h)) ∧ (x3 < xI h 100 0 → (0 ≤ x3 ∧ x3 < 16 ∧ ((xI h 130 (x3).toNat = 0 → (Ev l D Y_M_beginBy (d + 1) kc ks 7 [some (vr 100), some (vi x1), some (vi x2), some (vi (wr (x3 + (1 : Int)))), none] [] h Φ)) ∧ (¬ xI h 130 (x3).toNat = 0 → ((¬ xI h 100 17 = 0 → (Ev l D Y_M_beginBy (d + 1) kc ks 46 [some (vr 100), some (vi x1), some (vi x2), some (vi x3), none] [vi (1 : Int), vr 100] h Φ)) ∧ (xI h 100 17 = 0 → (0 ≤ x3 ∧ x3 < 16 ∧ ((¬ xI h 121 (x3).toNat = 0 → (Ev l D Y_M_beginBy (d + 1) kc ks 46 [some (vr 100), some (vi x1), some (vi x2), some (vi x3), none] [vi (0 : Int), vr 100] h Φ)) ∧ (xI h 121 (x3).toNat = 0 → (Ev l D Y_M_beginBy (d + 1) kc ks 46 [some (vr 100), some (vi x1), some (vi x2), some (vi x3), none] [vi (1 : Int), vr 100] h Φ))))))))))) : Ev l D Y_M_beginBy (d + 1) kc ks 7 [some (vr 100), some (vi x1), some (vi x2), some (vi x3), none] [] h Φ := by
  refine a_iload_n d_M_beginBy_7 rfl ?_
  refine a_aload_n d_M_beginBy_8 rfl ?_
  refine a_getI fl_M_123 d_M_beginBy_9 (beq_iff_eq.mpr (KNM_100 hM)) ?_
  obtain ⟨vt, vf⟩ := v
  refine a_icmp_ge (tgt := 83) d_M_beginBy_12 (by decide) (fun c => ?_) (fun c => ?_)
  · have v := vt (c); clear vt vf
    exact a_vret d_M_beginBy_83 rfl v
  · have v := vf (Int.not_le.mp c); clear vt vf
    refine a_aload_n d_M_beginBy_15 rfl ?_
    refine a_getAe fl_M_80 d_M_beginBy_16 (beq_iff_eq.mpr (KNM_100 hM)) (KRM_100_29 hM) ?_
    refine a_iload_n d_M_beginBy_19 rfl ?_
    obtain ⟨c2, c3, v⟩ := v
    refine a_zald d_M_beginBy_20 (KNM_130 hM) c2 (lt_len (NNM_130 hM) c3) ?_
    obtain ⟨vt, vf⟩ := v
    refine a_if_eq (tgt := 77) d_M_beginBy_21 (by decide) (fun c => ?_) (fun c => ?_)
    · have v := vt (c); clear vt vf
      refine a_iinc (L' := [some (vr 100), some (vi x1), some (vi x2), some (vi (wr (x3 + (1 : Int)))), none]) d_M_beginBy_77 rfl (Nat.le_of_ble_eq_true rfl) rfl rfl ?_
      refine a_goto (tgt := 7) d_M_beginBy_80 (by decide) ?_
      exact v
    · have v := vf (c); clear vt vf
      refine a_aload_n d_M_beginBy_24 rfl ?_
      refine a_aload_n d_M_beginBy_25 rfl ?_
      refine a_getZ fl_M_186 d_M_beginBy_26 (beq_iff_eq.mpr (KNM_100 hM)) ?_
      obtain ⟨vt, vf⟩ := v
      refine a_if_ne (tgt := 41) d_M_beginBy_29 (by decide) (fun c => ?_) (fun c => ?_)
      · have v := vt (c); clear vt vf
        refine a_iconst d_M_beginBy_41 ⟨by decide, by decide⟩ ?_
        refine a_goto (tgt := 46) d_M_beginBy_42 (by decide) ?_
        exact v
      · have v := vf (Classical.not_not.mp c); clear vt vf
        refine a_aload_n d_M_beginBy_32 rfl ?_
        refine a_getAe fl_M_56 d_M_beginBy_33 (beq_iff_eq.mpr (KNM_100 hM)) (KRM_100_20 hM) ?_
        refine a_iload_n d_M_beginBy_36 rfl ?_
        obtain ⟨c5, c6, v⟩ := v
        refine a_zald d_M_beginBy_37 (KNM_121 hM) c5 (lt_len (NNM_121 hM) c6) ?_
        obtain ⟨vt, vf⟩ := v
        refine a_if_ne (tgt := 45) d_M_beginBy_38 (by decide) (fun c => ?_) (fun c => ?_)
        · have v := vt (c); clear vt vf
          refine a_iconst d_M_beginBy_45 ⟨by decide, by decide⟩ ?_
          exact v
        · have v := vf (Classical.not_not.mp c); clear vt vf
          refine a_iconst d_M_beginBy_41 ⟨by decide, by decide⟩ ?_
          refine a_goto (tgt := 46) d_M_beginBy_42 (by decide) ?_
          exact v
theorem m_M_beginBy_46 {l : Launch} {D : DD} {d kc ks : Nat} {h : Hp} {Φ : Option AV → Hp → Prop} {x1 : Int} {x2 : Int} {x3 : Int} {y0 : Int} (hM : MS h) (v : (y0 = 0 ∨ y0 = 1) ∧ (∀ h1 : Hp, h1 = sI h 100 17 y0 → (0 ≤ x3 ∧ x3 < 16 ∧ (∀ h2 : Hp, h2 = sI h1 121 (x3).toNat (1 : Int) → (Ev l D Y_M_ownOf d 0 0 0 [some (vr 100), some (vi x3), some (vi (-1 : Int)), none] [] h2 (ki (fun r1 h3 => MS h3 ∧ ((r1 = (-1 : Int) → (Ev l D Y_M_beginBy (d + 1) kc ks 7 [some (vr 100), some (vi x1), some (vi x2), some (vi (wr (x3 + (1 : Int)))), none] [] h3 Φ)) ∧ (¬ r1 = (-1 : Int) → (Ev l D Y_M_call d 0 0 0 [some (vr 100), some (vi x1), some (vi r1)] [] h3 (kv (fun h4 => MS h4 ∧ (Ev l D Y_M_beginBy (d + 1) kc ks 7 [some (vr 100), some (vi x1), some (vi x2), some (vi (wr (x3 + (1 : Int)))), none] [] h4 Φ))))))))))))) : Ev l D Y_M_beginBy (d + 1) kc ks 46 [some (vr 100), some (vi x1), some (vi x2), some (vi x3), none] [vi y0, vr 100] h Φ := by
  obtain ⟨c3, v⟩ := v
  have v := v _ rfl
  refine a_putZ fl_M_186 d_M_beginBy_46 (beq_iff_eq.mpr (KNM_100 hM)) (by decide) c3 ?_
  refine a_aload_n d_M_beginBy_49 rfl ?_
  refine a_getAe fl_M_56 d_M_beginBy_50 (beq_iff_eq.mpr (KNM_100 hM)) (KRM_100_20 hM) ?_
  refine a_iload_n d_M_beginBy_53 rfl ?_
  refine a_iconst d_M_beginBy_54 ⟨by decide, by decide⟩ ?_
  obtain ⟨c6, c7, v⟩ := v
  have v := v _ rfl
  refine a_zast d_M_beginBy_55 (KNM_121 hM) (by decide) c6 (lt_len (NNM_121 hM) c7) (Or.inr rfl) ?_
  refine a_aload_n d_M_beginBy_56 rfl ?_
  refine a_iload_n d_M_beginBy_57 rfl ?_
  refine a_iconst d_M_beginBy_58 ⟨by decide, by decide⟩ ?_
  refine b_callV (as := [vi x3, vi (-1 : Int)]) (b := 100) (st := []) (kd := 12) (kc1 := 0) (ks1 := 0) (kc2 := kc) (ks2 := ks) (d' := d) ml_M_145 rfl d_M_beginBy_59 rfl rfl (Nat.le_of_ble_eq_true rfl) (by decide) rfl (Nat.le_refl _) (by omega) (by omega) (KNM_100 hM) ?_
  refine Ev.mono v ?_
  intro u h3 v
  obtain ⟨r1, rfl, v⟩ := ki_el v
  obtain ⟨hm1, v⟩ := v
  change Ev l D Y_M_beginBy _ _ _ 62 [some (vr 100), some (vi x1), some (vi x2), some (vi x3), none] [vi r1] _ _
  refine a_istore (L' := [some (vr 100), some (vi x1), some (vi x2), some (vi x3), some (vi r1)]) d_M_beginBy_62 (Nat.le_of_ble_eq_true rfl) rfl rfl ?_
  refine a_iload d_M_beginBy_64 rfl ?_
  refine a_iconst d_M_beginBy_66 ⟨by decide, by decide⟩ ?_
  obtain ⟨vt, vf⟩ := v
  refine a_icmp_eq (tgt := 77) d_M_beginBy_67 (by decide) (fun c => ?_) (fun c => ?_)
  · have v := vt (c); clear vt vf
    refine a_iinc (L' := [some (vr 100), some (vi x1), some (vi x2), some (vi (wr (x3 + (1 : Int)))), some (vi r1)]) d_M_beginBy_77 rfl (Nat.le_of_ble_eq_true rfl) rfl rfl ?_
    refine a_goto (tgt := 7) d_M_beginBy_80 (by decide) ?_
    exact Ev.weak v ⟨rfl, rfl, rfl, rfl, trivial⟩
  · have v := vf (c); clear vt vf
    refine a_aload_n d_M_beginBy_70 rfl ?_
    refine a_iload_n d_M_beginBy_71 rfl ?_
    refine a_iload d_M_beginBy_72 rfl ?_
    refine b_callV (as := [vi x1, vi r1]) (b := 100) (st := []) (kd := 12) (kc1 := 0) (ks1 := 0) (kc2 := kc) (ks2 := ks) (d' := d) ml_M_195 rfl d_M_beginBy_74 rfl rfl (Nat.le_of_ble_eq_true rfl) (by decide) rfl (Nat.le_refl _) (by omega) (by omega) (KNM_100 hm1) ?_
    refine Ev.mono v ?_
    intro u h4 v
    obtain ⟨rfl, v⟩ := kv_el v
    obtain ⟨hm2, v⟩ := v
    change Ev l D Y_M_beginBy _ _ _ 77 [some (vr 100), some (vi x1), some (vi x2), some (vi x3), some (vi r1)] [] _ _
    refine a_iinc (L' := [some (vr 100), some (vi x1), some (vi x2), some (vi (wr (x3 + (1 : Int)))), some (vi r1)]) d_M_beginBy_77 rfl (Nat.le_of_ble_eq_true rfl) rfl rfl ?_
    refine a_goto (tgt := 7) d_M_beginBy_80 (by decide) ?_
    exact Ev.weak v ⟨rfl, rfl, rfl, rfl, trivial⟩
theorem d_M_callAll_0 : decode Y_M_callAll.2.1 0 = .ok (.aload_n 0, 1) := by decide +kernel
theorem d_M_callAll_1 : decode Y_M_callAll.2.1 1 = .ok (.iload_n 2, 1) := by decide +kernel
theorem d_M_callAll_2 : decode Y_M_callAll.2.1 2 = .ok (.iload_n 3, 1) := by decide +kernel
theorem d_M_callAll_3 : decode Y_M_callAll.2.1 3 = .ok (.invokevirtual 173, 3) := by decide +kernel
theorem d_M_callAll_6 : decode Y_M_callAll.2.1 6 = .ok (.istore 4, 2) := by decide +kernel
theorem d_M_callAll_8 : decode Y_M_callAll.2.1 8 = .ok (.iconst 0, 1) := by decide +kernel
theorem d_M_callAll_9 : decode Y_M_callAll.2.1 9 = .ok (.istore 5, 2) := by decide +kernel
theorem d_M_callAll_11 : decode Y_M_callAll.2.1 11 = .ok (.iconst 0, 1) := by decide +kernel
theorem d_M_callAll_12 : decode Y_M_callAll.2.1 12 = .ok (.istore 6, 2) := by decide +kernel
theorem d_M_callAll_14 : decode Y_M_callAll.2.1 14 = .ok (.iload 6, 2) := by decide +kernel
theorem d_M_callAll_16 : decode Y_M_callAll.2.1 16 = .ok (.aload_n 0, 1) := by decide +kernel
theorem d_M_callAll_17 : decode Y_M_callAll.2.1 17 = .ok (.getfield 123, 3) := by decide +kernel
theorem d_M_callAll_20 : decode Y_M_callAll.2.1 20 = .ok (.if_icmp .ge 103, 3) := by decide +kernel
theorem d_M_callAll_23 : decode Y_M_callAll.2.1 23 = .ok (.aload_n 0, 1) := by decide +kernel
theorem d_M_callAll_24 : decode Y_M_callAll.2.1 24 = .ok (.getfield 53, 3) := by decide +kernel
theorem d_M_callAll_27 : decode Y_M_callAll.2.1 27 = .ok (.iload 6, 2) := by decide +kernel
theorem d_M_callAll_29 : decode Y_M_callAll.2.1 29 = .ok (.baload, 1) := by decide +kernel
theorem d_M_callAll_30 : decode Y_M_callAll.2.1 30 = .ok (.ifCond .eq 87, 3) := by decide +kernel
theorem d_M_callAll_33 : decode Y_M_callAll.2.1 33 = .ok (.aload_n 0, 1) := by decide +kernel
theorem d_M_callAll_34 : decode Y_M_callAll.2.1 34 = .ok (.iload 6, 2) := by decide +kernel
theorem d_M_callAll_36 : decode Y_M_callAll.2.1 36 = .ok (.iload_n 2, 1) := by decide +kernel
theorem d_M_callAll_37 : decode Y_M_callAll.2.1 37 = .ok (.invokevirtual 166, 3) := by decide +kernel
theorem d_M_callAll_40 : decode Y_M_callAll.2.1 40 = .ok (.ifCond .eq 77, 3) := by decide +kernel
theorem d_M_callAll_43 : decode Y_M_callAll.2.1 43 = .ok (.iload 4, 2) := by decide +kernel
theorem d_M_callAll_45 : decode Y_M_callAll.2.1 45 = .ok (.iconst (-1), 1) := by decide +kernel
theorem d_M_callAll_46 : decode Y_M_callAll.2.1 46 = .ok (.if_icmp .ne 8, 3) := by decide +kernel
theorem d_M_callAll_49 : decode Y_M_callAll.2.1 49 = .ok (.bipush (-2), 2) := by decide +kernel
theorem d_M_callAll_51 : decode Y_M_callAll.2.1 51 = .ok (.goto 27, 3) := by decide +kernel
theorem d_M_callAll_54 : decode Y_M_callAll.2.1 54 = .ok (.aload_n 0, 1) := by decide +kernel
theorem d_M_callAll_55 : decode Y_M_callAll.2.1 55 = .ok (.getfield 28, 3) := by decide +kernel
theorem d_M_callAll_58 : decode Y_M_callAll.2.1 58 = .ok (.iload 4, 2) := by decide +kernel
theorem d_M_callAll_60 : decode Y_M_callAll.2.1 60 = .ok (.iaload, 1) := by decide +kernel
theorem d_M_callAll_61 : decode Y_M_callAll.2.1 61 = .ok (.iconst 2, 1) := by decide +kernel
theorem d_M_callAll_62 : decode Y_M_callAll.2.1 62 = .ok (.if_icmp .ne 8, 3) := by decide +kernel
theorem d_M_callAll_65 : decode Y_M_callAll.2.1 65 = .ok (.bipush (-3), 2) := by decide +kernel
theorem d_M_callAll_67 : decode Y_M_callAll.2.1 67 = .ok (.goto 11, 3) := by decide +kernel
theorem d_M_callAll_70 : decode Y_M_callAll.2.1 70 = .ok (.aload_n 0, 1) := by decide +kernel
theorem d_M_callAll_71 : decode Y_M_callAll.2.1 71 = .ok (.iload 6, 2) := by decide +kernel
theorem d_M_callAll_73 : decode Y_M_callAll.2.1 73 = .ok (.iload 4, 2) := by decide +kernel
theorem d_M_callAll_75 : decode Y_M_callAll.2.1 75 = .ok (.invokevirtual 176, 3) := by decide +kernel
theorem d_M_callAll_78 : decode Y_M_callAll.2.1 78 = .ok (.istore 7, 2) := by decide +kernel
theorem d_M_callAll_80 : decode Y_M_callAll.2.1 80 = .ok (.iload 7, 2) := by decide +kernel
theorem d_M_callAll_82 : decode Y_M_callAll.2.1 82 = .ok (.ifCond .lt 13, 3) := by decide +kernel
theorem d_M_callAll_85 : decode Y_M_callAll.2.1 85 = .ok (.aload_n 0, 1) := by decide +kernel
theorem d_M_callAll_86 : decode Y_M_callAll.2.1 86 = .ok (.iload_n 1, 1) := by decide +kernel
theorem d_M_callAll_87 : decode Y_M_callAll.2.1 87 = .ok (.iload 7, 2) := by decide +kernel
theorem d_M_callAll_89 : decode Y_M_callAll.2.1 89 = .ok (.invokevirtual 195, 3) := by decide +kernel
theorem d_M_callAll_92 : decode Y_M_callAll.2.1 92 = .ok (.goto 22, 3) := by decide +kernel
theorem d_M_callAll_95 : decode Y_M_callAll.2.1 95 = .ok (.iload 7, 2) := by decide +kernel
theorem d_M_callAll_97 : decode Y_M_callAll.2.1 97 = .ok (.bipush (-4), 2) := by decide +kernel
theorem d_M_callAll_99 : decode Y_M_callAll.2.1 99 = .ok (.if_icmp .le 8, 3) := by decide +kernel
theorem d_M_callAll_102 : decode Y_M_callAll.2.1 102 = .ok (.iload 5, 2) := by decide +kernel
theorem d_M_callAll_104 : decode Y_M_callAll.2.1 104 = .ok (.ifCond .ne 10, 3) := by decide +kernel
theorem d_M_callAll_107 : decode Y_M_callAll.2.1 107 = .ok (.aload_n 0, 1) := by decide +kernel
theorem d_M_callAll_108 : decode Y_M_callAll.2.1 108 = .ok (.iload_n 1, 1) := by decide +kernel
theorem d_M_callAll_109 : decode Y_M_callAll.2.1 109 = .ok (.iload 7, 2) := by decide +kernel
theorem d_M_callAll_111 : decode Y_M_callAll.2.1 111 = .ok (.invokevirtual 198, 3) := by decide +kernel
theorem d_M_callAll_114 : decode Y_M_callAll.2.1 114 = .ok (.iconst 1, 1) := by decide +kernel
theorem d_M_callAll_115 : decode Y_M_callAll.2.1 115 = .ok (.istore 5, 2) := by decide +kernel
theorem d_M_callAll_117 : decode Y_M_callAll.2.1 117 = .ok (.iinc 6 1, 3) := by decide +kernel
theorem d_M_callAll_120 : decode Y_M_callAll.2.1 120 = .ok (.goto (-106), 3) := by decide +kernel
theorem d_M_callAll_123 : decode Y_M_callAll.2.1 123 = .ok (.return_, 1) := by decide +kernel
theorem m_M_callAll_0 {l : Launch} {D : DD} {d kc ks : Nat} {h : Hp} {Φ : Option AV → Hp → Prop} {x1 : Int} {x2 : Int} {x3 : Int} (hM : MS h) (v : Ev l D Y_M_find d 0 0 0 [some (vr 100), some (vi x2), some (vi x3), none, none, none, none, none] [] h (ki (fun r1 h1 => MS h1 ∧ (Ev l D Y_M_callAll (d + 1) kc ks 14 [some (vr 100), some (vi x1), some (vi x2), some (vi x3), some (vi r1), some (vi (0 : Int)), some (vi (0 : Int)), none] [] h1 Φ)))) : Ev l D Y_M_callAll (d + 1) kc ks 0 [some (vr 100), some (vi x1), some (vi x2), some (vi x3), none, none, none, none] [] h Φ := by
  refine a_aload_n d_M_callAll_0 rfl ?_
  refine a_iload_n d_M_callAll_1 rfl ?_
  refine a_iload_n d_M_callAll_2 rfl ?_
  refine b_callV (as := [vi x2, vi x3]) (b := 100) (st := []) (kd := 12) (kc1 := 0) (ks1 := 0) (kc2 := kc) (ks2 := ks) (d' := d) ml_M_173 rfl d_M_callAll_3 rfl rfl (Nat.le_of_ble_eq_true rfl) (by decide) rfl (Nat.le_refl _) (by omega) (by omega) (KNM_100 hM) ?_
  refine Ev.mono v ?_
  intro u h1 v
  obtain ⟨r1, rfl, v⟩ := ki_el v
  obtain ⟨hm1, v⟩ := v
  change Ev l D Y_M_callAll _ _ _ 6 [some (vr 100), some (vi x1), some (vi x2), some (vi x3), none, none, none, none] [vi r1] _ _
  refine a_istore (L' := [some (vr 100), some (vi x1), some (vi x2), some (vi x3), some (vi r1), none, none, none]) d_M_callAll_6 (Nat.le_of_ble_eq_true rfl) rfl rfl ?_
  refine a_iconst d_M_callAll_8 ⟨by decide, by decide⟩ ?_
  refine a_istore (L' := [some (vr 100), some (vi x1), some (vi x2), some (vi x3), some (vi r1), some (vi (0 : Int)), none, none]) d_M_callAll_9 (Nat.le_of_ble_eq_true rfl) rfl rfl ?_
  refine a_iconst d_M_callAll_11 ⟨by decide, by decide⟩ ?_
  refine a_istore (L' := [some (vr 100), some (vi x1), some (vi x2), some (vi x3), some (vi r1), some (vi (0 : Int)), some (vi (0 : Int)), none]) d_M_callAll_12 (Nat.le_of_ble_eq_true rfl) rfl rfl ?_
  exact v
theorem m_M_callAll_14 {l : Launch} {D : DD} {d kc ks : Nat} {h : Hp} {Φ : Option AV → Hp → Prop} {x1 : Int} {x2 : Int} {x3 : Int} {x4 : Int} {x5 : Int} {x6 : Int} (hM : MS h) (v : (x6 ≥ xI h 100 0 → (Φ none h)) ∧ (x6 < xI h 100 0 → (0 ≤ x6 ∧ x6 < 16 ∧ ((xI h 120 (x6).toNat = 0 → (Ev l D Y_M_callAll (d + 1) kc ks 14 [some (vr 100), some (vi x1), some (vi x2), some (vi x3), some (vi x4), some (vi x5), some (vi (wr (x6 + (1 : Int)))), none] [] h Φ)) ∧ (¬ xI h 120 (x6).toNat = 0 → (Ev l D Y_M_isUnder d 0 0 0 [some (vr 100), some (vi x6), some (vi x2), none, none] [] h (ki (fun r1 h1 => MS h1 ∧ ((r1 = 0 → (Ev l D Y_M_callAll (d + 1) kc ks 14 [some (vr 100), some (vi x1), some (vi x2), some (vi x3), some (vi x4), some (vi x5), some (vi (wr (x6 + (1 : Int)))), none] [] h1 Φ)) ∧ (¬ r1 = 0 → ((¬ x4 = (-1 : Int) → (0 ≤ x4 ∧ x4 < 48 ∧ ((¬ xI h1 109 (x4).toNat = (2 : Int) → (Ev l D Y_M_choose d 0 0 0 [some (vr 100), some (vi x6), some (vi x4), none, none, none] [] h1 (ki (fun r2 h2 => MS h2 ∧ (Ev l D Y_M_callAll (d + 1) kc ks 78 [some (vr 100), some (vi x1), some (vi x2), some (vi x3), some (vi x4), some (vi x5), some (vi x6), none] [vi r2] h2 Φ))))) ∧ (xI h1 109 (x4).toNat = (2 : Int) → (Ev l D Y_M_callAll (d + 1) kc ks 78 [some (vr 100), some (vi x1), some (vi x2), some (vi x3), some (vi x4), some (vi x5), some (vi x6), none] [vi (-3 : Int)] h1 Φ))))) ∧ (x4 = (-1 : Int) → (Ev l D Y_M_callAll (d + 1) kc ks 78 [some (vr 100), some (vi x1), some (vi x2), some (vi x3), some (vi x4), some (vi x5), some (vi x6), none] [vi (-2 : Int)] h1 Φ))))))))))))) : Ev l D Y_M_callAll (d + 1) kc ks 14 [some (vr 100), some (vi x1), some (vi x2), some (vi x3), some (vi x4), some (vi x5), some (vi x6), none] [] h Φ := by
  refine a_iload d_M_callAll_14 rfl ?_
  refine a_aload_n d_M_callAll_16 rfl ?_
  refine a_getI fl_M_123 d_M_callAll_17 (beq_iff_eq.mpr (KNM_100 hM)) ?_
  obtain ⟨vt, vf⟩ := v
  refine a_icmp_ge (tgt := 123) d_M_callAll_20 (by decide) (fun c => ?_) (fun c => ?_)
  · have v := vt (c); clear vt vf
    exact a_vret d_M_callAll_123 rfl v
  · have v := vf (Int.not_le.mp c); clear vt vf
    refine a_aload_n d_M_callAll_23 rfl ?_
    refine a_getAe fl_M_53 d_M_callAll_24 (beq_iff_eq.mpr (KNM_100 hM)) (KRM_100_19 hM) ?_
    refine a_iload d_M_callAll_27 rfl ?_
    obtain ⟨c2, c3, v⟩ := v
    refine a_zald d_M_callAll_29 (KNM_120 hM) c2 (lt_len (NNM_120 hM) c3) ?_
    obtain ⟨vt, vf⟩ := v
    refine a_if_eq (tgt := 117) d_M_callAll_30 (by decide) (fun c => ?_) (fun c => ?_)
    · have v := vt (c); clear vt vf
      refine a_iinc (L' := [some (vr 100), some (vi x1), some (vi x2), some (vi x3), some (vi x4), some (vi x5), some (vi (wr (x6 + (1 : Int)))), none]) d_M_callAll_117 rfl (Nat.le_of_ble_eq_true rfl) rfl rfl ?_
      refine a_goto (tgt := 14) d_M_callAll_120 (by decide) ?_
      exact v
    · have v := vf (c); clear vt vf
      refine a_aload_n d_M_callAll_33 rfl ?_
      refine a_iload d_M_callAll_34 rfl ?_
      refine a_iload_n d_M_callAll_36 rfl ?_
      refine b_callV (as := [vi x6, vi x2]) (b := 100) (st := []) (kd := 12) (kc1 := 0) (ks1 := 0) (kc2 := kc) (ks2 := ks) (d' := d) ml_M_166 rfl d_M_callAll_37 rfl rfl (Nat.le_of_ble_eq_true rfl) (by decide) rfl (Nat.le_refl _) (by omega) (by omega) (KNM_100 hM) ?_
      refine Ev.mono v ?_
      intro u h1 v
      obtain ⟨r1, rfl, v⟩ := ki_el v
      obtain ⟨hm1, v⟩ := v
      change Ev l D Y_M_callAll _ _ _ 40 [some (vr 100), some (vi x1), some (vi x2), some (vi x3), some (vi x4), some (vi x5), some (vi x6), none] [vi r1] _ _
      obtain ⟨vt, vf⟩ := v
      refine a_if_eq (tgt := 117) d_M_callAll_40 (by decide) (fun c => ?_) (fun c => ?_)
      · have v := vt (c); clear vt vf
        refine a_iinc (L' := [some (vr 100), some (vi x1), some (vi x2), some (vi x3), some (vi x4), some (vi x5), some (vi (wr (x6 + (1 : Int)))), none]) d_M_callAll_117 rfl (Nat.le_of_ble_eq_true rfl) rfl rfl ?_
        refine a_goto (tgt := 14) d_M_callAll_120 (by decide) ?_
        exact v
      · have v := vf (c); clear vt vf
        refine a_iload d_M_callAll_43 rfl ?_
        refine a_iconst d_M_callAll_45 ⟨by decide, by decide⟩ ?_
        obtain ⟨vt, vf⟩ := v
        refine a_icmp_ne (tgt := 54) d_M_callAll_46 (by decide) (fun c => ?_) (fun c => ?_)
        · have v := vt (c); clear vt vf
          refine a_aload_n d_M_callAll_54 rfl ?_
          refine a_getAe fl_M_28 d_M_callAll_55 (beq_iff_eq.mpr (KNM_100 hm1)) (KRM_100_8 hm1) ?_
          refine a_iload d_M_callAll_58 rfl ?_
          obtain ⟨c5, c6, v⟩ := v
          refine a_iald d_M_callAll_60 (Or.inl (KNM_109 hm1)) c5 (lt_len (NNM_109 hm1) c6) ?_
          refine a_iconst d_M_callAll_61 ⟨by decide, by decide⟩ ?_
          obtain ⟨vt, vf⟩ := v
          refine a_icmp_ne (tgt := 70) d_M_callAll_62 (by decide) (fun c => ?_) (fun c => ?_)
          · have v := vt (c); clear vt vf
            refine a_aload_n d_M_callAll_70 rfl ?_
            refine a_iload d_M_callAll_71 rfl ?_
            refine a_iload d_M_callAll_73 rfl ?_
            refine b_callV (as := [vi x6, vi x4]) (b := 100) (st := []) (kd := 12) (kc1 := 0) (ks1 := 0) (kc2 := kc) (ks2 := ks) (d' := d) ml_M_176 rfl d_M_callAll_75 rfl rfl (Nat.le_of_ble_eq_true rfl) (by decide) rfl (Nat.le_refl _) (by omega) (by omega) (KNM_100 hm1) ?_
            refine Ev.mono v ?_
            intro u h2 v
            obtain ⟨r2, rfl, v⟩ := ki_el v
            obtain ⟨hm2, v⟩ := v
            change Ev l D Y_M_callAll _ _ _ 78 [some (vr 100), some (vi x1), some (vi x2), some (vi x3), some (vi x4), some (vi x5), some (vi x6), none] [vi r2] _ _
            exact v
          · have v := vf (Classical.not_not.mp c); clear vt vf
            refine a_bipush d_M_callAll_65 ⟨by decide, by decide⟩ (by decide) ?_
            refine a_goto (tgt := 78) d_M_callAll_67 (by decide) ?_
            exact v
        · have v := vf (Classical.not_not.mp c); clear vt vf
          refine a_bipush d_M_callAll_49 ⟨by decide, by decide⟩ (by decide) ?_
          refine a_goto (tgt := 78) d_M_callAll_51 (by decide) ?_
          exact v
theorem m_M_callAll_78 {l : Launch} {D : DD} {d kc ks : Nat} {h : Hp} {Φ : Option AV → Hp → Prop} {x1 : Int} {x2 : Int} {x3 : Int} {x4 : Int} {x5 : Int} {x6 : Int} {y0 : Int} (hM : MS h) (v : (y0 < 0 → ((y0 ≤ (-4 : Int) → (Ev l D Y_M_fault d 0 0 0 [some (vr 100), some (vi x1), some (vi y0)] [] h (kv (fun h1 => MS h1 ∧ (Ev l D Y_M_callAll (d + 1) kc ks 14 [some (vr 100), some (vi x1), some (vi x2), some (vi x3), some (vi x4), some (vi (1 : Int)), some (vi (wr (x6 + (1 : Int)))), none] [] h1 Φ))))) ∧ (y0 > (-4 : Int) → ((¬ x5 = 0 → (Ev l D Y_M_callAll (d + 1) kc ks 14 [some (vr 100), some (vi x1), some (vi x2), some (vi x3), some (vi x4), some (vi (1 : Int)), some (vi (wr (x6 + (1 : Int)))), none] [] h Φ)) ∧ (x5 = 0 → (Ev l D Y_M_fault d 0 0 0 [some (vr 100), some (vi x1), some (vi y0)] [] h (kv (fun h2 => MS h2 ∧ (Ev l D Y_M_callAll (d + 1) kc ks 14 [some (vr 100), some (vi x1), some (vi x2), some (vi x3), some (vi x4), some (vi (1 : Int)), some (vi (wr (x6 + (1 : Int)))), none] [] h2 Φ))))))))) ∧ (y0 ≥ 0 → (Ev l D Y_M_call d 0 0 0 [some (vr 100), some (vi x1), some (vi y0)] [] h (kv (fun h3 => MS h3 ∧ (Ev l D Y_M_callAll (d + 1) kc ks 14 [some (vr 100), some (vi x1), some (vi x2), some (vi x3), some (vi x4), some (vi (1 : Int)), some (vi (wr (x6 + (1 : Int)))), none] [] h3 Φ)))))) : Ev l D Y_M_callAll (d + 1) kc ks 78 [some (vr 100), some (vi x1), some (vi x2), some (vi x3), some (vi x4), some (vi x5), some (vi x6), none] [vi y0] h Φ := by
  refine a_istore (L' := [some (vr 100), some (vi x1), some (vi x2), some (vi x3), some (vi x4), some (vi x5), some (vi x6), some (vi y0)]) d_M_callAll_78 (Nat.le_of_ble_eq_true rfl) rfl rfl ?_
  refine a_iload d_M_callAll_80 rfl ?_
  obtain ⟨vt, vf⟩ := v
  refine a_if_lt (tgt := 95) d_M_callAll_82 (by decide) (fun c => ?_) (fun c => ?_)
  · have v := vt (c); clear vt vf
    refine a_iload d_M_callAll_95 rfl ?_
    refine a_bipush d_M_callAll_97 ⟨by decide, by decide⟩ (by decide) ?_
    obtain ⟨vt, vf⟩ := v
    refine a_icmp_le (tgt := 107) d_M_callAll_99 (by decide) (fun c => ?_) (fun c => ?_)
    · have v := vt (c); clear vt vf
      refine a_aload_n d_M_callAll_107 rfl ?_
      refine a_iload_n d_M_callAll_108 rfl ?_
      refine a_iload d_M_callAll_109 rfl ?_
      refine b_callV (as := [vi x1, vi y0]) (b := 100) (st := []) (kd := 12) (kc1 := 0) (ks1 := 0) (kc2 := kc) (ks2 := ks) (d' := d) ml_M_198 rfl d_M_callAll_111 rfl rfl (Nat.le_of_ble_eq_true rfl) (by decide) rfl (Nat.le_refl _) (by omega) (by omega) (KNM_100 hM) ?_
      refine Ev.mono v ?_
      intro u h1 v
      obtain ⟨rfl, v⟩ := kv_el v
      obtain ⟨hm1, v⟩ := v
      change Ev l D Y_M_callAll _ _ _ 114 [some (vr 100), some (vi x1), some (vi x2), some (vi x3), some (vi x4), some (vi x5), some (vi x6), some (vi y0)] [] _ _
      refine a_iconst d_M_callAll_114 ⟨by decide, by decide⟩ ?_
      refine a_istore (L' := [some (vr 100), some (vi x1), some (vi x2), some (vi x3), some (vi x4), some (vi (1 : Int)), some (vi x6), some (vi y0)]) d_M_callAll_115 (Nat.le_of_ble_eq_true rfl) rfl rfl ?_
      refine a_iinc (L' := [some (vr 100), some (vi x1), some (vi x2), some (vi x3), some (vi x4), some (vi (1 : Int)), some (vi (wr (x6 + (1 : Int)))), some (vi y0)]) d_M_callAll_117 rfl (Nat.le_of_ble_eq_true rfl) rfl rfl ?_
      refine a_goto (tgt := 14) d_M_callAll_120 (by decide) ?_
      exact Ev.weak v ⟨rfl, rfl, rfl, rfl, rfl, rfl, rfl, trivial⟩
    · have v := vf (Int.not_le.mp c); clear vt vf
      refine a_iload d_M_callAll_102 rfl ?_
      obtain ⟨vt, vf⟩ := v
      refine a_if_ne (tgt := 114) d_M_callAll_104 (by decide) (fun c => ?_) (fun c => ?_)
      · have v := vt (c); clear vt vf
        refine a_iconst d_M_callAll_114 ⟨by decide, by decide⟩ ?_
        refine a_istore (L' := [some (vr 100), some (vi x1), some (vi x2), some (vi x3), some (vi x4), some (vi (1 : Int)), some (vi x6), some (vi y0)]) d_M_callAll_115 (Nat.le_of_ble_eq_true rfl) rfl rfl ?_
        refine a_iinc (L' := [some (vr 100), some (vi x1), some (vi x2), some (vi x3), some (vi x4), some (vi (1 : Int)), some (vi (wr (x6 + (1 : Int)))), some (vi y0)]) d_M_callAll_117 rfl (Nat.le_of_ble_eq_true rfl) rfl rfl ?_
        refine a_goto (tgt := 14) d_M_callAll_120 (by decide) ?_
        exact Ev.weak v ⟨rfl, rfl, rfl, rfl, rfl, rfl, rfl, trivial⟩
      · have v := vf (Classical.not_not.mp c); clear vt vf
        refine a_aload_n d_M_callAll_107 rfl ?_
        refine a_iload_n d_M_callAll_108 rfl ?_
        refine a_iload d_M_callAll_109 rfl ?_
        refine b_callV (as := [vi x1, vi y0]) (b := 100) (st := []) (kd := 12) (kc1 := 0) (ks1 := 0) (kc2 := kc) (ks2 := ks) (d' := d) ml_M_198 rfl d_M_callAll_111 rfl rfl (Nat.le_of_ble_eq_true rfl) (by decide) rfl (Nat.le_refl _) (by omega) (by omega) (KNM_100 hM) ?_
        refine Ev.mono v ?_
        intro u h2 v
        obtain ⟨rfl, v⟩ := kv_el v
        obtain ⟨hm2, v⟩ := v
        change Ev l D Y_M_callAll _ _ _ 114 [some (vr 100), some (vi x1), some (vi x2), some (vi x3), some (vi x4), some (vi x5), some (vi x6), some (vi y0)] [] _ _
        refine a_iconst d_M_callAll_114 ⟨by decide, by decide⟩ ?_
        refine a_istore (L' := [some (vr 100), some (vi x1), some (vi x2), some (vi x3), some (vi x4), some (vi (1 : Int)), some (vi x6), some (vi y0)]) d_M_callAll_115 (Nat.le_of_ble_eq_true rfl) rfl rfl ?_
        refine a_iinc (L' := [some (vr 100), some (vi x1), some (vi x2), some (vi x3), some (vi x4), some (vi (1 : Int)), some (vi (wr (x6 + (1 : Int)))), some (vi y0)]) d_M_callAll_117 rfl (Nat.le_of_ble_eq_true rfl) rfl rfl ?_
        refine a_goto (tgt := 14) d_M_callAll_120 (by decide) ?_
        exact Ev.weak v ⟨rfl, rfl, rfl, rfl, rfl, rfl, rfl, trivial⟩
  · have v := vf (Int.not_lt.mp c); clear vt vf
    refine a_aload_n d_M_callAll_85 rfl ?_
    refine a_iload_n d_M_callAll_86 rfl ?_
    refine a_iload d_M_callAll_87 rfl ?_
    refine b_callV (as := [vi x1, vi y0]) (b := 100) (st := []) (kd := 12) (kc1 := 0) (ks1 := 0) (kc2 := kc) (ks2 := ks) (d' := d) ml_M_195 rfl d_M_callAll_89 rfl rfl (Nat.le_of_ble_eq_true rfl) (by decide) rfl (Nat.le_refl _) (by omega) (by omega) (KNM_100 hM) ?_
    refine Ev.mono v ?_
    intro u h3 v
    obtain ⟨rfl, v⟩ := kv_el v
    obtain ⟨hm3, v⟩ := v
    change Ev l D Y_M_callAll _ _ _ 92 [some (vr 100), some (vi x1), some (vi x2), some (vi x3), some (vi x4), some (vi x5), some (vi x6), some (vi y0)] [] _ _
    refine a_goto (tgt := 114) d_M_callAll_92 (by decide) ?_
    refine a_iconst d_M_callAll_114 ⟨by decide, by decide⟩ ?_
    refine a_istore (L' := [some (vr 100), some (vi x1), some (vi x2), some (vi x3), some (vi x4), some (vi (1 : Int)), some (vi x6), some (vi y0)]) d_M_callAll_115 (Nat.le_of_ble_eq_true rfl) rfl rfl ?_
    refine a_iinc (L' := [some (vr 100), some (vi x1), some (vi x2), some (vi x3), some (vi x4), some (vi (1 : Int)), some (vi (wr (x6 + (1 : Int)))), some (vi y0)]) d_M_callAll_117 rfl (Nat.le_of_ble_eq_true rfl) rfl rfl ?_
    refine a_goto (tgt := 14) d_M_callAll_120 (by decide) ?_
    exact Ev.weak v ⟨rfl, rfl, rfl, rfl, rfl, rfl, rfl, trivial⟩
theorem d_M_follow_0 : decode Y_M_follow.2.1 0 = .ok (.aload_n 0, 1) := by decide +kernel
theorem d_M_follow_1 : decode Y_M_follow.2.1 1 = .ok (.getfield 44, 3) := by decide +kernel
theorem d_M_follow_4 : decode Y_M_follow.2.1 4 = .ok (.iload_n 1, 1) := by decide +kernel
theorem d_M_follow_5 : decode Y_M_follow.2.1 5 = .ok (.iaload, 1) := by decide +kernel
theorem d_M_follow_6 : decode Y_M_follow.2.1 6 = .ok (.istore_n 2, 1) := by decide +kernel
theorem d_M_follow_7 : decode Y_M_follow.2.1 7 = .ok (.aload_n 0, 1) := by decide +kernel
theorem d_M_follow_8 : decode Y_M_follow.2.1 8 = .ok (.getfield 47, 3) := by decide +kernel
theorem d_M_follow_11 : decode Y_M_follow.2.1 11 = .ok (.iload_n 1, 1) := by decide +kernel
theorem d_M_follow_12 : decode Y_M_follow.2.1 12 = .ok (.iaload, 1) := by decide +kernel
theorem d_M_follow_13 : decode Y_M_follow.2.1 13 = .ok (.istore_n 3, 1) := by decide +kernel
theorem d_M_follow_14 : decode Y_M_follow.2.1 14 = .ok (.iconst 0, 1) := by decide +kernel
theorem d_M_follow_15 : decode Y_M_follow.2.1 15 = .ok (.istore 4, 2) := by decide +kernel
theorem d_M_follow_17 : decode Y_M_follow.2.1 17 = .ok (.iload 4, 2) := by decide +kernel
theorem d_M_follow_19 : decode Y_M_follow.2.1 19 = .ok (.iconst 4, 1) := by decide +kernel
theorem d_M_follow_20 : decode Y_M_follow.2.1 20 = .ok (.if_icmp .ge 21, 3) := by decide +kernel
theorem d_M_follow_23 : decode Y_M_follow.2.1 23 = .ok (.aload_n 0, 1) := by decide +kernel
theorem d_M_follow_24 : decode Y_M_follow.2.1 24 = .ok (.getfield 65, 3) := by decide +kernel
theorem d_M_follow_27 : decode Y_M_follow.2.1 27 = .ok (.iconst 4, 1) := by decide +kernel
theorem d_M_follow_28 : decode Y_M_follow.2.1 28 = .ok (.iload_n 1, 1) := by decide +kernel
theorem d_M_follow_29 : decode Y_M_follow.2.1 29 = .ok (.imul, 1) := by decide +kernel
theorem d_M_follow_30 : decode Y_M_follow.2.1 30 = .ok (.iload 4, 2) := by decide +kernel
theorem d_M_follow_32 : decode Y_M_follow.2.1 32 = .ok (.iadd, 1) := by decide +kernel
theorem d_M_follow_33 : decode Y_M_follow.2.1 33 = .ok (.iconst 0, 1) := by decide +kernel
theorem d_M_follow_34 : decode Y_M_follow.2.1 34 = .ok (.iastore, 1) := by decide +kernel
theorem d_M_follow_35 : decode Y_M_follow.2.1 35 = .ok (.iinc 4 1, 3) := by decide +kernel
theorem d_M_follow_38 : decode Y_M_follow.2.1 38 = .ok (.goto (-21), 3) := by decide +kernel
theorem d_M_follow_41 : decode Y_M_follow.2.1 41 = .ok (.aload_n 0, 1) := by decide +kernel
theorem d_M_follow_42 : decode Y_M_follow.2.1 42 = .ok (.getfield 41, 3) := by decide +kernel
theorem d_M_follow_45 : decode Y_M_follow.2.1 45 = .ok (.iload_n 1, 1) := by decide +kernel
theorem d_M_follow_46 : decode Y_M_follow.2.1 46 = .ok (.iaload, 1) := by decide +kernel
theorem d_M_follow_47 : decode Y_M_follow.2.1 47 = .ok (.tableswitch 292 0 6 #[41, 82, 92, 126, 194, 204, 249], 41) := by decide +kernel
theorem d_M_follow_88 : decode Y_M_follow.2.1 88 = .ok (.aload_n 0, 1) := by decide +kernel
theorem d_M_follow_89 : decode Y_M_follow.2.1 89 = .ok (.aload_n 0, 1) := by decide +kernel
theorem d_M_follow_90 : decode Y_M_follow.2.1 90 = .ok (.getfield 186, 3) := by decide +kernel
theorem d_M_follow_93 : decode Y_M_follow.2.1 93 = .ok (.ifCond .ne 12, 3) := by decide +kernel
theorem d_M_follow_96 : decode Y_M_follow.2.1 96 = .ok (.aload_n 0, 1) := by decide +kernel
theorem d_M_follow_97 : decode Y_M_follow.2.1 97 = .ok (.getfield 53, 3) := by decide +kernel
theorem d_M_follow_100 : decode Y_M_follow.2.1 100 = .ok (.iload_n 2, 1) := by decide +kernel
theorem d_M_follow_101 : decode Y_M_follow.2.1 101 = .ok (.baload, 1) := by decide +kernel
theorem d_M_follow_102 : decode Y_M_follow.2.1 102 = .ok (.ifCond .ne 7, 3) := by decide +kernel
theorem d_M_follow_105 : decode Y_M_follow.2.1 105 = .ok (.iconst 1, 1) := by decide +kernel
theorem d_M_follow_106 : decode Y_M_follow.2.1 106 = .ok (.goto 4, 3) := by decide +kernel
theorem d_M_follow_109 : decode Y_M_follow.2.1 109 = .ok (.iconst 0, 1) := by decide +kernel
theorem d_M_follow_110 : decode Y_M_follow.2.1 110 = .ok (.putfield 186, 3) := by decide +kernel
theorem d_M_follow_113 : decode Y_M_follow.2.1 113 = .ok (.aload_n 0, 1) := by decide +kernel
theorem d_M_follow_114 : decode Y_M_follow.2.1 114 = .ok (.getfield 53, 3) := by decide +kernel
theorem d_M_follow_117 : decode Y_M_follow.2.1 117 = .ok (.iload_n 2, 1) := by decide +kernel
theorem d_M_follow_118 : decode Y_M_follow.2.1 118 = .ok (.iconst 1, 1) := by decide +kernel
theorem d_M_follow_119 : decode Y_M_follow.2.1 119 = .ok (.bastore, 1) := by decide +kernel
theorem d_M_follow_120 : decode Y_M_follow.2.1 120 = .ok (.aload_n 0, 1) := by decide +kernel
theorem d_M_follow_121 : decode Y_M_follow.2.1 121 = .ok (.iload_n 1, 1) := by decide +kernel
theorem d_M_follow_122 : decode Y_M_follow.2.1 122 = .ok (.iload_n 2, 1) := by decide +kernel
theorem d_M_follow_123 : decode Y_M_follow.2.1 123 = .ok (.invokevirtual 201, 3) := by decide +kernel
theorem d_M_follow_126 : decode Y_M_follow.2.1 126 = .ok (.goto 262, 3) := by decide +kernel
theorem d_M_follow_129 : decode Y_M_follow.2.1 129 = .ok (.aload_n 0, 1) := by decide +kernel
theorem d_M_follow_130 : decode Y_M_follow.2.1 130 = .ok (.iload_n 1, 1) := by decide +kernel
theorem d_M_follow_131 : decode Y_M_follow.2.1 131 = .ok (.iload_n 2, 1) := by decide +kernel
theorem d_M_follow_132 : decode Y_M_follow.2.1 132 = .ok (.iload_n 3, 1) := by decide +kernel
theorem d_M_follow_133 : decode Y_M_follow.2.1 133 = .ok (.invokevirtual 204, 3) := by decide +kernel
theorem d_M_follow_136 : decode Y_M_follow.2.1 136 = .ok (.goto 252, 3) := by decide +kernel
theorem d_M_follow_139 : decode Y_M_follow.2.1 139 = .ok (.aload_n 0, 1) := by decide +kernel
theorem d_M_follow_140 : decode Y_M_follow.2.1 140 = .ok (.iload_n 2, 1) := by decide +kernel
theorem d_M_follow_141 : decode Y_M_follow.2.1 141 = .ok (.iload_n 2, 1) := by decide +kernel
theorem d_M_follow_142 : decode Y_M_follow.2.1 142 = .ok (.iload_n 3, 1) := by decide +kernel
theorem d_M_follow_143 : decode Y_M_follow.2.1 143 = .ok (.invokevirtual 179, 3) := by decide +kernel
theorem d_M_follow_146 : decode Y_M_follow.2.1 146 = .ok (.istore 4, 2) := by decide +kernel
theorem d_M_follow_148 : decode Y_M_follow.2.1 148 = .ok (.iload 4, 2) := by decide +kernel
theorem d_M_follow_150 : decode Y_M_follow.2.1 150 = .ok (.ifCond .lt 13, 3) := by decide +kernel
theorem d_M_follow_153 : decode Y_M_follow.2.1 153 = .ok (.aload_n 0, 1) := by decide +kernel
theorem d_M_follow_154 : decode Y_M_follow.2.1 154 = .ok (.iload_n 1, 1) := by decide +kernel
theorem d_M_follow_155 : decode Y_M_follow.2.1 155 = .ok (.iload 4, 2) := by decide +kernel
theorem d_M_follow_157 : decode Y_M_follow.2.1 157 = .ok (.invokevirtual 195, 3) := by decide +kernel
theorem d_M_follow_160 : decode Y_M_follow.2.1 160 = .ok (.goto 228, 3) := by decide +kernel
theorem d_M_follow_163 : decode Y_M_follow.2.1 163 = .ok (.aload_n 0, 1) := by decide +kernel
theorem d_M_follow_164 : decode Y_M_follow.2.1 164 = .ok (.iload_n 1, 1) := by decide +kernel
theorem d_M_follow_165 : decode Y_M_follow.2.1 165 = .ok (.iload 4, 2) := by decide +kernel
theorem d_M_follow_167 : decode Y_M_follow.2.1 167 = .ok (.invokevirtual 198, 3) := by decide +kernel
theorem d_M_follow_170 : decode Y_M_follow.2.1 170 = .ok (.goto 218, 3) := by decide +kernel
theorem d_M_follow_173 : decode Y_M_follow.2.1 173 = .ok (.aload_n 0, 1) := by decide +kernel
theorem d_M_follow_174 : decode Y_M_follow.2.1 174 = .ok (.iload_n 2, 1) := by decide +kernel
theorem d_M_follow_175 : decode Y_M_follow.2.1 175 = .ok (.iload_n 3, 1) := by decide +kernel
theorem d_M_follow_176 : decode Y_M_follow.2.1 176 = .ok (.invokevirtual 173, 3) := by decide +kernel
theorem d_M_follow_179 : decode Y_M_follow.2.1 179 = .ok (.istore 5, 2) := by decide +kernel
theorem d_M_follow_181 : decode Y_M_follow.2.1 181 = .ok (.iload 5, 2) := by decide +kernel
theorem d_M_follow_183 : decode Y_M_follow.2.1 183 = .ok (.iconst (-1), 1) := by decide +kernel
theorem d_M_follow_184 : decode Y_M_follow.2.1 184 = .ok (.if_icmp .eq 36, 3) := by decide +kernel
theorem d_M_follow_187 : decode Y_M_follow.2.1 187 = .ok (.aload_n 0, 1) := by decide +kernel
theorem d_M_follow_188 : decode Y_M_follow.2.1 188 = .ok (.getfield 28, 3) := by decide +kernel
theorem d_M_follow_191 : decode Y_M_follow.2.1 191 = .ok (.iload 5, 2) := by decide +kernel
theorem d_M_follow_193 : decode Y_M_follow.2.1 193 = .ok (.iaload, 1) := by decide +kernel
theorem d_M_follow_194 : decode Y_M_follow.2.1 194 = .ok (.iconst 2, 1) := by decide +kernel
theorem d_M_follow_195 : decode Y_M_follow.2.1 195 = .ok (.if_icmp .ne 25, 3) := by decide +kernel
theorem d_M_follow_198 : decode Y_M_follow.2.1 198 = .ok (.aload_n 0, 1) := by decide +kernel
theorem d_M_follow_199 : decode Y_M_follow.2.1 199 = .ok (.iload_n 1, 1) := by decide +kernel
theorem d_M_follow_200 : decode Y_M_follow.2.1 200 = .ok (.iload 5, 2) := by decide +kernel
theorem d_M_follow_202 : decode Y_M_follow.2.1 202 = .ok (.invokevirtual 195, 3) := by decide +kernel
theorem d_M_follow_205 : decode Y_M_follow.2.1 205 = .ok (.aload_n 0, 1) := by decide +kernel
theorem d_M_follow_206 : decode Y_M_follow.2.1 206 = .ok (.iload_n 1, 1) := by decide +kernel
theorem d_M_follow_207 : decode Y_M_follow.2.1 207 = .ok (.aload_n 0, 1) := by decide +kernel
theorem d_M_follow_208 : decode Y_M_follow.2.1 208 = .ok (.getfield 22, 3) := by decide +kernel
theorem d_M_follow_211 : decode Y_M_follow.2.1 211 = .ok (.iload 5, 2) := by decide +kernel
theorem d_M_follow_213 : decode Y_M_follow.2.1 213 = .ok (.iaload, 1) := by decide +kernel
theorem d_M_follow_214 : decode Y_M_follow.2.1 214 = .ok (.invokevirtual 201, 3) := by decide +kernel
theorem d_M_follow_217 : decode Y_M_follow.2.1 217 = .ok (.goto 171, 3) := by decide +kernel
theorem d_M_follow_220 : decode Y_M_follow.2.1 220 = .ok (.aload_n 0, 1) := by decide +kernel
theorem d_M_follow_221 : decode Y_M_follow.2.1 221 = .ok (.iload_n 1, 1) := by decide +kernel
theorem d_M_follow_222 : decode Y_M_follow.2.1 222 = .ok (.iload 5, 2) := by decide +kernel
theorem d_M_follow_224 : decode Y_M_follow.2.1 224 = .ok (.iconst (-1), 1) := by decide +kernel
theorem d_M_follow_225 : decode Y_M_follow.2.1 225 = .ok (.if_icmp .ne 8, 3) := by decide +kernel
theorem d_M_follow_228 : decode Y_M_follow.2.1 228 = .ok (.bipush (-2), 2) := by decide +kernel
theorem d_M_follow_230 : decode Y_M_follow.2.1 230 = .ok (.goto 5, 3) := by decide +kernel
theorem d_M_follow_233 : decode Y_M_follow.2.1 233 = .ok (.bipush (-3), 2) := by decide +kernel
theorem d_M_follow_235 : decode Y_M_follow.2.1 235 = .ok (.invokevirtual 198, 3) := by decide +kernel
theorem d_M_follow_238 : decode Y_M_follow.2.1 238 = .ok (.goto 150, 3) := by decide +kernel
theorem d_M_follow_241 : decode Y_M_follow.2.1 241 = .ok (.aload_n 0, 1) := by decide +kernel
theorem d_M_follow_242 : decode Y_M_follow.2.1 242 = .ok (.iload_n 1, 1) := by decide +kernel
theorem d_M_follow_243 : decode Y_M_follow.2.1 243 = .ok (.iload_n 2, 1) := by decide +kernel
theorem d_M_follow_244 : decode Y_M_follow.2.1 244 = .ok (.iload_n 3, 1) := by decide +kernel
theorem d_M_follow_245 : decode Y_M_follow.2.1 245 = .ok (.invokevirtual 204, 3) := by decide +kernel
theorem d_M_follow_248 : decode Y_M_follow.2.1 248 = .ok (.goto 140, 3) := by decide +kernel
theorem d_M_follow_251 : decode Y_M_follow.2.1 251 = .ok (.aload_n 0, 1) := by decide +kernel
theorem d_M_follow_252 : decode Y_M_follow.2.1 252 = .ok (.aload_n 0, 1) := by decide +kernel
theorem d_M_follow_253 : decode Y_M_follow.2.1 253 = .ok (.getfield 186, 3) := by decide +kernel
theorem d_M_follow_256 : decode Y_M_follow.2.1 256 = .ok (.ifCond .ne 17, 3) := by decide +kernel
theorem d_M_follow_259 : decode Y_M_follow.2.1 259 = .ok (.aload_n 0, 1) := by decide +kernel
theorem d_M_follow_260 : decode Y_M_follow.2.1 260 = .ok (.getfield 59, 3) := by decide +kernel
theorem d_M_follow_263 : decode Y_M_follow.2.1 263 = .ok (.bipush 48, 2) := by decide +kernel
theorem d_M_follow_265 : decode Y_M_follow.2.1 265 = .ok (.iload_n 2, 1) := by decide +kernel
theorem d_M_follow_266 : decode Y_M_follow.2.1 266 = .ok (.imul, 1) := by decide +kernel
theorem d_M_follow_267 : decode Y_M_follow.2.1 267 = .ok (.iload_n 3, 1) := by decide +kernel
theorem d_M_follow_268 : decode Y_M_follow.2.1 268 = .ok (.iadd, 1) := by decide +kernel
theorem d_M_follow_269 : decode Y_M_follow.2.1 269 = .ok (.baload, 1) := by decide +kernel
theorem d_M_follow_270 : decode Y_M_follow.2.1 270 = .ok (.ifCond .ne 7, 3) := by decide +kernel
theorem d_M_follow_273 : decode Y_M_follow.2.1 273 = .ok (.iconst 1, 1) := by decide +kernel
theorem d_M_follow_274 : decode Y_M_follow.2.1 274 = .ok (.goto 4, 3) := by decide +kernel
theorem d_M_follow_277 : decode Y_M_follow.2.1 277 = .ok (.iconst 0, 1) := by decide +kernel
theorem d_M_follow_278 : decode Y_M_follow.2.1 278 = .ok (.putfield 186, 3) := by decide +kernel
theorem d_M_follow_281 : decode Y_M_follow.2.1 281 = .ok (.aload_n 0, 1) := by decide +kernel
theorem d_M_follow_282 : decode Y_M_follow.2.1 282 = .ok (.getfield 59, 3) := by decide +kernel
theorem d_M_follow_285 : decode Y_M_follow.2.1 285 = .ok (.bipush 48, 2) := by decide +kernel
theorem d_M_follow_287 : decode Y_M_follow.2.1 287 = .ok (.iload_n 2, 1) := by decide +kernel
theorem d_M_follow_288 : decode Y_M_follow.2.1 288 = .ok (.imul, 1) := by decide +kernel
theorem d_M_follow_289 : decode Y_M_follow.2.1 289 = .ok (.iload_n 3, 1) := by decide +kernel
theorem d_M_follow_290 : decode Y_M_follow.2.1 290 = .ok (.iadd, 1) := by decide +kernel
theorem d_M_follow_291 : decode Y_M_follow.2.1 291 = .ok (.iconst 1, 1) := by decide +kernel
theorem d_M_follow_292 : decode Y_M_follow.2.1 292 = .ok (.bastore, 1) := by decide +kernel
theorem d_M_follow_293 : decode Y_M_follow.2.1 293 = .ok (.goto 95, 3) := by decide +kernel
theorem d_M_follow_296 : decode Y_M_follow.2.1 296 = .ok (.iconst 0, 1) := by decide +kernel
theorem d_M_follow_297 : decode Y_M_follow.2.1 297 = .ok (.istore 6, 2) := by decide +kernel
theorem d_M_follow_299 : decode Y_M_follow.2.1 299 = .ok (.iload 6, 2) := by decide +kernel
theorem d_M_follow_301 : decode Y_M_follow.2.1 301 = .ok (.aload_n 0, 1) := by decide +kernel
theorem d_M_follow_302 : decode Y_M_follow.2.1 302 = .ok (.getfield 131, 3) := by decide +kernel
theorem d_M_follow_305 : decode Y_M_follow.2.1 305 = .ok (.if_icmp .ge 31, 3) := by decide +kernel
theorem d_M_follow_308 : decode Y_M_follow.2.1 308 = .ok (.aload_n 0, 1) := by decide +kernel
theorem d_M_follow_309 : decode Y_M_follow.2.1 309 = .ok (.getfield 59, 3) := by decide +kernel
theorem d_M_follow_312 : decode Y_M_follow.2.1 312 = .ok (.bipush 48, 2) := by decide +kernel
theorem d_M_follow_314 : decode Y_M_follow.2.1 314 = .ok (.iload_n 2, 1) := by decide +kernel
theorem d_M_follow_315 : decode Y_M_follow.2.1 315 = .ok (.imul, 1) := by decide +kernel
theorem d_M_follow_316 : decode Y_M_follow.2.1 316 = .ok (.iload 6, 2) := by decide +kernel
theorem d_M_follow_318 : decode Y_M_follow.2.1 318 = .ok (.iadd, 1) := by decide +kernel
theorem d_M_follow_319 : decode Y_M_follow.2.1 319 = .ok (.baload, 1) := by decide +kernel
theorem d_M_follow_320 : decode Y_M_follow.2.1 320 = .ok (.ifCond .eq 10, 3) := by decide +kernel
theorem d_M_follow_323 : decode Y_M_follow.2.1 323 = .ok (.aload_n 0, 1) := by decide +kernel
theorem d_M_follow_324 : decode Y_M_follow.2.1 324 = .ok (.iload_n 1, 1) := by decide +kernel
theorem d_M_follow_325 : decode Y_M_follow.2.1 325 = .ok (.iload 6, 2) := by decide +kernel
theorem d_M_follow_327 : decode Y_M_follow.2.1 327 = .ok (.invokevirtual 195, 3) := by decide +kernel
theorem d_M_follow_330 : decode Y_M_follow.2.1 330 = .ok (.iinc 6 1, 3) := by decide +kernel
theorem d_M_follow_333 : decode Y_M_follow.2.1 333 = .ok (.goto (-34), 3) := by decide +kernel
theorem d_M_follow_336 : decode Y_M_follow.2.1 336 = .ok (.goto 52, 3) := by decide +kernel
theorem d_M_follow_339 : decode Y_M_follow.2.1 339 = .ok (.iconst 0, 1) := by decide +kernel
theorem d_M_follow_340 : decode Y_M_follow.2.1 340 = .ok (.istore 6, 2) := by decide +kernel
theorem d_M_follow_342 : decode Y_M_follow.2.1 342 = .ok (.iload 6, 2) := by decide +kernel
theorem d_M_follow_344 : decode Y_M_follow.2.1 344 = .ok (.aload_n 0, 1) := by decide +kernel
theorem d_M_follow_345 : decode Y_M_follow.2.1 345 = .ok (.getfield 131, 3) := by decide +kernel
theorem d_M_follow_348 : decode Y_M_follow.2.1 348 = .ok (.if_icmp .ge 40, 3) := by decide +kernel
theorem d_M_follow_351 : decode Y_M_follow.2.1 351 = .ok (.aload_n 0, 1) := by decide +kernel
theorem d_M_follow_352 : decode Y_M_follow.2.1 352 = .ok (.getfield 25, 3) := by decide +kernel
theorem d_M_follow_355 : decode Y_M_follow.2.1 355 = .ok (.iload 6, 2) := by decide +kernel
theorem d_M_follow_357 : decode Y_M_follow.2.1 357 = .ok (.iaload, 1) := by decide +kernel
theorem d_M_follow_358 : decode Y_M_follow.2.1 358 = .ok (.iload_n 3, 1) := by decide +kernel
theorem d_M_follow_359 : decode Y_M_follow.2.1 359 = .ok (.if_icmp .ne 23, 3) := by decide +kernel
theorem d_M_follow_362 : decode Y_M_follow.2.1 362 = .ok (.aload_n 0, 1) := by decide +kernel
theorem d_M_follow_363 : decode Y_M_follow.2.1 363 = .ok (.getfield 28, 3) := by decide +kernel
theorem d_M_follow_366 : decode Y_M_follow.2.1 366 = .ok (.iload 6, 2) := by decide +kernel
theorem d_M_follow_368 : decode Y_M_follow.2.1 368 = .ok (.iaload, 1) := by decide +kernel
theorem d_M_follow_369 : decode Y_M_follow.2.1 369 = .ok (.invokestatic 153, 3) := by decide +kernel
theorem d_M_follow_372 : decode Y_M_follow.2.1 372 = .ok (.ifCond .eq 10, 3) := by decide +kernel
theorem d_M_follow_375 : decode Y_M_follow.2.1 375 = .ok (.aload_n 0, 1) := by decide +kernel
theorem d_M_follow_376 : decode Y_M_follow.2.1 376 = .ok (.iload_n 1, 1) := by decide +kernel
theorem d_M_follow_377 : decode Y_M_follow.2.1 377 = .ok (.iload 6, 2) := by decide +kernel
theorem d_M_follow_379 : decode Y_M_follow.2.1 379 = .ok (.invokevirtual 195, 3) := by decide +kernel
theorem d_M_follow_382 : decode Y_M_follow.2.1 382 = .ok (.iinc 6 1, 3) := by decide +kernel
theorem d_M_follow_385 : decode Y_M_follow.2.1 385 = .ok (.goto (-43), 3) := by decide +kernel
theorem d_M_follow_388 : decode Y_M_follow.2.1 388 = .ok (.return_, 1) := by decide +kernel
theorem m_M_follow_0 {l : Launch} {D : DD} {d kc ks : Nat} {h : Hp} {Φ : Option AV → Hp → Prop} {x1 : Int} (hM : MS h) (v : 0 ≤ x1 ∧ x1 < 160 ∧ (0 ≤ x1 ∧ x1 < 160 ∧ (Ev l D Y_M_follow (d + 1) kc ks 17 [some (vr 100), some (vi x1), some (vi (xI h 115 (x1).toNat)), some (vi (xI h 116 (x1).toNat)), some (vi (0 : Int)), none, none] [] h Φ))) : Ev l D Y_M_follow (d + 1) kc ks 0 [some (vr 100), some (vi x1), none, none, none, none, none] [] h Φ := by
  refine a_aload_n d_M_follow_0 rfl ?_
  refine a_getAe fl_M_44 d_M_follow_1 (beq_iff_eq.mpr (KNM_100 hM)) (KRM_100_14 hM) ?_
  refine a_iload_n d_M_follow_4 rfl ?_
  obtain ⟨c2, c3, v⟩ := v
  refine a_iald d_M_follow_5 (Or.inl (KNM_115 hM)) c2 (lt_len (NNM_115 hM) c3) ?_
  refine a_istore_n (L' := [some (vr 100), some (vi x1), some (vi (xI h 115 (x1).toNat)), none, none, none, none]) d_M_follow_6 (Nat.le_of_ble_eq_true rfl) rfl rfl ?_
  refine a_aload_n d_M_follow_7 rfl ?_
  refine a_getAe fl_M_47 d_M_follow_8 (beq_iff_eq.mpr (KNM_100 hM)) (KRM_100_15 hM) ?_
  refine a_iload_n d_M_follow_11 rfl ?_
  obtain ⟨c5, c6, v⟩ := v
  refine a_iald d_M_follow_12 (Or.inl (KNM_116 hM)) c5 (lt_len (NNM_116 hM) c6) ?_
  refine a_istore_n (L' := [some (vr 100), some (vi x1), some (vi (xI h 115 (x1).toNat)), some (vi (xI h 116 (x1).toNat)), none, none, none]) d_M_follow_13 (Nat.le_of_ble_eq_true rfl) rfl rfl ?_
  refine a_iconst d_M_follow_14 ⟨by decide, by decide⟩ ?_
  refine a_istore (L' := [some (vr 100), some (vi x1), some (vi (xI h 115 (x1).toNat)), some (vi (xI h 116 (x1).toNat)), some (vi (0 : Int)), none, none]) d_M_follow_15 (Nat.le_of_ble_eq_true rfl) rfl rfl ?_
  exact v
theorem m_M_follow_17 {l : Launch} {D : DD} {d kc ks : Nat} {h : Hp} {Φ : Option AV → Hp → Prop} {x1 : Int} {x2 : Int} {x3 : Int} {x4 : Int} (hM : MS h) (v : (x4 ≥ (4 : Int) → (0 ≤ x1 ∧ x1 < 160 ∧ ((xI h 114 (x1).toNat = (0 : Int) → ((¬ xI h 100 17 = 0 → (Ev l D Y_M_follow (d + 1) kc ks 110 [some (vr 100), some (vi x1), some (vi x2), some (vi x3), some (vi x4), none, none] [vi (1 : Int), vr 100] h Φ)) ∧ (xI h 100 17 = 0 → (0 ≤ x2 ∧ x2 < 16 ∧ ((¬ xI h 120 (x2).toNat = 0 → (Ev l D Y_M_follow (d + 1) kc ks 110 [some (vr 100), some (vi x1), some (vi x2), some (vi x3), some (vi x4), none, none] [vi (0 : Int), vr 100] h Φ)) ∧ (xI h 120 (x2).toNat = 0 → (Ev l D Y_M_follow (d + 1) kc ks 110 [some (vr 100), some (vi x1), some (vi x2), some (vi x3), some (vi x4), none, none] [vi (1 : Int), vr 100] h Φ))))))) ∧ (xI h 114 (x1).toNat = (1 : Int) → (Ev l D Y_M_callAll d 0 0 0 [some (vr 100), some (vi x1), some (vi x2), some (vi x3), none, none, none, none] [] h (kv (fun h1 => MS h1 ∧ (Φ none h1))))) ∧ (xI h 114 (x1).toNat = (2 : Int) → (Ev l D Y_M_chosenOf d 0 0 0 [some (vr 100), some (vi x2), some (vi x2), some (vi x3), none] [] h (ki (fun r1 h2 => MS h2 ∧ ((r1 < 0 → (Ev l D Y_M_fault d 0 0 0 [some (vr 100), some (vi x1), some (vi r1)] [] h2 (kv (fun h3 => MS h3 ∧ (Φ none h3))))) ∧ (r1 ≥ 0 → (Ev l D Y_M_call d 0 0 0 [some (vr 100), some (vi x1), some (vi r1)] [] h2 (kv (fun h4 => MS h4 ∧ (Φ none h4)))))))))) ∧ (xI h 114 (x1).toNat = (3 : Int) → (Ev l D Y_M_find d 0 0 0 [some (vr 100), some (vi x2), some (vi x3), none, none, none, none, none] [] h (ki (fun r2 h5 => MS h5 ∧ ((r2 = (-1 : Int) → ((¬ r2 = (-1 : Int) → (Ev l D Y_M_fault d 0 0 0 [some (vr 100), some (vi x1), some (vi (-3 : Int))] [] h5 (kv (fun h6 => MS h6 ∧ (Φ none h6))))) ∧ (r2 = (-1 : Int) → (Ev l D Y_M_fault d 0 0 0 [some (vr 100), some (vi x1), some (vi (-2 : Int))] [] h5 (kv (fun h7 => MS h7 ∧ (Φ none h7))))))) ∧ (¬ r2 = (-1 : Int) → (0 ≤ r2 ∧ r2 < 48 ∧ ((¬ xI h5 109 (r2).toNat = (2 : Int) → ((¬ r2 = (-1 : Int) → (Ev l D Y_M_fault d 0 0 0 [some (vr 100), some (vi x1), some (vi (-3 : Int))] [] h5 (kv (fun h8 => MS h8 ∧ (Φ none h8))))) ∧ (r2 = (-1 : Int) → (Ev l D Y_M_fault d 0 0 0 [some (vr 100), some (vi x1), some (vi (-2 : Int))] [] h5 (kv (fun h9 => MS h9 ∧ (Φ none h9))))))) ∧ (xI h5 109 (r2).toNat = (2 : Int) → (Ev l D Y_M_call d 0 0 0 [some (vr 100), some (vi x1), some (vi r2)] [] h5 (kv (fun h10 => MS h10 ∧ (0 ≤ r2 ∧ r2 < 48 ∧ (Ev l D Y_M_beginBy d 0 0 0 [some (vr 100), some (vi x1), some (vi (xI h10 107 (r2).toNat)), none, none] [] h10 (kv (fun h11 => MS h11 ∧ (Φ none h11))))))))))))))))) ∧ (xI h 114 (x1).toNat = (4 : Int) → (Ev l D Y_M_callAll d 0 0 0 [some (vr 100), some (vi x1), some (vi x2), some (vi x3), none, none, none, none] [] h (kv (fun h12 => MS h12 ∧ (Φ none h12))))) ∧ (xI h 114 (x1).toNat = (5 : Int) → ((¬ xI h 100 17 = 0 → (Ev l D Y_M_follow (d + 1) kc ks 278 [some (vr 100), some (vi x1), some (vi x2), some (vi x3), some (vi x4), none, none] [vi (1 : Int), vr 100] h Φ)) ∧ (xI h 100 17 = 0 → (0 ≤ wr ((wr ((48 : Int) * x2)) + x3) ∧ wr ((wr ((48 : Int) * x2)) + x3) < 192 ∧ ((¬ xI h 122 (wr ((wr ((48 : Int) * x2)) + x3)).toNat = 0 → (Ev l D Y_M_follow (d + 1) kc ks 278 [some (vr 100), some (vi x1), some (vi x2), some (vi x3), some (vi x4), none, none] [vi (0 : Int), vr 100] h Φ)) ∧ (xI h 122 (wr ((wr ((48 : Int) * x2)) + x3)).toNat = 0 → (Ev l D Y_M_follow (d + 1) kc ks 278 [some (vr 100), some (vi x1), some (vi x2), some (vi x3), some (vi x4), none, none] [vi (1 : Int), vr 100] h Φ))))))) ∧ (xI h 114 (x1).toNat = (6 : Int) → (Ev l D Y_M_follow (d + 1) kc ks 299 [some (vr 100), some (vi x1), some (vi x2), some (vi x3), some (vi x4), none, some (vi (0 : Int))] [] h Φ)) ∧ (xI h 114 (x1).toNat < (0 : Int) ∨ (6 : Int) < xI h 114 (x1).toNat → (Ev l D Y_M_follow (d + 1) kc ks 342 [some (vr 100), some (vi x1), some (vi x2), some (vi x3), some (vi x4), none, some (vi (0 : Int))] [] h Φ))))) ∧ (x4 < (4 : Int) → (0 ≤ wr ((wr ((4 : Int) * x1)) + x4) ∧ wr ((wr ((4 : Int) * x1)) + x4) < 640 ∧ (∀ h13 : Hp, h13 = sI h 124 (wr ((wr ((4 : Int) * x1)) + x4)).toNat (0 : Int) → (Ev l D Y_M_follow (d + 1) kc ks 17 [some (vr 100), some (vi x1), some (vi x2), some (vi x3), some (vi (wr (x4 + (1 : Int)))), none, none] [] h13 Φ))))) : Ev l D Y_M_follow (d + 1) kc ks 17 [some (vr 100), some (vi x1), some (vi x2), some (vi x3), some (vi x4), none, none] [] h Φ := by
  refine a_iload d_M_follow_17 rfl ?_
  refine a_iconst d_M_follow_19 ⟨by decide, by decide⟩ ?_
  obtain ⟨vt, vf⟩ := v
  refine a_icmp_ge (tgt := 41) d_M_follow_20 (by decide) (fun c => ?_) (fun c => ?_)
  · have v := vt (c); clear vt vf
    refine a_aload_n d_M_follow_41 rfl ?_
    refine a_getAe fl_M_41 d_M_follow_42 (beq_iff_eq.mpr (KNM_100 hM)) (KRM_100_13 hM) ?_
    refine a_iload_n d_M_follow_45 rfl ?_
    obtain ⟨c2, c3, v⟩ := v
    refine a_iald d_M_follow_46 (Or.inl (KNM_114 hM)) c2 (lt_len (NNM_114 hM) c3) ?_
    obtain ⟨v0, v1, v2, v3, v4, v5, v6, vd⟩ := v
    refine a_tab (tgt := 339) [88, 129, 139, 173, 241, 251, 296] d_M_follow_47 (by decide) (by decide) (by decide) (fun c => ?_) (fun i t hi c => ?_)
    · have v := vd c; clear vd v0 v1 v2 v3 v4 v5 v6
      refine a_iconst d_M_follow_339 ⟨by decide, by decide⟩ ?_
      refine a_istore (L' := [some (vr 100), some (vi x1), some (vi x2), some (vi x3), some (vi x4), none, some (vi (0 : Int))]) d_M_follow_340 (Nat.le_of_ble_eq_true rfl) rfl rfl ?_
      exact v
    · match i, hi, c with
      | 0, hi, c =>
        obtain rfl : 88 = t := Option.some.inj hi
        have v := v0 (by omega); clear vd v0 v1 v2 v3 v4 v5 v6
        refine a_aload_n d_M_follow_88 rfl ?_
        refine a_aload_n d_M_follow_89 rfl ?_
        refine a_getZ fl_M_186 d_M_follow_90 (beq_iff_eq.mpr (KNM_100 hM)) ?_
        obtain ⟨vt, vf⟩ := v
        refine a_if_ne (tgt := 105) d_M_follow_93 (by decide) (fun c => ?_) (fun c => ?_)
        · have v := vt (c); clear vt vf
          refine a_iconst d_M_follow_105 ⟨by decide, by decide⟩ ?_
          refine a_goto (tgt := 110) d_M_follow_106 (by decide) ?_
          exact v
        · have v := vf (Classical.not_not.mp c); clear vt vf
          refine a_aload_n d_M_follow_96 rfl ?_
          refine a_getAe fl_M_53 d_M_follow_97 (beq_iff_eq.mpr (KNM_100 hM)) (KRM_100_19 hM) ?_
          refine a_iload_n d_M_follow_100 rfl ?_
          obtain ⟨c5, c6, v⟩ := v
          refine a_zald d_M_follow_101 (KNM_120 hM) c5 (lt_len (NNM_120 hM) c6) ?_
          obtain ⟨vt, vf⟩ := v
          refine a_if_ne (tgt := 109) d_M_follow_102 (by decide) (fun c => ?_) (fun c => ?_)
          · have v := vt (c); clear vt vf
            refine a_iconst d_M_follow_109 ⟨by decide, by decide⟩ ?_
            exact v
          · have v := vf (Classical.not_not.mp c); clear vt vf
            refine a_iconst d_M_follow_105 ⟨by decide, by decide⟩ ?_
            refine a_goto (tgt := 110) d_M_follow_106 (by decide) ?_
            exact v
      | 1, hi, c =>
        obtain rfl : 129 = t := Option.some.inj hi
        have v := v1 (by omega); clear vd v0 v1 v2 v3 v4 v5 v6
        refine a_aload_n d_M_follow_129 rfl ?_
        refine a_iload_n d_M_follow_130 rfl ?_
        refine a_iload_n d_M_follow_131 rfl ?_
        refine a_iload_n d_M_follow_132 rfl ?_
        refine b_callV (as := [vi x1, vi x2, vi x3]) (b := 100) (st := []) (kd := 12) (kc1 := 0) (ks1 := 0) (kc2 := kc) (ks2 := ks) (d' := d) ml_M_204 rfl d_M_follow_133 rfl rfl (Nat.le_of_ble_eq_true rfl) (by decide) rfl (Nat.le_refl _) (by omega) (by omega) (KNM_100 hM) ?_
        refine Ev.mono v ?_
        intro u h1 v
        obtain ⟨rfl, v⟩ := kv_el v
        obtain ⟨hm1, v⟩ := v
        change Ev l D Y_M_follow _ _ _ 136 [some (vr 100), some (vi x1), some (vi x2), some (vi x3), some (vi x4), none, none] [] _ _
        refine a_goto (tgt := 388) d_M_follow_136 (by decide) ?_
        exact a_vret d_M_follow_388 rfl v
      | 2, hi, c =>
        obtain rfl : 139 = t := Option.some.inj hi
        have v := v2 (by omega); clear vd v0 v1 v2 v3 v4 v5 v6
        refine a_aload_n d_M_follow_139 rfl ?_
        refine a_iload_n d_M_follow_140 rfl ?_
        refine a_iload_n d_M_follow_141 rfl ?_
        refine a_iload_n d_M_follow_142 rfl ?_
        refine b_callV (as := [vi x2, vi x2, vi x3]) (b := 100) (st := []) (kd := 12) (kc1 := 0) (ks1 := 0) (kc2 := kc) (ks2 := ks) (d' := d) ml_M_179 rfl d_M_follow_143 rfl rfl (Nat.le_of_ble_eq_true rfl) (by decide) rfl (Nat.le_refl _) (by omega) (by omega) (KNM_100 hM) ?_
        refine Ev.mono v ?_
        intro u h2 v
        obtain ⟨r1, rfl, v⟩ := ki_el v
        obtain ⟨hm2, v⟩ := v
        change Ev l D Y_M_follow _ _ _ 146 [some (vr 100), some (vi x1), some (vi x2), some (vi x3), some (vi x4), none, none] [vi r1] _ _
        refine a_istore (L' := [some (vr 100), some (vi x1), some (vi x2), some (vi x3), some (vi r1), none, none]) d_M_follow_146 (Nat.le_of_ble_eq_true rfl) rfl rfl ?_
        refine a_iload d_M_follow_148 rfl ?_
        obtain ⟨vt, vf⟩ := v
        refine a_if_lt (tgt := 163) d_M_follow_150 (by decide) (fun c => ?_) (fun c => ?_)
        · have v := vt (c); clear vt vf
          refine a_aload_n d_M_follow_163 rfl ?_
          refine a_iload_n d_M_follow_164 rfl ?_
          refine a_iload d_M_follow_165 rfl ?_
          refine b_callV (as := [vi x1, vi r1]) (b := 100) (st := []) (kd := 12) (kc1 := 0) (ks1 := 0) (kc2 := kc) (ks2 := ks) (d' := d) ml_M_198 rfl d_M_follow_167 rfl rfl (Nat.le_of_ble_eq_true rfl) (by decide) rfl (Nat.le_refl _) (by omega) (by omega) (KNM_100 hm2) ?_
          refine Ev.mono v ?_
          intro u h3 v
          obtain ⟨rfl, v⟩ := kv_el v
          obtain ⟨hm3, v⟩ := v
          change Ev l D Y_M_follow _ _ _ 170 [some (vr 100), some (vi x1), some (vi x2), some (vi x3), some (vi r1), none, none] [] _ _
          refine a_goto (tgt := 388) d_M_follow_170 (by decide) ?_
          exact a_vret d_M_follow_388 rfl v
        · have v := vf (Int.not_lt.mp c); clear vt vf
          refine a_aload_n d_M_follow_153 rfl ?_
          refine a_iload_n d_M_follow_154 rfl ?_
          refine a_iload d_M_follow_155 rfl ?_
          refine b_callV (as := [vi x1, vi r1]) (b := 100) (st := []) (kd := 12) (kc1 := 0) (ks1 := 0) (kc2 := kc) (ks2 := ks) (d' := d) ml_M_195 rfl d_M_follow_157 rfl rfl (Nat.le_of_ble_eq_true rfl) (by decide) rfl (Nat.le_refl _) (by omega) (by omega) (KNM_100 hm2) ?_
          refine Ev.mono v ?_
          intro u h4 v
          obtain ⟨rfl, v⟩ := kv_el v
          obtain ⟨hm4, v⟩ := v
          change Ev l D Y_M_follow _ _ _ 160 [some (vr 100), some (vi x1), some (vi x2), some (vi x3), some (vi r1), none, none] [] _ _
          refine a_goto (tgt := 388) d_M_follow_160 (by decide) ?_
          exact a_vret d_M_follow_388 rfl v
      | 3, hi, c =>
        obtain rfl : 173 = t := Option.some.inj hi
        have v := v3 (by omega); clear vd v0 v1 v2 v3 v4 v5 v6
        refine a_aload_n d_M_follow_173 rfl ?_
        refine a_iload_n d_M_follow_174 rfl ?_
        refine a_iload_n d_M_follow_175 rfl ?_
        refine b_callV (as := [vi x2, vi x3]) (b := 100) (st := []) (kd := 12) (kc1 := 0) (ks1 := 0) (kc2 := kc) (ks2 := ks) (d' := d) ml_M_173 rfl d_M_follow_176 rfl rfl (Nat.le_of_ble_eq_true rfl) (by decide) rfl (Nat.le_refl _) (by omega) (by omega) (KNM_100 hM) ?_
        refine Ev.mono v ?_
        intro u h5 v
        obtain ⟨r2, rfl, v⟩ := ki_el v
        obtain ⟨hm5, v⟩ := v
        change Ev l D Y_M_follow _ _ _ 179 [some (vr 100), some (vi x1), some (vi x2), some (vi x3), some (vi x4), none, none] [vi r2] _ _
        refine a_istore (L' := [some (vr 100), some (vi x1), some (vi x2), some (vi x3), some (vi x4), some (vi r2), none]) d_M_follow_179 (Nat.le_of_ble_eq_true rfl) rfl rfl ?_
        refine a_iload d_M_follow_181 rfl ?_
        refine a_iconst d_M_follow_183 ⟨by decide, by decide⟩ ?_
        obtain ⟨vt, vf⟩ := v
        refine a_icmp_eq (tgt := 220) d_M_follow_184 (by decide) (fun c => ?_) (fun c => ?_)
        · have v := vt (c); clear vt vf
          refine a_aload_n d_M_follow_220 rfl ?_
          refine a_iload_n d_M_follow_221 rfl ?_
          refine a_iload d_M_follow_222 rfl ?_
          refine a_iconst d_M_follow_224 ⟨by decide, by decide⟩ ?_
          obtain ⟨vt, vf⟩ := v
          refine a_icmp_ne (tgt := 233) d_M_follow_225 (by decide) (fun c => ?_) (fun c => ?_)
          · have v := vt (c); clear vt vf
            refine a_bipush d_M_follow_233 ⟨by decide, by decide⟩ (by decide) ?_
            refine b_callV (as := [vi x1, vi (-3 : Int)]) (b := 100) (st := []) (kd := 12) (kc1 := 0) (ks1 := 0) (kc2 := kc) (ks2 := ks) (d' := d) ml_M_198 rfl d_M_follow_235 rfl rfl (Nat.le_of_ble_eq_true rfl) (by decide) rfl (Nat.le_refl _) (by omega) (by omega) (KNM_100 hm5) ?_
            refine Ev.mono v ?_
            intro u h6 v
            obtain ⟨rfl, v⟩ := kv_el v
            obtain ⟨hm6, v⟩ := v
            change Ev l D Y_M_follow _ _ _ 238 [some (vr 100), some (vi x1), some (vi x2), some (vi x3), some (vi x4), some (vi r2), none] [] _ _
            refine a_goto (tgt := 388) d_M_follow_238 (by decide) ?_
            exact a_vret d_M_follow_388 rfl v
          · have v := vf (Classical.not_not.mp c); clear vt vf
            refine a_bipush d_M_follow_228 ⟨by decide, by decide⟩ (by decide) ?_
            refine a_goto (tgt := 235) d_M_follow_230 (by decide) ?_
            refine b_callV (as := [vi x1, vi (-2 : Int)]) (b := 100) (st := []) (kd := 12) (kc1 := 0) (ks1 := 0) (kc2 := kc) (ks2 := ks) (d' := d) ml_M_198 rfl d_M_follow_235 rfl rfl (Nat.le_of_ble_eq_true rfl) (by decide) rfl (Nat.le_refl _) (by omega) (by omega) (KNM_100 hm5) ?_
            refine Ev.mono v ?_
            intro u h7 v
            obtain ⟨rfl, v⟩ := kv_el v
            obtain ⟨hm7, v⟩ := v
            change Ev l D Y_M_follow _ _ _ 238 [some (vr 100), some (vi x1), some (vi x2), some (vi x3), some (vi x4), some (vi r2), none] [] _ _
            refine a_goto (tgt := 388) d_M_follow_238 (by decide) ?_
            exact a_vret d_M_follow_388 rfl v
        · have v := vf (c); clear vt vf
          refine a_aload_n d_M_follow_187 rfl ?_
          refine a_getAe fl_M_28 d_M_follow_188 (beq_iff_eq.mpr (KNM_100 hm5)) (KRM_100_8 hm5) ?_
          refine a_iload d_M_follow_191 rfl ?_
          obtain ⟨c14, c15, v⟩ := v
          refine a_iald d_M_follow_193 (Or.inl (KNM_109 hm5)) c14 (lt_len (NNM_109 hm5) c15) ?_
          refine a_iconst d_M_follow_194 ⟨by decide, by decide⟩ ?_
          obtain ⟨vt, vf⟩ := v
          refine a_icmp_ne (tgt := 220) d_M_follow_195 (by decide) (fun c => ?_) (fun c => ?_)
          · have v := vt (c); clear vt vf
            refine a_aload_n d_M_follow_220 rfl ?_
            refine a_iload_n d_M_follow_221 rfl ?_
            refine a_iload d_M_follow_222 rfl ?_
            refine a_iconst d_M_follow_224 ⟨by decide, by decide⟩ ?_
            obtain ⟨vt, vf⟩ := v
            refine a_icmp_ne (tgt := 233) d_M_follow_225 (by decide) (fun c => ?_) (fun c => ?_)
            · have v := vt (c); clear vt vf
              refine a_bipush d_M_follow_233 ⟨by decide, by decide⟩ (by decide) ?_
              refine b_callV (as := [vi x1, vi (-3 : Int)]) (b := 100) (st := []) (kd := 12) (kc1 := 0) (ks1 := 0) (kc2 := kc) (ks2 := ks) (d' := d) ml_M_198 rfl d_M_follow_235 rfl rfl (Nat.le_of_ble_eq_true rfl) (by decide) rfl (Nat.le_refl _) (by omega) (by omega) (KNM_100 hm5) ?_
              refine Ev.mono v ?_
              intro u h8 v
              obtain ⟨rfl, v⟩ := kv_el v
              obtain ⟨hm8, v⟩ := v
              change Ev l D Y_M_follow _ _ _ 238 [some (vr 100), some (vi x1), some (vi x2), some (vi x3), some (vi x4), some (vi r2), none] [] _ _
              refine a_goto (tgt := 388) d_M_follow_238 (by decide) ?_
              exact a_vret d_M_follow_388 rfl v
            · have v := vf (Classical.not_not.mp c); clear vt vf
              refine a_bipush d_M_follow_228 ⟨by decide, by decide⟩ (by decide) ?_
              refine a_goto (tgt := 235) d_M_follow_230 (by decide) ?_
              refine b_callV (as := [vi x1, vi (-2 : Int)]) (b := 100) (st := []) (kd := 12) (kc1 := 0) (ks1 := 0) (kc2 := kc) (ks2 := ks) (d' := d) ml_M_198 rfl d_M_follow_235 rfl rfl (Nat.le_of_ble_eq_true rfl) (by decide) rfl (Nat.le_refl _) (by omega) (by omega) (KNM_100 hm5) ?_
              refine Ev.mono v ?_
              intro u h9 v
              obtain ⟨rfl, v⟩ := kv_el v
              obtain ⟨hm9, v⟩ := v
              change Ev l D Y_M_follow _ _ _ 238 [some (vr 100), some (vi x1), some (vi x2), some (vi x3), some (vi x4), some (vi r2), none] [] _ _
              refine a_goto (tgt := 388) d_M_follow_238 (by decide) ?_
              exact a_vret d_M_follow_388 rfl v
          · have v := vf (Classical.not_not.mp c); clear vt vf
            refine a_aload_n d_M_follow_198 rfl ?_
            refine a_iload_n d_M_follow_199 rfl ?_
            refine a_iload d_M_follow_200 rfl ?_
            refine b_callV (as := [vi x1, vi r2]) (b := 100) (st := []) (kd := 12) (kc1 := 0) (ks1 := 0) (kc2 := kc) (ks2 := ks) (d' := d) ml_M_195 rfl d_M_follow_202 rfl rfl (Nat.le_of_ble_eq_true rfl) (by decide) rfl (Nat.le_refl _) (by omega) (by omega) (KNM_100 hm5) ?_
            refine Ev.mono v ?_
            intro u h10 v
            obtain ⟨rfl, v⟩ := kv_el v
            obtain ⟨hm10, v⟩ := v
            change Ev l D Y_M_follow _ _ _ 205 [some (vr 100), some (vi x1), some (vi x2), some (vi x3), some (vi x4), some (vi r2), none] [] _ _
            refine a_aload_n d_M_follow_205 rfl ?_
            refine a_iload_n d_M_follow_206 rfl ?_
            refine a_aload_n d_M_follow_207 rfl ?_
            refine a_getAe fl_M_22 d_M_follow_208 (beq_iff_eq.mpr (KNM_100 hm10)) (KRM_100_6 hm10) ?_
            refine a_iload d_M_follow_211 rfl ?_
            obtain ⟨c19, c20, v⟩ := v
            refine a_iald d_M_follow_213 (Or.inl (KNM_107 hm10)) c19 (lt_len (NNM_107 hm10) c20) ?_
            refine b_callV (as := [vi x1, vi (xI h10 107 (r2).toNat)]) (b := 100) (st := []) (kd := 12) (kc1 := 0) (ks1 := 0) (kc2 := kc) (ks2 := ks) (d' := d) ml_M_201 rfl d_M_follow_214 rfl rfl (Nat.le_of_ble_eq_true rfl) (by decide) rfl (Nat.le_refl _) (by omega) (by omega) (KNM_100 hm10) ?_
            refine Ev.mono v ?_
            intro u h11 v
            obtain ⟨rfl, v⟩ := kv_el v
            obtain ⟨hm11, v⟩ := v
            change Ev l D Y_M_follow _ _ _ 217 [some (vr 100), some (vi x1), some (vi x2), some (vi x3), some (vi x4), some (vi r2), none] [] _ _
            refine a_goto (tgt := 388) d_M_follow_217 (by decide) ?_
            exact a_vret d_M_follow_388 rfl v
      | 4, hi, c =>
        obtain rfl : 241 = t := Option.some.inj hi
        have v := v4 (by omega); clear vd v0 v1 v2 v3 v4 v5 v6
        refine a_aload_n d_M_follow_241 rfl ?_
        refine a_iload_n d_M_follow_242 rfl ?_
        refine a_iload_n d_M_follow_243 rfl ?_
        refine a_iload_n d_M_follow_244 rfl ?_
        refine b_callV (as := [vi x1, vi x2, vi x3]) (b := 100) (st := []) (kd := 12) (kc1 := 0) (ks1 := 0) (kc2 := kc) (ks2 := ks) (d' := d) ml_M_204 rfl d_M_follow_245 rfl rfl (Nat.le_of_ble_eq_true rfl) (by decide) rfl (Nat.le_refl _) (by omega) (by omega) (KNM_100 hM) ?_
        refine Ev.mono v ?_
        intro u h12 v
        obtain ⟨rfl, v⟩ := kv_el v
        obtain ⟨hm12, v⟩ := v
        change Ev l D Y_M_follow _ _ _ 248 [some (vr 100), some (vi x1), some (vi x2), some (vi x3), some (vi x4), none, none] [] _ _
        refine a_goto (tgt := 388) d_M_follow_248 (by decide) ?_
        exact a_vret d_M_follow_388 rfl v
      | 5, hi, c =>
        obtain rfl : 251 = t := Option.some.inj hi
        have v := v5 (by omega); clear vd v0 v1 v2 v3 v4 v5 v6
        refine a_aload_n d_M_follow_251 rfl ?_
        refine a_aload_n d_M_follow_252 rfl ?_
        refine a_getZ fl_M_186 d_M_follow_253 (beq_iff_eq.mpr (KNM_100 hM)) ?_
        obtain ⟨vt, vf⟩ := v
        refine a_if_ne (tgt := 273) d_M_follow_256 (by decide) (fun c => ?_) (fun c => ?_)
        · have v := vt (c); clear vt vf
          refine a_iconst d_M_follow_273 ⟨by decide, by decide⟩ ?_
          refine a_goto (tgt := 278) d_M_follow_274 (by decide) ?_
          exact v
        · have v := vf (Classical.not_not.mp c); clear vt vf
          refine a_aload_n d_M_follow_259 rfl ?_
          refine a_getAe fl_M_59 d_M_follow_260 (beq_iff_eq.mpr (KNM_100 hM)) (KRM_100_21 hM) ?_
          refine a_bipush d_M_follow_263 ⟨by decide, by decide⟩ (by decide) ?_
          refine a_iload_n d_M_follow_265 rfl ?_
          refine a_imul d_M_follow_266 ?_
          refine a_iload_n d_M_follow_267 rfl ?_
          refine a_iadd d_M_follow_268 ?_
          obtain ⟨c26, c27, v⟩ := v
          refine a_zald d_M_follow_269 (KNM_122 hM) c26 (lt_len (NNM_122 hM) c27) ?_
          obtain ⟨vt, vf⟩ := v
          refine a_if_ne (tgt := 277) d_M_follow_270 (by decide) (fun c => ?_) (fun c => ?_)
          · have v := vt (c); clear vt vf
            refine a_iconst d_M_follow_277 ⟨by decide, by decide⟩ ?_
            exact v
          · have v := vf (Classical.not_not.mp c); clear vt vf
            refine a_iconst d_M_follow_273 ⟨by decide, by decide⟩ ?_
            refine a_goto (tgt := 278) d_M_follow_274 (by decide) ?_
            exact v
      | 6, hi, c =>
        obtain rfl : 296 = t := Option.some.inj hi
        have v := v6 (by omega); clear vd v0 v1 v2 v3 v4 v5 v6
        refine a_iconst d_M_follow_296 ⟨by decide, by decide⟩ ?_
        refine a_istore (L' := [some (vr 100), some (vi x1), some (vi x2), some (vi x3), some (vi x4), none, some (vi (0 : Int))]) d_M_follow_297 (Nat.le_of_ble_eq_true rfl) rfl rfl ?_
        exact v
      | i + 7, hi, c => exact absurd hi (by simp)
  · have v := vf (Int.not_le.mp c); clear vt vf
    refine a_aload_n d_M_follow_23 rfl ?_
    refine a_getAe fl_M_65 d_M_follow_24 (beq_iff_eq.mpr (KNM_100 hM)) (KRM_100_23 hM) ?_
    refine a_iconst d_M_follow_27 ⟨by decide, by decide⟩ ?_
    refine a_iload_n d_M_follow_28 rfl ?_
    refine a_imul d_M_follow_29 ?_
    refine a_iload d_M_follow_30 rfl ?_
    refine a_iadd d_M_follow_32 ?_
    refine a_iconst d_M_follow_33 ⟨by decide, by decide⟩ ?_
    obtain ⟨c30, c31, v⟩ := v
    have v := v _ rfl
    refine a_iast d_M_follow_34 (KNM_124 hM) (by decide) c30 (lt_len (NNM_124 hM) c31) ?_
    refine a_iinc (L' := [some (vr 100), some (vi x1), some (vi x2), some (vi x3), some (vi (wr (x4 + (1 : Int)))), none, none]) d_M_follow_35 rfl (Nat.le_of_ble_eq_true rfl) rfl rfl ?_
    refine a_goto (tgt := 17) d_M_follow_38 (by decide) ?_
    exact v
theorem m_M_follow_110 {l : Launch} {D : DD} {d kc ks : Nat} {h : Hp} {Φ : Option AV → Hp → Prop} {x1 : Int} {x2 : Int} {x3 : Int} {x4 : Int} {y0 : Int} (hM : MS h) (v : (y0 = 0 ∨ y0 = 1) ∧ (∀ h1 : Hp, h1 = sI h 100 17 y0 → (0 ≤ x2 ∧ x2 < 16 ∧ (∀ h2 : Hp, h2 = sI h1 120 (x2).toNat (1 : Int) → (Ev l D Y_M_beginBy d 0 0 0 [some (vr 100), some (vi x1), some (vi x2), none, none] [] h2 (kv (fun h3 => MS h3 ∧ (Φ none h3)))))))) : Ev l D Y_M_follow (d + 1) kc ks 110 [some (vr 100), some (vi x1), some (vi x2), some (vi x3), some (vi x4), none, none] [vi y0, vr 100] h Φ := by
  obtain ⟨c3, v⟩ := v
  have v := v _ rfl
  refine a_putZ fl_M_186 d_M_follow_110 (beq_iff_eq.mpr (KNM_100 hM)) (by decide) c3 ?_
  refine a_aload_n d_M_follow_113 rfl ?_
  refine a_getAe fl_M_53 d_M_follow_114 (beq_iff_eq.mpr (KNM_100 hM)) (KRM_100_19 hM) ?_
  refine a_iload_n d_M_follow_117 rfl ?_
  refine a_iconst d_M_follow_118 ⟨by decide, by decide⟩ ?_
  obtain ⟨c6, c7, v⟩ := v
  have v := v _ rfl
  refine a_zast d_M_follow_119 (KNM_120 hM) (by decide) c6 (lt_len (NNM_120 hM) c7) (Or.inr rfl) ?_
  refine a_aload_n d_M_follow_120 rfl ?_
  refine a_iload_n d_M_follow_121 rfl ?_
  refine a_iload_n d_M_follow_122 rfl ?_
  refine b_callV (as := [vi x1, vi x2]) (b := 100) (st := []) (kd := 12) (kc1 := 0) (ks1 := 0) (kc2 := kc) (ks2 := ks) (d' := d) ml_M_201 rfl d_M_follow_123 rfl rfl (Nat.le_of_ble_eq_true rfl) (by decide) rfl (Nat.le_refl _) (by omega) (by omega) (KNM_100 hM) ?_
  refine Ev.mono v ?_
  intro u h3 v
  obtain ⟨rfl, v⟩ := kv_el v
  obtain ⟨hm1, v⟩ := v
  change Ev l D Y_M_follow _ _ _ 126 [some (vr 100), some (vi x1), some (vi x2), some (vi x3), some (vi x4), none, none] [] _ _
  refine a_goto (tgt := 388) d_M_follow_126 (by decide) ?_
  exact a_vret d_M_follow_388 rfl v
theorem m_M_follow_278 {l : Launch} {D : DD} {d kc ks : Nat} {h : Hp} {Φ : Option AV → Hp → Prop} {x1 : Int} {x2 : Int} {x3 : Int} {x4 : Int} {y0 : Int} (hM : MS h) (v : (y0 = 0 ∨ y0 = 1) ∧ (∀ h1 : Hp, h1 = sI h 100 17 y0 → (0 ≤ wr ((wr ((48 : Int) * x2)) + x3) ∧ wr ((wr ((48 : Int) * x2)) + x3) < 192 ∧ (∀ h2 : Hp, h2 = sI h1 122 (wr ((wr ((48 : Int) * x2)) + x3)).toNat (1 : Int) → (Φ none h2))))) : Ev l D Y_M_follow (d + 1) kc ks 278 [some (vr 100), some (vi x1), some (vi x2), some (vi x3), some (vi x4), none, none] [vi y0, vr 100] h Φ := by
  obtain ⟨c3, v⟩ := v
  have v := v _ rfl
  refine a_putZ fl_M_186 d_M_follow_278 (beq_iff_eq.mpr (KNM_100 hM)) (by decide) c3 ?_
  refine a_aload_n d_M_follow_281 rfl ?_
  refine a_getAe fl_M_59 d_M_follow_282 (beq_iff_eq.mpr (KNM_100 hM)) (KRM_100_21 hM) ?_
  refine a_bipush d_M_follow_285 ⟨by decide, by decide⟩ (by decide) ?_
  refine a_iload_n d_M_follow_287 rfl ?_
  refine a_imul d_M_follow_288 ?_
  refine a_iload_n d_M_follow_289 rfl ?_
  refine a_iadd d_M_follow_290 ?_
  refine a_iconst d_M_follow_291 ⟨by decide, by decide⟩ ?_
  obtain ⟨c6, c7, v⟩ := v
  have v := v _ rfl
  refine a_zast d_M_follow_292 (KNM_122 hM) (by decide) c6 (lt_len (NNM_122 hM) c7) (Or.inr rfl) ?_
  refine a_goto (tgt := 388) d_M_follow_293 (by decide) ?_
  exact a_vret d_M_follow_388 rfl v
theorem m_M_follow_299 {l : Launch} {D : DD} {d kc ks : Nat} {h : Hp} {Φ : Option AV → Hp → Prop} {x1 : Int} {x2 : Int} {x3 : Int} {x4 : Int} {x6 : Int} (hM : MS h) (v : (x6 ≥ xI h 100 5 → (Φ none h)) ∧ (x6 < xI h 100 5 → (0 ≤ wr ((wr ((48 : Int) * x2)) + x6) ∧ wr ((wr ((48 : Int) * x2)) + x6) < 192 ∧ ((xI h 122 (wr ((wr ((48 : Int) * x2)) + x6)).toNat = 0 → (Ev l D Y_M_follow (d + 1) kc ks 299 [some (vr 100), some (vi x1), some (vi x2), some (vi x3), some (vi x4), none, some (vi (wr (x6 + (1 : Int))))] [] h Φ)) ∧ (¬ xI h 122 (wr ((wr ((48 : Int) * x2)) + x6)).toNat = 0 → (Ev l D Y_M_call d 0 0 0 [some (vr 100), some (vi x1), some (vi x6)] [] h (kv (fun h1 => MS h1 ∧ (Ev l D Y_M_follow (d + 1) kc ks 299 [some (vr 100), some (vi x1), some (vi x2), some (vi x3), some (vi x4), none, some (vi (wr (x6 + (1 : Int))))] [] h1 Φ))))))))) : Ev l D Y_M_follow (d + 1) kc ks 299 [some (vr 100), some (vi x1), some (vi x2), some (vi x3), some (vi x4), none, some (vi x6)] [] h Φ := by
  refine a_iload d_M_follow_299 rfl ?_
  refine a_aload_n d_M_follow_301 rfl ?_
  refine a_getI fl_M_131 d_M_follow_302 (beq_iff_eq.mpr (KNM_100 hM)) ?_
  obtain ⟨vt, vf⟩ := v
  refine a_icmp_ge (tgt := 336) d_M_follow_305 (by decide) (fun c => ?_) (fun c => ?_)
  · have v := vt (c); clear vt vf
    refine a_goto (tgt := 388) d_M_follow_336 (by decide) ?_
    exact a_vret d_M_follow_388 rfl v
  · have v := vf (Int.not_le.mp c); clear vt vf
    refine a_aload_n d_M_follow_308 rfl ?_
    refine a_getAe fl_M_59 d_M_follow_309 (beq_iff_eq.mpr (KNM_100 hM)) (KRM_100_21 hM) ?_
    refine a_bipush d_M_follow_312 ⟨by decide, by decide⟩ (by decide) ?_
    refine a_iload_n d_M_follow_314 rfl ?_
    refine a_imul d_M_follow_315 ?_
    refine a_iload d_M_follow_316 rfl ?_
    refine a_iadd d_M_follow_318 ?_
    obtain ⟨c2, c3, v⟩ := v
    refine a_zald d_M_follow_319 (KNM_122 hM) c2 (lt_len (NNM_122 hM) c3) ?_
    obtain ⟨vt, vf⟩ := v
    refine a_if_eq (tgt := 330) d_M_follow_320 (by decide) (fun c => ?_) (fun c => ?_)
    · have v := vt (c); clear vt vf
      refine a_iinc (L' := [some (vr 100), some (vi x1), some (vi x2), some (vi x3), some (vi x4), none, some (vi (wr (x6 + (1 : Int))))]) d_M_follow_330 rfl (Nat.le_of_ble_eq_true rfl) rfl rfl ?_
      refine a_goto (tgt := 299) d_M_follow_333 (by decide) ?_
      exact v
    · have v := vf (c); clear vt vf
      refine a_aload_n d_M_follow_323 rfl ?_
      refine a_iload_n d_M_follow_324 rfl ?_
      refine a_iload d_M_follow_325 rfl ?_
      refine b_callV (as := [vi x1, vi x6]) (b := 100) (st := []) (kd := 12) (kc1 := 0) (ks1 := 0) (kc2 := kc) (ks2 := ks) (d' := d) ml_M_195 rfl d_M_follow_327 rfl rfl (Nat.le_of_ble_eq_true rfl) (by decide) rfl (Nat.le_refl _) (by omega) (by omega) (KNM_100 hM) ?_
      refine Ev.mono v ?_
      intro u h1 v
      obtain ⟨rfl, v⟩ := kv_el v
      obtain ⟨hm1, v⟩ := v
      change Ev l D Y_M_follow _ _ _ 330 [some (vr 100), some (vi x1), some (vi x2), some (vi x3), some (vi x4), none, some (vi x6)] [] _ _
      refine a_iinc (L' := [some (vr 100), some (vi x1), some (vi x2), some (vi x3), some (vi x4), none, some (vi (wr (x6 + (1 : Int))))]) d_M_follow_330 rfl (Nat.le_of_ble_eq_true rfl) rfl rfl ?_
      refine a_goto (tgt := 299) d_M_follow_333 (by decide) ?_
      exact v
theorem m_M_follow_342 {l : Launch} {D : DD} {d kc ks : Nat} {h : Hp} {Φ : Option AV → Hp → Prop} {x1 : Int} {x2 : Int} {x3 : Int} {x4 : Int} {x6 : Int} (hM : MS h) (v : (x6 ≥ xI h 100 5 → (Φ none h)) ∧ (x6 < xI h 100 5 → (0 ≤ x6 ∧ x6 < 48 ∧ ((¬ xI h 108 (x6).toNat = x3 → (Ev l D Y_M_follow (d + 1) kc ks 342 [some (vr 100), some (vi x1), some (vi x2), some (vi x3), some (vi x4), none, some (vi (wr (x6 + (1 : Int))))] [] h Φ)) ∧ (xI h 108 (x6).toNat = x3 → (0 ≤ x6 ∧ x6 < 48 ∧ (Ev l D Y_M_canBeCalled d 0 0 0 [some (vi (xI h 109 (x6).toNat))] [] h (ki (fun r1 h1 => MS h1 ∧ ((r1 = 0 → (Ev l D Y_M_follow (d + 1) kc ks 342 [some (vr 100), some (vi x1), some (vi x2), some (vi x3), some (vi x4), none, some (vi (wr (x6 + (1 : Int))))] [] h1 Φ)) ∧ (¬ r1 = 0 → (Ev l D Y_M_call d 0 0 0 [some (vr 100), some (vi x1), some (vi x6)] [] h1 (kv (fun h2 => MS h2 ∧ (Ev l D Y_M_follow (d + 1) kc ks 342 [some (vr 100), some (vi x1), some (vi x2), some (vi x3), some (vi x4), none, some (vi (wr (x6 + (1 : Int))))] [] h2 Φ))))))))))))))) : Ev l D Y_M_follow (d + 1) kc ks 342 [some (vr 100), some (vi x1), some (vi x2), some (vi x3), some (vi x4), none, some (vi x6)] [] h Φ := by
  refine a_iload d_M_follow_342 rfl ?_
  refine a_aload_n d_M_follow_344 rfl ?_
  refine a_getI fl_M_131 d_M_follow_345 (beq_iff_eq.mpr (KNM_100 hM)) ?_
  obtain ⟨vt, vf⟩ := v
  refine a_icmp_ge (tgt := 388) d_M_follow_348 (by decide) (fun c => ?_) (fun c => ?_)
  · have v := vt (c); clear vt vf
    exact a_vret d_M_follow_388 rfl v
  · have v := vf (Int.not_le.mp c); clear vt vf
    refine a_aload_n d_M_follow_351 rfl ?_
    refine a_getAe fl_M_25 d_M_follow_352 (beq_iff_eq.mpr (KNM_100 hM)) (KRM_100_7 hM) ?_
    refine a_iload d_M_follow_355 rfl ?_
    obtain ⟨c2, c3, v⟩ := v
    refine a_iald d_M_follow_357 (Or.inl (KNM_108 hM)) c2 (lt_len (NNM_108 hM) c3) ?_
    refine a_iload_n d_M_follow_358 rfl ?_
    obtain ⟨vt, vf⟩ := v
    refine a_icmp_ne (tgt := 382) d_M_follow_359 (by decide) (fun c => ?_) (fun c => ?_)
    · have v := vt (c); clear vt vf
      refine a_iinc (L' := [some (vr 100), some (vi x1), some (vi x2), some (vi x3), some (vi x4), none, some (vi (wr (x6 + (1 : Int))))]) d_M_follow_382 rfl (Nat.le_of_ble_eq_true rfl) rfl rfl ?_
      refine a_goto (tgt := 342) d_M_follow_385 (by decide) ?_
      exact v
    · have v := vf (Classical.not_not.mp c); clear vt vf
      refine a_aload_n d_M_follow_362 rfl ?_
      refine a_getAe fl_M_28 d_M_follow_363 (beq_iff_eq.mpr (KNM_100 hM)) (KRM_100_8 hM) ?_
      refine a_iload d_M_follow_366 rfl ?_
      obtain ⟨c5, c6, v⟩ := v
      refine a_iald d_M_follow_368 (Or.inl (KNM_109 hM)) c5 (lt_len (NNM_109 hM) c6) ?_
      refine b_callS (as := [vi (xI h 109 (x6).toNat)]) (st := []) (kc1 := 0) (ks1 := 0) (kc2 := kc) (ks2 := ks) (d' := d) ml_M_153 rfl d_M_follow_369 rfl rfl (Nat.le_of_ble_eq_true rfl) rfl (Nat.le_refl _) (by omega) (by omega) ?_
      refine Ev.mono v ?_
      intro u h1 v
      obtain ⟨r1, rfl, v⟩ := ki_el v
      obtain ⟨hm1, v⟩ := v
      change Ev l D Y_M_follow _ _ _ 372 [some (vr 100), some (vi x1), some (vi x2), some (vi x3), some (vi x4), none, some (vi x6)] [vi r1] _ _
      obtain ⟨vt, vf⟩ := v
      refine a_if_eq (tgt := 382) d_M_follow_372 (by decide) (fun c => ?_) (fun c => ?_)
      · have v := vt (c); clear vt vf
        refine a_iinc (L' := [some (vr 100), some (vi x1), some (vi x2), some (vi x3), some (vi x4), none, some (vi (wr (x6 + (1 : Int))))]) d_M_follow_382 rfl (Nat.le_of_ble_eq_true rfl) rfl rfl ?_
        refine a_goto (tgt := 342) d_M_follow_385 (by decide) ?_
        exact v
      · have v := vf (c); clear vt vf
        refine a_aload_n d_M_follow_375 rfl ?_
        refine a_iload_n d_M_follow_376 rfl ?_
        refine a_iload d_M_follow_377 rfl ?_
        refine b_callV (as := [vi x1, vi x6]) (b := 100) (st := []) (kd := 12) (kc1 := 0) (ks1 := 0) (kc2 := kc) (ks2 := ks) (d' := d) ml_M_195 rfl d_M_follow_379 rfl rfl (Nat.le_of_ble_eq_true rfl) (by decide) rfl (Nat.le_refl _) (by omega) (by omega) (KNM_100 hm1) ?_
        refine Ev.mono v ?_
        intro u h2 v
        obtain ⟨rfl, v⟩ := kv_el v
        obtain ⟨hm2, v⟩ := v
        change Ev l D Y_M_follow _ _ _ 382 [some (vr 100), some (vi x1), some (vi x2), some (vi x3), some (vi x4), none, some (vi x6)] [] _ _
        refine a_iinc (L' := [some (vr 100), some (vi x1), some (vi x2), some (vi x3), some (vi x4), none, some (vi (wr (x6 + (1 : Int))))]) d_M_follow_382 rfl (Nat.le_of_ble_eq_true rfl) rfl rfl ?_
        refine a_goto (tgt := 342) d_M_follow_385 (by decide) ?_
        exact v
theorem d_M_freshen_0 : decode Y_M_freshen.2.1 0 = .ok (.aload_n 0, 1) := by decide +kernel
theorem d_M_freshen_1 : decode Y_M_freshen.2.1 1 = .ok (.getfield 119, 3) := by decide +kernel
theorem d_M_freshen_4 : decode Y_M_freshen.2.1 4 = .ok (.ifCond .eq 4, 3) := by decide +kernel
theorem d_M_freshen_7 : decode Y_M_freshen.2.1 7 = .ok (.return_, 1) := by decide +kernel
theorem d_M_freshen_8 : decode Y_M_freshen.2.1 8 = .ok (.aload_n 0, 1) := by decide +kernel
theorem d_M_freshen_9 : decode Y_M_freshen.2.1 9 = .ok (.iconst 1, 1) := by decide +kernel
theorem d_M_freshen_10 : decode Y_M_freshen.2.1 10 = .ok (.putfield 119, 3) := by decide +kernel
theorem d_M_freshen_13 : decode Y_M_freshen.2.1 13 = .ok (.iconst 0, 1) := by decide +kernel
theorem d_M_freshen_14 : decode Y_M_freshen.2.1 14 = .ok (.istore_n 1, 1) := by decide +kernel
theorem d_M_freshen_15 : decode Y_M_freshen.2.1 15 = .ok (.iload_n 1, 1) := by decide +kernel
theorem d_M_freshen_16 : decode Y_M_freshen.2.1 16 = .ok (.bipush 48, 2) := by decide +kernel
theorem d_M_freshen_18 : decode Y_M_freshen.2.1 18 = .ok (.if_icmp .ge 37, 3) := by decide +kernel
theorem d_M_freshen_21 : decode Y_M_freshen.2.1 21 = .ok (.aload_n 0, 1) := by decide +kernel
theorem d_M_freshen_22 : decode Y_M_freshen.2.1 22 = .ok (.getfield 50, 3) := by decide +kernel
theorem d_M_freshen_25 : decode Y_M_freshen.2.1 25 = .ok (.iload_n 1, 1) := by decide +kernel
theorem d_M_freshen_26 : decode Y_M_freshen.2.1 26 = .ok (.iload_n 1, 1) := by decide +kernel
theorem d_M_freshen_27 : decode Y_M_freshen.2.1 27 = .ok (.aload_n 0, 1) := by decide +kernel
theorem d_M_freshen_28 : decode Y_M_freshen.2.1 28 = .ok (.getfield 131, 3) := by decide +kernel
theorem d_M_freshen_31 : decode Y_M_freshen.2.1 31 = .ok (.if_icmp .ge 16, 3) := by decide +kernel
theorem d_M_freshen_34 : decode Y_M_freshen.2.1 34 = .ok (.aload_n 0, 1) := by decide +kernel
theorem d_M_freshen_35 : decode Y_M_freshen.2.1 35 = .ok (.getfield 31, 3) := by decide +kernel
theorem d_M_freshen_38 : decode Y_M_freshen.2.1 38 = .ok (.iload_n 1, 1) := by decide +kernel
theorem d_M_freshen_39 : decode Y_M_freshen.2.1 39 = .ok (.baload, 1) := by decide +kernel
theorem d_M_freshen_40 : decode Y_M_freshen.2.1 40 = .ok (.ifCond .eq 7, 3) := by decide +kernel
theorem d_M_freshen_43 : decode Y_M_freshen.2.1 43 = .ok (.iconst 1, 1) := by decide +kernel
theorem d_M_freshen_44 : decode Y_M_freshen.2.1 44 = .ok (.goto 4, 3) := by decide +kernel
theorem d_M_freshen_47 : decode Y_M_freshen.2.1 47 = .ok (.iconst 0, 1) := by decide +kernel
theorem d_M_freshen_48 : decode Y_M_freshen.2.1 48 = .ok (.bastore, 1) := by decide +kernel
theorem d_M_freshen_49 : decode Y_M_freshen.2.1 49 = .ok (.iinc 1 1, 3) := by decide +kernel
theorem d_M_freshen_52 : decode Y_M_freshen.2.1 52 = .ok (.goto (-37), 3) := by decide +kernel
theorem d_M_freshen_55 : decode Y_M_freshen.2.1 55 = .ok (.iconst 0, 1) := by decide +kernel
theorem d_M_freshen_56 : decode Y_M_freshen.2.1 56 = .ok (.istore_n 1, 1) := by decide +kernel
theorem d_M_freshen_57 : decode Y_M_freshen.2.1 57 = .ok (.iload_n 1, 1) := by decide +kernel
theorem d_M_freshen_58 : decode Y_M_freshen.2.1 58 = .ok (.bipush 16, 2) := by decide +kernel
theorem d_M_freshen_60 : decode Y_M_freshen.2.1 60 = .ok (.if_icmp .ge 23, 3) := by decide +kernel
theorem d_M_freshen_63 : decode Y_M_freshen.2.1 63 = .ok (.aload_n 0, 1) := by decide +kernel
theorem d_M_freshen_64 : decode Y_M_freshen.2.1 64 = .ok (.getfield 53, 3) := by decide +kernel
theorem d_M_freshen_67 : decode Y_M_freshen.2.1 67 = .ok (.iload_n 1, 1) := by decide +kernel
theorem d_M_freshen_68 : decode Y_M_freshen.2.1 68 = .ok (.iconst 0, 1) := by decide +kernel
theorem d_M_freshen_69 : decode Y_M_freshen.2.1 69 = .ok (.bastore, 1) := by decide +kernel
theorem d_M_freshen_70 : decode Y_M_freshen.2.1 70 = .ok (.aload_n 0, 1) := by decide +kernel
theorem d_M_freshen_71 : decode Y_M_freshen.2.1 71 = .ok (.getfield 56, 3) := by decide +kernel
theorem d_M_freshen_74 : decode Y_M_freshen.2.1 74 = .ok (.iload_n 1, 1) := by decide +kernel
theorem d_M_freshen_75 : decode Y_M_freshen.2.1 75 = .ok (.iconst 0, 1) := by decide +kernel
theorem d_M_freshen_76 : decode Y_M_freshen.2.1 76 = .ok (.bastore, 1) := by decide +kernel
theorem d_M_freshen_77 : decode Y_M_freshen.2.1 77 = .ok (.iinc 1 1, 3) := by decide +kernel
theorem d_M_freshen_80 : decode Y_M_freshen.2.1 80 = .ok (.goto (-23), 3) := by decide +kernel
theorem d_M_freshen_83 : decode Y_M_freshen.2.1 83 = .ok (.iconst 0, 1) := by decide +kernel
theorem d_M_freshen_84 : decode Y_M_freshen.2.1 84 = .ok (.istore_n 1, 1) := by decide +kernel
theorem d_M_freshen_85 : decode Y_M_freshen.2.1 85 = .ok (.iload_n 1, 1) := by decide +kernel
theorem d_M_freshen_86 : decode Y_M_freshen.2.1 86 = .ok (.sipush 192, 3) := by decide +kernel
theorem d_M_freshen_89 : decode Y_M_freshen.2.1 89 = .ok (.if_icmp .ge 16, 3) := by decide +kernel
theorem d_M_freshen_92 : decode Y_M_freshen.2.1 92 = .ok (.aload_n 0, 1) := by decide +kernel
theorem d_M_freshen_93 : decode Y_M_freshen.2.1 93 = .ok (.getfield 59, 3) := by decide +kernel
theorem d_M_freshen_96 : decode Y_M_freshen.2.1 96 = .ok (.iload_n 1, 1) := by decide +kernel
theorem d_M_freshen_97 : decode Y_M_freshen.2.1 97 = .ok (.iconst 0, 1) := by decide +kernel
theorem d_M_freshen_98 : decode Y_M_freshen.2.1 98 = .ok (.bastore, 1) := by decide +kernel
theorem d_M_freshen_99 : decode Y_M_freshen.2.1 99 = .ok (.iinc 1 1, 3) := by decide +kernel
theorem d_M_freshen_102 : decode Y_M_freshen.2.1 102 = .ok (.goto (-17), 3) := by decide +kernel
theorem d_M_freshen_105 : decode Y_M_freshen.2.1 105 = .ok (.iconst 0, 1) := by decide +kernel
theorem d_M_freshen_106 : decode Y_M_freshen.2.1 106 = .ok (.istore_n 1, 1) := by decide +kernel
theorem d_M_freshen_107 : decode Y_M_freshen.2.1 107 = .ok (.iload_n 1, 1) := by decide +kernel
theorem d_M_freshen_108 : decode Y_M_freshen.2.1 108 = .ok (.sipush 7680, 3) := by decide +kernel
theorem d_M_freshen_111 : decode Y_M_freshen.2.1 111 = .ok (.if_icmp .ge 16, 3) := by decide +kernel
theorem d_M_freshen_114 : decode Y_M_freshen.2.1 114 = .ok (.aload_n 0, 1) := by decide +kernel
theorem d_M_freshen_115 : decode Y_M_freshen.2.1 115 = .ok (.getfield 62, 3) := by decide +kernel
theorem d_M_freshen_118 : decode Y_M_freshen.2.1 118 = .ok (.iload_n 1, 1) := by decide +kernel
theorem d_M_freshen_119 : decode Y_M_freshen.2.1 119 = .ok (.iconst 0, 1) := by decide +kernel
theorem d_M_freshen_120 : decode Y_M_freshen.2.1 120 = .ok (.bastore, 1) := by decide +kernel
theorem d_M_freshen_121 : decode Y_M_freshen.2.1 121 = .ok (.iinc 1 1, 3) := by decide +kernel
theorem d_M_freshen_124 : decode Y_M_freshen.2.1 124 = .ok (.goto (-17), 3) := by decide +kernel
theorem d_M_freshen_127 : decode Y_M_freshen.2.1 127 = .ok (.iconst 0, 1) := by decide +kernel
theorem d_M_freshen_128 : decode Y_M_freshen.2.1 128 = .ok (.istore_n 1, 1) := by decide +kernel
theorem d_M_freshen_129 : decode Y_M_freshen.2.1 129 = .ok (.iload_n 1, 1) := by decide +kernel
theorem d_M_freshen_130 : decode Y_M_freshen.2.1 130 = .ok (.sipush 640, 3) := by decide +kernel
theorem d_M_freshen_133 : decode Y_M_freshen.2.1 133 = .ok (.if_icmp .ge 16, 3) := by decide +kernel
theorem d_M_freshen_136 : decode Y_M_freshen.2.1 136 = .ok (.aload_n 0, 1) := by decide +kernel
theorem d_M_freshen_137 : decode Y_M_freshen.2.1 137 = .ok (.getfield 65, 3) := by decide +kernel
theorem d_M_freshen_140 : decode Y_M_freshen.2.1 140 = .ok (.iload_n 1, 1) := by decide +kernel
theorem d_M_freshen_141 : decode Y_M_freshen.2.1 141 = .ok (.iconst 0, 1) := by decide +kernel
theorem d_M_freshen_142 : decode Y_M_freshen.2.1 142 = .ok (.iastore, 1) := by decide +kernel
theorem d_M_freshen_143 : decode Y_M_freshen.2.1 143 = .ok (.iinc 1 1, 3) := by decide +kernel
theorem d_M_freshen_146 : decode Y_M_freshen.2.1 146 = .ok (.goto (-17), 3) := by decide +kernel
theorem d_M_freshen_149 : decode Y_M_freshen.2.1 149 = .ok (.aload_n 0, 1) := by decide +kernel
theorem d_M_freshen_150 : decode Y_M_freshen.2.1 150 = .ok (.iconst 1, 1) := by decide +kernel
theorem d_M_freshen_151 : decode Y_M_freshen.2.1 151 = .ok (.putfield 186, 3) := by decide +kernel
theorem d_M_freshen_154 : decode Y_M_freshen.2.1 154 = .ok (.aload_n 0, 1) := by decide +kernel
theorem d_M_freshen_155 : decode Y_M_freshen.2.1 155 = .ok (.getfield 186, 3) := by decide +kernel
theorem d_M_freshen_158 : decode Y_M_freshen.2.1 158 = .ok (.ifCond .eq 69, 3) := by decide +kernel
theorem d_M_freshen_161 : decode Y_M_freshen.2.1 161 = .ok (.aload_n 0, 1) := by decide +kernel
theorem d_M_freshen_162 : decode Y_M_freshen.2.1 162 = .ok (.iconst 0, 1) := by decide +kernel
theorem d_M_freshen_163 : decode Y_M_freshen.2.1 163 = .ok (.putfield 186, 3) := by decide +kernel
theorem d_M_freshen_166 : decode Y_M_freshen.2.1 166 = .ok (.iconst 0, 1) := by decide +kernel
theorem d_M_freshen_167 : decode Y_M_freshen.2.1 167 = .ok (.istore_n 1, 1) := by decide +kernel
theorem d_M_freshen_168 : decode Y_M_freshen.2.1 168 = .ok (.iload_n 1, 1) := by decide +kernel
theorem d_M_freshen_169 : decode Y_M_freshen.2.1 169 = .ok (.aload_n 0, 1) := by decide +kernel
theorem d_M_freshen_170 : decode Y_M_freshen.2.1 170 = .ok (.getfield 131, 3) := by decide +kernel
theorem d_M_freshen_173 : decode Y_M_freshen.2.1 173 = .ok (.if_icmp .ge 51, 3) := by decide +kernel
theorem d_M_freshen_176 : decode Y_M_freshen.2.1 176 = .ok (.iconst 0, 1) := by decide +kernel
theorem d_M_freshen_177 : decode Y_M_freshen.2.1 177 = .ok (.istore_n 2, 1) := by decide +kernel
theorem d_M_freshen_178 : decode Y_M_freshen.2.1 178 = .ok (.iload_n 2, 1) := by decide +kernel
theorem d_M_freshen_179 : decode Y_M_freshen.2.1 179 = .ok (.aload_n 0, 1) := by decide +kernel
theorem d_M_freshen_180 : decode Y_M_freshen.2.1 180 = .ok (.getfield 35, 3) := by decide +kernel
theorem d_M_freshen_183 : decode Y_M_freshen.2.1 183 = .ok (.iload_n 1, 1) := by decide +kernel
theorem d_M_freshen_184 : decode Y_M_freshen.2.1 184 = .ok (.iaload, 1) := by decide +kernel
theorem d_M_freshen_185 : decode Y_M_freshen.2.1 185 = .ok (.if_icmp .ge 33, 3) := by decide +kernel
theorem d_M_freshen_188 : decode Y_M_freshen.2.1 188 = .ok (.aload_n 0, 1) := by decide +kernel
theorem d_M_freshen_189 : decode Y_M_freshen.2.1 189 = .ok (.getfield 50, 3) := by decide +kernel
theorem d_M_freshen_192 : decode Y_M_freshen.2.1 192 = .ok (.iload_n 1, 1) := by decide +kernel
theorem d_M_freshen_193 : decode Y_M_freshen.2.1 193 = .ok (.baload, 1) := by decide +kernel
theorem d_M_freshen_194 : decode Y_M_freshen.2.1 194 = .ok (.ifCond .eq 24, 3) := by decide +kernel
theorem d_M_freshen_197 : decode Y_M_freshen.2.1 197 = .ok (.aload_n 0, 1) := by decide +kernel
theorem d_M_freshen_198 : decode Y_M_freshen.2.1 198 = .ok (.aload_n 0, 1) := by decide +kernel
theorem d_M_freshen_199 : decode Y_M_freshen.2.1 199 = .ok (.getfield 38, 3) := by decide +kernel
theorem d_M_freshen_202 : decode Y_M_freshen.2.1 202 = .ok (.bipush 24, 2) := by decide +kernel
theorem d_M_freshen_204 : decode Y_M_freshen.2.1 204 = .ok (.iload_n 1, 1) := by decide +kernel
theorem d_M_freshen_205 : decode Y_M_freshen.2.1 205 = .ok (.imul, 1) := by decide +kernel
theorem d_M_freshen_206 : decode Y_M_freshen.2.1 206 = .ok (.iload_n 2, 1) := by decide +kernel
theorem d_M_freshen_207 : decode Y_M_freshen.2.1 207 = .ok (.iadd, 1) := by decide +kernel
theorem d_M_freshen_208 : decode Y_M_freshen.2.1 208 = .ok (.iaload, 1) := by decide +kernel
theorem d_M_freshen_209 : decode Y_M_freshen.2.1 209 = .ok (.invokevirtual 208, 3) := by decide +kernel
theorem d_M_freshen_212 : decode Y_M_freshen.2.1 212 = .ok (.iinc 2 1, 3) := by decide +kernel
theorem d_M_freshen_215 : decode Y_M_freshen.2.1 215 = .ok (.goto (-37), 3) := by decide +kernel
theorem d_M_freshen_218 : decode Y_M_freshen.2.1 218 = .ok (.iinc 1 1, 3) := by decide +kernel
theorem d_M_freshen_221 : decode Y_M_freshen.2.1 221 = .ok (.goto (-53), 3) := by decide +kernel
theorem d_M_freshen_224 : decode Y_M_freshen.2.1 224 = .ok (.goto (-70), 3) := by decide +kernel
theorem d_M_freshen_227 : decode Y_M_freshen.2.1 227 = .ok (.aload_n 0, 1) := by decide +kernel
theorem d_M_freshen_228 : decode Y_M_freshen.2.1 228 = .ok (.invokevirtual 211, 3) := by decide +kernel
theorem d_M_freshen_231 : decode Y_M_freshen.2.1 231 = .ok (.return_, 1) := by decide +kernel
theorem m_M_freshen_0 {l : Launch} {D : DD} {d kc ks : Nat} {h : Hp} {Φ : Option AV → Hp → Prop} (hM : MS h) (v : (xI h 100 16 = 0 → (∀ h1 : Hp, h1 = sI h 100 16 (1 : Int) → (Ev l D Y_M_freshen (d + 1) kc ks 15 [some (vr 100), some (vi (0 : Int)), none] [] h1 Φ))) ∧ (¬ xI h 100 16 = 0 → (Φ none h))) : Ev l D Y_M_freshen (d + 1) kc ks 0 [some (vr 100), none, none] [] h Φ := by
  refine a_aload_n d_M_freshen_0 rfl ?_
  refine a_getZ fl_M_119 d_M_freshen_1 (beq_iff_eq.mpr (KNM_100 hM)) ?_
  obtain ⟨vt, vf⟩ := v
  refine a_if_eq (tgt := 8) d_M_freshen_4 (by decide) (fun c => ?_) (fun c => ?_)
  · have v := vt (c); clear vt vf
    refine a_aload_n d_M_freshen_8 rfl ?_
    refine a_iconst d_M_freshen_9 ⟨by decide, by decide⟩ ?_
    have v := v _ rfl
    refine a_putZ fl_M_119 d_M_freshen_10 (beq_iff_eq.mpr (KNM_100 hM)) (by decide) (Or.inr rfl) ?_
    refine a_iconst d_M_freshen_13 ⟨by decide, by decide⟩ ?_
    refine a_istore_n (L' := [some (vr 100), some (vi (0 : Int)), none]) d_M_freshen_14 (Nat.le_of_ble_eq_true rfl) rfl rfl ?_
    exact v
  · have v := vf (c); clear vt vf
    exact a_vret d_M_freshen_7 rfl v
theorem m_M_freshen_15 {l : Launch} {D : DD} {d kc ks : Nat} {h : Hp} {Φ : Option AV → Hp → Prop} {x1 : Int} (hM : MS h) (v : (x1 ≥ (48 : Int) → (Ev l D Y_M_freshen (d + 1) kc ks 57 [some (vr 100), some (vi (0 : Int)), none] [] h Φ)) ∧ (x1 < (48 : Int) → ((x1 ≥ xI h 100 5 → (Ev l D Y_M_freshen (d + 1) kc ks 48 [some (vr 100), some (vi x1), none] [vi (0 : Int), vi x1, vr 119] h Φ)) ∧ (x1 < xI h 100 5 → (0 ≤ x1 ∧ x1 < 48 ∧ ((xI h 110 (x1).toNat = 0 → (Ev l D Y_M_freshen (d + 1) kc ks 48 [some (vr 100), some (vi x1), none] [vi (0 : Int), vi x1, vr 119] h Φ)) ∧ (¬ xI h 110 (x1).toNat = 0 → (Ev l D Y_M_freshen (d + 1) kc ks 48 [some (vr 100), some (vi x1), none] [vi (1 : Int), vi x1, vr 119] h Φ)))))))) : Ev l D Y_M_freshen (d + 1) kc ks 15 [some (vr 100), some (vi x1), none] [] h Φ := by
  refine a_iload_n d_M_freshen_15 rfl ?_
  refine a_bipush d_M_freshen_16 ⟨by decide, by decide⟩ (by decide) ?_
  obtain ⟨vt, vf⟩ := v
  refine a_icmp_ge (tgt := 55) d_M_freshen_18 (by decide) (fun c => ?_) (fun c => ?_)
  · have v := vt (c); clear vt vf
    refine a_iconst d_M_freshen_55 ⟨by decide, by decide⟩ ?_
    refine a_istore_n (L' := [some (vr 100), some (vi (0 : Int)), none]) d_M_freshen_56 (Nat.le_of_ble_eq_true rfl) rfl rfl ?_
    exact v
  · have v := vf (Int.not_le.mp c); clear vt vf
    refine a_aload_n d_M_freshen_21 rfl ?_
    refine a_getAe fl_M_50 d_M_freshen_22 (beq_iff_eq.mpr (KNM_100 hM)) (KRM_100_18 hM) ?_
    refine a_iload_n d_M_freshen_25 rfl ?_
    refine a_iload_n d_M_freshen_26 rfl ?_
    refine a_aload_n d_M_freshen_27 rfl ?_
    refine a_getI fl_M_131 d_M_freshen_28 (beq_iff_eq.mpr (KNM_100 hM)) ?_
    obtain ⟨vt, vf⟩ := v
    refine a_icmp_ge (tgt := 47) d_M_freshen_31 (by decide) (fun c => ?_) (fun c => ?_)
    · have v := vt (c); clear vt vf
      refine a_iconst d_M_freshen_47 ⟨by decide, by decide⟩ ?_
      exact v
    · have v := vf (Int.not_le.mp c); clear vt vf
      refine a_aload_n d_M_freshen_34 rfl ?_
      refine a_getAe fl_M_31 d_M_freshen_35 (beq_iff_eq.mpr (KNM_100 hM)) (KRM_100_9 hM) ?_
      refine a_iload_n d_M_freshen_38 rfl ?_
      obtain ⟨c2, c3, v⟩ := v
      refine a_zald d_M_freshen_39 (KNM_110 hM) c2 (lt_len (NNM_110 hM) c3) ?_
      obtain ⟨vt, vf⟩ := v
      refine a_if_eq (tgt := 47) d_M_freshen_40 (by decide) (fun c => ?_) (fun c => ?_)
      · have v := vt (c); clear vt vf
        refine a_iconst d_M_freshen_47 ⟨by decide, by decide⟩ ?_
        exact v
      · have v := vf (c); clear vt vf
        refine a_iconst d_M_freshen_43 ⟨by decide, by decide⟩ ?_
        refine a_goto (tgt := 48) d_M_freshen_44 (by decide) ?_
        exact v
theorem m_M_freshen_57 {l : Launch} {D : DD} {d kc ks : Nat} {h : Hp} {Φ : Option AV → Hp → Prop} {x1 : Int} (hM : MS h) (v : (x1 ≥ (16 : Int) → (Ev l D Y_M_freshen (d + 1) kc ks 85 [some (vr 100), some (vi (0 : Int)), none] [] h Φ)) ∧ (x1 < (16 : Int) → (0 ≤ x1 ∧ x1 < 16 ∧ (∀ h1 : Hp, h1 = sI h 120 (x1).toNat (0 : Int) → (0 ≤ x1 ∧ x1 < 16 ∧ (∀ h2 : Hp, h2 = sI h1 121 (x1).toNat (0 : Int) → (Ev l D Y_M_freshen (d + 1) kc ks 57 [some (vr 100), some (vi (wr (x1 + (1 : Int)))), none] [] h2 Φ))))))) : Ev l D Y_M_freshen (d + 1) kc ks 57 [some (vr 100), some (vi x1), none] [] h Φ := by
  refine a_iload_n d_M_freshen_57 rfl ?_
  refine a_bipush d_M_freshen_58 ⟨by decide, by decide⟩ (by decide) ?_
  obtain ⟨vt, vf⟩ := v
  refine a_icmp_ge (tgt := 83) d_M_freshen_60 (by decide) (fun c => ?_) (fun c => ?_)
  · have v := vt (c); clear vt vf
    refine a_iconst d_M_freshen_83 ⟨by decide, by decide⟩ ?_
    refine a_istore_n (L' := [some (vr 100), some (vi (0 : Int)), none]) d_M_freshen_84 (Nat.le_of_ble_eq_true rfl) rfl rfl ?_
    exact v
  · have v := vf (Int.not_le.mp c); clear vt vf
    refine a_aload_n d_M_freshen_63 rfl ?_
    refine a_getAe fl_M_53 d_M_freshen_64 (beq_iff_eq.mpr (KNM_100 hM)) (KRM_100_19 hM) ?_
    refine a_iload_n d_M_freshen_67 rfl ?_
    refine a_iconst d_M_freshen_68 ⟨by decide, by decide⟩ ?_
    obtain ⟨c3, c4, v⟩ := v
    have v := v _ rfl
    refine a_zast d_M_freshen_69 (KNM_120 hM) (by decide) c3 (lt_len (NNM_120 hM) c4) (Or.inl rfl) ?_
    refine a_aload_n d_M_freshen_70 rfl ?_
    refine a_getAe fl_M_56 d_M_freshen_71 (beq_iff_eq.mpr (KNM_100 hM)) (KRM_100_20 hM) ?_
    refine a_iload_n d_M_freshen_74 rfl ?_
    refine a_iconst d_M_freshen_75 ⟨by decide, by decide⟩ ?_
    obtain ⟨c7, c8, v⟩ := v
    have v := v _ rfl
    refine a_zast d_M_freshen_76 (KNM_121 hM) (by decide) c7 (lt_len (NNM_121 hM) c8) (Or.inl rfl) ?_
    refine a_iinc (L' := [some (vr 100), some (vi (wr (x1 + (1 : Int)))), none]) d_M_freshen_77 rfl (Nat.le_of_ble_eq_true rfl) rfl rfl ?_
    refine a_goto (tgt := 57) d_M_freshen_80 (by decide) ?_
    exact v
theorem m_M_freshen_48 {l : Launch} {D : DD} {d kc ks : Nat} {h : Hp} {Φ : Option AV → Hp → Prop} {x1 : Int} {y0 : Int} {y1 : Int} (hM : MS h) (v : 0 ≤ y1 ∧ y1 < 48 ∧ (y0 = 0 ∨ y0 = 1) ∧ (∀ h1 : Hp, h1 = sI h 119 (y1).toNat y0 → (Ev l D Y_M_freshen (d + 1) kc ks 15 [some (vr 100), some (vi (wr (x1 + (1 : Int)))), none] [] h1 Φ))) : Ev l D Y_M_freshen (d + 1) kc ks 48 [some (vr 100), some (vi x1), none] [vi y0, vi y1, vr 119] h Φ := by
  obtain ⟨c3, c4, c5, v⟩ := v
  have v := v _ rfl
  refine a_zast d_M_freshen_48 (KNM_119 hM) (by decide) c3 (lt_len (NNM_119 hM) c4) c5 ?_
  refine a_iinc (L' := [some (vr 100), some (vi (wr (x1 + (1 : Int)))), none]) d_M_freshen_49 rfl (Nat.le_of_ble_eq_true rfl) rfl rfl ?_
  refine a_goto (tgt := 15) d_M_freshen_52 (by decide) ?_
  exact v
theorem m_M_freshen_85 {l : Launch} {D : DD} {d kc ks : Nat} {h : Hp} {Φ : Option AV → Hp → Prop} {x1 : Int} (hM : MS h) (v : (x1 ≥ (192 : Int) → (Ev l D Y_M_freshen (d + 1) kc ks 107 [some (vr 100), some (vi (0 : Int)), none] [] h Φ)) ∧ (x1 < (192 : Int) → (0 ≤ x1 ∧ x1 < 192 ∧ (∀ h1 : Hp, h1 = sI h 122 (x1).toNat (0 : Int) → (Ev l D Y_M_freshen (d + 1) kc ks 85 [some (vr 100), some (vi (wr (x1 + (1 : Int)))), none] [] h1 Φ))))) : Ev l D Y_M_freshen (d + 1) kc ks 85 [some (vr 100), some (vi x1), none] [] h Φ := by
  refine a_iload_n d_M_freshen_85 rfl ?_
  refine a_sipush d_M_freshen_86 ⟨by decide, by decide⟩ (by decide) ?_
  obtain ⟨vt, vf⟩ := v
  refine a_icmp_ge (tgt := 105) d_M_freshen_89 (by decide) (fun c => ?_) (fun c => ?_)
  · have v := vt (c); clear vt vf
    refine a_iconst d_M_freshen_105 ⟨by decide, by decide⟩ ?_
    refine a_istore_n (L' := [some (vr 100), some (vi (0 : Int)), none]) d_M_freshen_106 (Nat.le_of_ble_eq_true rfl) rfl rfl ?_
    exact v
  · have v := vf (Int.not_le.mp c); clear vt vf
    refine a_aload_n d_M_freshen_92 rfl ?_
    refine a_getAe fl_M_59 d_M_freshen_93 (beq_iff_eq.mpr (KNM_100 hM)) (KRM_100_21 hM) ?_
    refine a_iload_n d_M_freshen_96 rfl ?_
    refine a_iconst d_M_freshen_97 ⟨by decide, by decide⟩ ?_
    obtain ⟨c3, c4, v⟩ := v
    have v := v _ rfl
    refine a_zast d_M_freshen_98 (KNM_122 hM) (by decide) c3 (lt_len (NNM_122 hM) c4) (Or.inl rfl) ?_
    refine a_iinc (L' := [some (vr 100), some (vi (wr (x1 + (1 : Int)))), none]) d_M_freshen_99 rfl (Nat.le_of_ble_eq_true rfl) rfl rfl ?_
    refine a_goto (tgt := 85) d_M_freshen_102 (by decide) ?_
    exact v
theorem m_M_freshen_107 {l : Launch} {D : DD} {d kc ks : Nat} {h : Hp} {Φ : Option AV → Hp → Prop} {x1 : Int} (hM : MS h) (v : (x1 ≥ (7680 : Int) → (Ev l D Y_M_freshen (d + 1) kc ks 129 [some (vr 100), some (vi (0 : Int)), none] [] h Φ)) ∧ (x1 < (7680 : Int) → (0 ≤ x1 ∧ x1 < 7680 ∧ (∀ h1 : Hp, h1 = sI h 123 (x1).toNat (0 : Int) → (Ev l D Y_M_freshen (d + 1) kc ks 107 [some (vr 100), some (vi (wr (x1 + (1 : Int)))), none] [] h1 Φ))))) : Ev l D Y_M_freshen (d + 1) kc ks 107 [some (vr 100), some (vi x1), none] [] h Φ := by
  refine a_iload_n d_M_freshen_107 rfl ?_
  refine a_sipush d_M_freshen_108 ⟨by decide, by decide⟩ (by decide) ?_
  obtain ⟨vt, vf⟩ := v
  refine a_icmp_ge (tgt := 127) d_M_freshen_111 (by decide) (fun c => ?_) (fun c => ?_)
  · have v := vt (c); clear vt vf
    refine a_iconst d_M_freshen_127 ⟨by decide, by decide⟩ ?_
    refine a_istore_n (L' := [some (vr 100), some (vi (0 : Int)), none]) d_M_freshen_128 (Nat.le_of_ble_eq_true rfl) rfl rfl ?_
    exact v
  · have v := vf (Int.not_le.mp c); clear vt vf
    refine a_aload_n d_M_freshen_114 rfl ?_
    refine a_getAe fl_M_62 d_M_freshen_115 (beq_iff_eq.mpr (KNM_100 hM)) (KRM_100_22 hM) ?_
    refine a_iload_n d_M_freshen_118 rfl ?_
    refine a_iconst d_M_freshen_119 ⟨by decide, by decide⟩ ?_
    obtain ⟨c3, c4, v⟩ := v
    have v := v _ rfl
    refine a_zast d_M_freshen_120 (KNM_123 hM) (by decide) c3 (lt_len (NNM_123 hM) c4) (Or.inl rfl) ?_
    refine a_iinc (L' := [some (vr 100), some (vi (wr (x1 + (1 : Int)))), none]) d_M_freshen_121 rfl (Nat.le_of_ble_eq_true rfl) rfl rfl ?_
    refine a_goto (tgt := 107) d_M_freshen_124 (by decide) ?_
    exact v
theorem m_M_freshen_129 {l : Launch} {D : DD} {d kc ks : Nat} {h : Hp} {Φ : Option AV → Hp → Prop} {x1 : Int} (hM : MS h) (v : (x1 ≥ (640 : Int) → (∀ h1 : Hp, h1 = sI h 100 17 (1 : Int) → (Ev l D Y_M_freshen (d + 1) kc ks 154 [some (vr 100), some (vi x1), none] [] h1 Φ))) ∧ (x1 < (640 : Int) → (0 ≤ x1 ∧ x1 < 640 ∧ (∀ h2 : Hp, h2 = sI h 124 (x1).toNat (0 : Int) → (Ev l D Y_M_freshen (d + 1) kc ks 129 [some (vr 100), some (vi (wr (x1 + (1 : Int)))), none] [] h2 Φ))))) : Ev l D Y_M_freshen (d + 1) kc ks 129 [some (vr 100), some (vi x1), none] [] h Φ := by
  refine a_iload_n d_M_freshen_129 rfl ?_
  refine a_sipush d_M_freshen_130 ⟨by decide, by decide⟩ (by decide) ?_
  obtain ⟨vt, vf⟩ := v
  refine a_icmp_ge (tgt := 149) d_M_freshen_133 (by decide) (fun c => ?_) (fun c => ?_)
  · have v := vt (c); clear vt vf
    refine a_aload_n d_M_freshen_149 rfl ?_
    refine a_iconst d_M_freshen_150 ⟨by decide, by decide⟩ ?_
    have v := v _ rfl
    refine a_putZ fl_M_186 d_M_freshen_151 (beq_iff_eq.mpr (KNM_100 hM)) (by decide) (Or.inr rfl) ?_
    exact v
  · have v := vf (Int.not_le.mp c); clear vt vf
    refine a_aload_n d_M_freshen_136 rfl ?_
    refine a_getAe fl_M_65 d_M_freshen_137 (beq_iff_eq.mpr (KNM_100 hM)) (KRM_100_23 hM) ?_
    refine a_iload_n d_M_freshen_140 rfl ?_
    refine a_iconst d_M_freshen_141 ⟨by decide, by decide⟩ ?_
    obtain ⟨c5, c6, v⟩ := v
    have v := v _ rfl
    refine a_iast d_M_freshen_142 (KNM_124 hM) (by decide) c5 (lt_len (NNM_124 hM) c6) ?_
    refine a_iinc (L' := [some (vr 100), some (vi (wr (x1 + (1 : Int)))), none]) d_M_freshen_143 rfl (Nat.le_of_ble_eq_true rfl) rfl rfl ?_
    refine a_goto (tgt := 129) d_M_freshen_146 (by decide) ?_
    exact v
theorem m_M_freshen_154 {l : Launch} {D : DD} {d kc ks : Nat} {h : Hp} {Φ : Option AV → Hp → Prop} {x1 : Int} (hM : MS h) (v : (xI h 100 17 = 0 → (Ev l D Y_M_findComes d 0 0 0 [some (vr 100), none, none, none, none] [] h (kv (fun h1 => MS h1 ∧ (Φ none h1))))) ∧ (¬ xI h 100 17 = 0 → (∀ h2 : Hp, h2 = sI h 100 17 (0 : Int) → (Ev l D Y_M_freshen (d + 1) kc ks 168 [some (vr 100), some (vi (0 : Int)), none] [] h2 Φ)))) : Ev l D Y_M_freshen (d + 1) kc ks 154 [some (vr 100), some (vi x1), none] [] h Φ := by
  refine a_aload_n d_M_freshen_154 rfl ?_
  refine a_getZ fl_M_186 d_M_freshen_155 (beq_iff_eq.mpr (KNM_100 hM)) ?_
  obtain ⟨vt, vf⟩ := v
  refine a_if_eq (tgt := 227) d_M_freshen_158 (by decide) (fun c => ?_) (fun c => ?_)
  · have v := vt (c); clear vt vf
    refine a_aload_n d_M_freshen_227 rfl ?_
    refine b_callV (as := []) (b := 100) (st := []) (kd := 12) (kc1 := 0) (ks1 := 0) (kc2 := kc) (ks2 := ks) (d' := d) ml_M_211 rfl d_M_freshen_228 rfl rfl (Nat.le_of_ble_eq_true rfl) (by decide) rfl (Nat.le_refl _) (by omega) (by omega) (KNM_100 hM) ?_
    refine Ev.mono v ?_
    intro u h1 v
    obtain ⟨rfl, v⟩ := kv_el v
    obtain ⟨hm1, v⟩ := v
    change Ev l D Y_M_freshen _ _ _ 231 [some (vr 100), some (vi x1), none] [] _ _
    exact a_vret d_M_freshen_231 rfl v
  · have v := vf (c); clear vt vf
    refine a_aload_n d_M_freshen_161 rfl ?_
    refine a_iconst d_M_freshen_162 ⟨by decide, by decide⟩ ?_
    have v := v _ rfl
    refine a_putZ fl_M_186 d_M_freshen_163 (beq_iff_eq.mpr (KNM_100 hM)) (by decide) (Or.inl rfl) ?_
    refine a_iconst d_M_freshen_166 ⟨by decide, by decide⟩ ?_
    refine a_istore_n (L' := [some (vr 100), some (vi (0 : Int)), none]) d_M_freshen_167 (Nat.le_of_ble_eq_true rfl) rfl rfl ?_
    exact v
theorem m_M_freshen_168 {l : Launch} {D : DD} {d kc ks : Nat} {h : Hp} {Φ : Option AV → Hp → Prop} {x1 : Int} (hM : MS h) (v : (x1 ≥ xI h 100 5 → (Ev l D Y_M_freshen (d + 1) kc ks 154 [some (vr 100), some (vi x1), none] [] h Φ)) ∧ (x1 < xI h 100 5 → (Ev l D Y_M_freshen (d + 1) kc ks 178 [some (vr 100), some (vi x1), some (vi (0 : Int))] [] h Φ))) : Ev l D Y_M_freshen (d + 1) kc ks 168 [some (vr 100), some (vi x1), none] [] h Φ := by
  refine a_iload_n d_M_freshen_168 rfl ?_
  refine a_aload_n d_M_freshen_169 rfl ?_
  refine a_getI fl_M_131 d_M_freshen_170 (beq_iff_eq.mpr (KNM_100 hM)) ?_
  obtain ⟨vt, vf⟩ := v
  refine a_icmp_ge (tgt := 224) d_M_freshen_173 (by decide) (fun c => ?_) (fun c => ?_)
  · have v := vt (c); clear vt vf
    refine a_goto (tgt := 154) d_M_freshen_224 (by decide) ?_
    exact v
  · have v := vf (Int.not_le.mp c); clear vt vf
    refine a_iconst d_M_freshen_176 ⟨by decide, by decide⟩ ?_
    refine a_istore_n (L' := [some (vr 100), some (vi x1), some (vi (0 : Int))]) d_M_freshen_177 (Nat.le_of_ble_eq_true rfl) rfl rfl ?_
    exact v
theorem m_M_freshen_178 {l : Launch} {D : DD} {d kc ks : Nat} {h : Hp} {Φ : Option AV → Hp → Prop} {x1 : Int} {x2 : Int} (hM : MS h) (v : 0 ≤ x1 ∧ x1 < 48 ∧ ((x2 ≥ xI h 111 (x1).toNat → (Ev l D Y_M_freshen (d + 1) kc ks 168 [some (vr 100), some (vi (wr (x1 + (1 : Int)))), none] [] h Φ)) ∧ (x2 < xI h 111 (x1).toNat → (0 ≤ x1 ∧ x1 < 48 ∧ ((xI h 119 (x1).toNat = 0 → (Ev l D Y_M_freshen (d + 1) kc ks 168 [some (vr 100), some (vi (wr (x1 + (1 : Int)))), none] [] h Φ)) ∧ (¬ xI h 119 (x1).toNat = 0 → (0 ≤ wr ((wr ((24 : Int) * x1)) + x2) ∧ wr ((wr ((24 : Int) * x1)) + x2) < 1152 ∧ (Ev l D Y_M_follow d 0 0 0 [some (vr 100), some (vi (xI h 112 (wr ((wr ((24 : Int) * x1)) + x2)).toNat)), none, none, none, none, none] [] h (kv (fun h1 => MS h1 ∧ (Ev l D Y_M_freshen (d + 1) kc ks 178 [some (vr 100), some (vi x1), some (vi (wr (x2 + (1 : Int))))] [] h1 Φ))))))))))) : Ev l D Y_M_freshen (d + 1) kc ks 178 [some (vr 100), some (vi x1), some (vi x2)] [] h Φ := by
  refine a_iload_n d_M_freshen_178 rfl ?_
  refine a_aload_n d_M_freshen_179 rfl ?_
  refine a_getAe fl_M_35 d_M_freshen_180 (beq_iff_eq.mpr (KNM_100 hM)) (KRM_100_10 hM) ?_
  refine a_iload_n d_M_freshen_183 rfl ?_
  obtain ⟨c2, c3, v⟩ := v
  refine a_iald d_M_freshen_184 (Or.inl (KNM_111 hM)) c2 (lt_len (NNM_111 hM) c3) ?_
  obtain ⟨vt, vf⟩ := v
  refine a_icmp_ge (tgt := 218) d_M_freshen_185 (by decide) (fun c => ?_) (fun c => ?_)
  · have v := vt (c); clear vt vf
    refine a_iinc (L' := [some (vr 100), some (vi (wr (x1 + (1 : Int)))), some (vi x2)]) d_M_freshen_218 rfl (Nat.le_of_ble_eq_true rfl) rfl rfl ?_
    refine a_goto (tgt := 168) d_M_freshen_221 (by decide) ?_
    exact Ev.weak v ⟨rfl, rfl, trivial⟩
  · have v := vf (Int.not_le.mp c); clear vt vf
    refine a_aload_n d_M_freshen_188 rfl ?_
    refine a_getAe fl_M_50 d_M_freshen_189 (beq_iff_eq.mpr (KNM_100 hM)) (KRM_100_18 hM) ?_
    refine a_iload_n d_M_freshen_192 rfl ?_
    obtain ⟨c5, c6, v⟩ := v
    refine a_zald d_M_freshen_193 (KNM_119 hM) c5 (lt_len (NNM_119 hM) c6) ?_
    obtain ⟨vt, vf⟩ := v
    refine a_if_eq (tgt := 218) d_M_freshen_194 (by decide) (fun c => ?_) (fun c => ?_)
    · have v := vt (c); clear vt vf
      refine a_iinc (L' := [some (vr 100), some (vi (wr (x1 + (1 : Int)))), some (vi x2)]) d_M_freshen_218 rfl (Nat.le_of_ble_eq_true rfl) rfl rfl ?_
      refine a_goto (tgt := 168) d_M_freshen_221 (by decide) ?_
      exact Ev.weak v ⟨rfl, rfl, trivial⟩
    · have v := vf (c); clear vt vf
      refine a_aload_n d_M_freshen_197 rfl ?_
      refine a_aload_n d_M_freshen_198 rfl ?_
      refine a_getAe fl_M_38 d_M_freshen_199 (beq_iff_eq.mpr (KNM_100 hM)) (KRM_100_11 hM) ?_
      refine a_bipush d_M_freshen_202 ⟨by decide, by decide⟩ (by decide) ?_
      refine a_iload_n d_M_freshen_204 rfl ?_
      refine a_imul d_M_freshen_205 ?_
      refine a_iload_n d_M_freshen_206 rfl ?_
      refine a_iadd d_M_freshen_207 ?_
      obtain ⟨c8, c9, v⟩ := v
      refine a_iald d_M_freshen_208 (Or.inl (KNM_112 hM)) c8 (lt_len (NNM_112 hM) c9) ?_
      refine b_callV (as := [vi (xI h 112 (wr ((wr ((24 : Int) * x1)) + x2)).toNat)]) (b := 100) (st := []) (kd := 12) (kc1 := 0) (ks1 := 0) (kc2 := kc) (ks2 := ks) (d' := d) ml_M_208 rfl d_M_freshen_209 rfl rfl (Nat.le_of_ble_eq_true rfl) (by decide) rfl (Nat.le_refl _) (by omega) (by omega) (KNM_100 hM) ?_
      refine Ev.mono v ?_
      intro u h1 v
      obtain ⟨rfl, v⟩ := kv_el v
      obtain ⟨hm1, v⟩ := v
      change Ev l D Y_M_freshen _ _ _ 212 [some (vr 100), some (vi x1), some (vi x2)] [] _ _
      refine a_iinc (L' := [some (vr 100), some (vi x1), some (vi (wr (x2 + (1 : Int))))]) d_M_freshen_212 rfl (Nat.le_of_ble_eq_true rfl) rfl rfl ?_
      refine a_goto (tgt := 178) d_M_freshen_215 (by decide) ?_
      exact v
