/-! the constructors -/
def Im (h0 h : Hp) (k : Nat) (L : List (Nat × Nat × Nat)) : Prop := off (fun a => 100 ≤ a ∧ a < 151) h0 h ∧ xK h 100 = 12 ∧ (∀ a i, 100 ≤ a → a < 151 → xI h a i = 0) ∧ (∀ a, 101 + k ≤ a → a < 151 → xK h a = 0) ∧ ∀ x, x ∈ L → x.1 < k ∧ xR h 100 x.1 = 101 + x.1 ∧ xK h (101 + x.1) = x.2.1 ∧ xN h (101 + x.1) = x.2.2
theorem Im.step {h0 h h1 h2 : Hp} {k j kd n : Nat} {L : List (Nat × Nat × Nat)} (q : Im h0 h k L) (hj : k ≤ j) (hj2 : j < 50) (e1 : h1 = nw h (101 + j) kd n) (e2 : h2 = sR h1 100 j (101 + j)) : Im h0 h2 (j + 1) ((j, kd, n) :: L) := by
  obtain ⟨q1, q2, q3, q4, q5⟩ := q
  have k2 : ∀ a, xK h2 a = if a = 101 + j then kd else xK h a := fun a => by rw [e2, xK_sR, e1, xK_nw]
  have n2 : ∀ a, xN h2 a = if a = 101 + j then n else xN h a := fun a => by rw [e2, xN_sR, e1, xN_nw]
  have i2 : ∀ a i, xI h2 a i = if a = 101 + j then 0 else xI h a i := fun a i => by rw [e2, xI_sR, e1, xI_nw]
  have r2 : ∀ a i, xR h2 a i = if a = 100 ∧ i = j then 101 + j else if a = 101 + j then 0 else xR h a i := fun a i => by rw [e2, xR_sR, e1, xR_nw]
  refine ⟨by rw [e2, e1]; exact (q1.nw (by omega)).sR (by omega), by rw [k2, if_neg (by omega)]; exact q2, fun a i h1 h2 => ?_, fun a h1 h2 => ?_, fun x hx => ?_⟩
  · rw [i2]
    by_cases e : a = 101 + j
    · rw [if_pos e]
    · rw [if_neg e]; exact q3 a i h1 h2
  · rw [k2, if_neg (by omega)]; exact q4 a (by omega) h2
  · rcases List.mem_cons.mp hx with e | e
    · subst e
      refine ⟨by show j < j + 1; omega, ?_, ?_, ?_⟩
      · show xR h2 100 j = 101 + j
        rw [r2, if_pos ⟨rfl, rfl⟩]
      · show xK h2 (101 + j) = kd
        rw [k2, if_pos rfl]
      · show xN h2 (101 + j) = n
        rw [n2, if_pos rfl]
    · obtain ⟨a1, a2, a3, a4⟩ := q5 x e
      refine ⟨by omega, ?_, ?_, ?_⟩
      · rw [r2, if_neg (by omega), if_neg (by omega)]; exact a2
      · rw [k2, if_neg (by omega)]; exact a3
      · rw [n2, if_neg (by omega)]; exact a4
theorem WF_0 : WF (fun _ _ => 0) := by
  refine ⟨by decide, by decide, by decide, fun t ht => ?_, fun m hm => ?_, fun m m' hm => ?_, fun o ho => ?_⟩
  · have ht' : (t : Int) < 0 := ht
    omega
  · have hm' : (m : Int) < 0 := hm
    omega
  · have hm' : (m : Int) < 0 := hm
    omega
  · have ho' : (o : Int) < 0 := ho
    omega
theorem WO_0 : WO (fun _ _ => 0) := by
  refine ⟨fun m m' i i' hm => ?_, fun o ho => ?_⟩
  · have hm' : (m : Int) < 0 := hm
    omega
  · have ho' : (o : Int) < 0 := ho
    omega
section INI
variable {l : Launch} {D : DD} {d kc ks : Nat} {h h0 : Hp} {Ψ : Option AV → Hp → Prop} {p g : Pg}
theorem ct_M_init (hk : xK h 100 = 12) (hz : ∀ a i, 100 ≤ a → a < 151 → xI h a i = 0) (hf : ∀ a, 101 ≤ a → a < 151 → xK h a = 0) (k : ∀ h', off (fun a => 100 ≤ a ∧ a < 151) h h' → Ms (fun _ _ => 0) h' → Ψ none h') : Ev l D Y_M_init (d + 1) (kc + 36) (ks + 19848) 0 [some (vr 100)] [] h Ψ := by
  have q : Im h h 0 [] := ⟨off.rf, hk, hz, fun a h1 h2 => hf a (by omega) h2, fun x hx => absurd hx List.not_mem_nil⟩
  apply s_M_init_0
  refine ⟨by rw [hk]; decide, 102, by omega, q.2.2.2.1 102 (by omega) (by omega), fun h1 e1 => ⟨by rw [e1, xK_nw, if_neg (by omega)]; exact q.2.1, by omega, fun h2 e2 => ?_⟩⟩
  replace q := Im.step (j := 1) (kd := 20) (n := 16) q (by omega) (by omega) e1 e2
  clear e1 e2 h1
  apply s_M_init_12
  refine ⟨103, by omega, q.2.2.2.1 103 (by omega) (by omega), fun h1 e1 => ⟨by rw [e1, xK_nw, if_neg (by omega)]; exact q.2.1, by omega, fun h2 e2 => ?_⟩⟩
  replace q := Im.step (j := 2) (kd := 20) (n := 16) q (by omega) (by omega) e1 e2
  clear e1 e2 h1
  apply s_M_init_20
  refine ⟨104, by omega, q.2.2.2.1 104 (by omega) (by omega), fun h1 e1 => ⟨by rw [e1, xK_nw, if_neg (by omega)]; exact q.2.1, by omega, fun h2 e2 => ?_⟩⟩
  replace q := Im.step (j := 3) (kd := 20) (n := 16) q (by omega) (by omega) e1 e2
  clear e1 e2 h1
  apply s_M_init_28
  refine ⟨105, by omega, q.2.2.2.1 105 (by omega) (by omega), fun h1 e1 => ⟨by rw [e1, xK_nw, if_neg (by omega)]; exact q.2.1, by omega, fun h2 e2 => ?_⟩⟩
  replace q := Im.step (j := 4) (kd := 20) (n := 48) q (by omega) (by omega) e1 e2
  clear e1 e2 h1
  apply s_M_init_36
  refine ⟨107, by omega, q.2.2.2.1 107 (by omega) (by omega), fun h1 e1 => ⟨by rw [e1, xK_nw, if_neg (by omega)]; exact q.2.1, by omega, fun h2 e2 => ?_⟩⟩
  replace q := Im.step (j := 6) (kd := 20) (n := 48) q (by omega) (by omega) e1 e2
  clear e1 e2 h1
  apply s_M_init_44
  refine ⟨108, by omega, q.2.2.2.1 108 (by omega) (by omega), fun h1 e1 => ⟨by rw [e1, xK_nw, if_neg (by omega)]; exact q.2.1, by omega, fun h2 e2 => ?_⟩⟩
  replace q := Im.step (j := 7) (kd := 20) (n := 48) q (by omega) (by omega) e1 e2
  clear e1 e2 h1
  apply s_M_init_52
  refine ⟨109, by omega, q.2.2.2.1 109 (by omega) (by omega), fun h1 e1 => ⟨by rw [e1, xK_nw, if_neg (by omega)]; exact q.2.1, by omega, fun h2 e2 => ?_⟩⟩
  replace q := Im.step (j := 8) (kd := 20) (n := 48) q (by omega) (by omega) e1 e2
  clear e1 e2 h1
  apply s_M_init_60
  refine ⟨110, by omega, q.2.2.2.1 110 (by omega) (by omega), fun h1 e1 => ⟨by rw [e1, xK_nw, if_neg (by omega)]; exact q.2.1, by omega, fun h2 e2 => ?_⟩⟩
  replace q := Im.step (j := 9) (kd := 21) (n := 48) q (by omega) (by omega) e1 e2
  clear e1 e2 h1
  apply s_M_init_68
  refine ⟨111, by omega, q.2.2.2.1 111 (by omega) (by omega), fun h1 e1 => ⟨by rw [e1, xK_nw, if_neg (by omega)]; exact q.2.1, by omega, fun h2 e2 => ?_⟩⟩
  replace q := Im.step (j := 10) (kd := 20) (n := 48) q (by omega) (by omega) e1 e2
  clear e1 e2 h1
  apply s_M_init_76
  refine ⟨112, by omega, q.2.2.2.1 112 (by omega) (by omega), fun h1 e1 => ⟨by rw [e1, xK_nw, if_neg (by omega)]; exact q.2.1, by omega, fun h2 e2 => ?_⟩⟩
  replace q := Im.step (j := 11) (kd := 20) (n := 1152) q (by omega) (by omega) e1 e2
  clear e1 e2 h1
  apply s_M_init_85
  refine ⟨114, by omega, q.2.2.2.1 114 (by omega) (by omega), fun h1 e1 => ⟨by rw [e1, xK_nw, if_neg (by omega)]; exact q.2.1, by omega, fun h2 e2 => ?_⟩⟩
  replace q := Im.step (j := 13) (kd := 20) (n := 160) q (by omega) (by omega) e1 e2
  clear e1 e2 h1
  apply s_M_init_94
  refine ⟨115, by omega, q.2.2.2.1 115 (by omega) (by omega), fun h1 e1 => ⟨by rw [e1, xK_nw, if_neg (by omega)]; exact q.2.1, by omega, fun h2 e2 => ?_⟩⟩
  replace q := Im.step (j := 14) (kd := 20) (n := 160) q (by omega) (by omega) e1 e2
  clear e1 e2 h1
  apply s_M_init_103
  refine ⟨116, by omega, q.2.2.2.1 116 (by omega) (by omega), fun h1 e1 => ⟨by rw [e1, xK_nw, if_neg (by omega)]; exact q.2.1, by omega, fun h2 e2 => ?_⟩⟩
  replace q := Im.step (j := 15) (kd := 20) (n := 160) q (by omega) (by omega) e1 e2
  clear e1 e2 h1
  apply s_M_init_112
  refine ⟨119, by omega, q.2.2.2.1 119 (by omega) (by omega), fun h1 e1 => ⟨by rw [e1, xK_nw, if_neg (by omega)]; exact q.2.1, by omega, fun h2 e2 => ?_⟩⟩
  replace q := Im.step (j := 18) (kd := 21) (n := 48) q (by omega) (by omega) e1 e2
  clear e1 e2 h1
  apply s_M_init_120
  refine ⟨120, by omega, q.2.2.2.1 120 (by omega) (by omega), fun h1 e1 => ⟨by rw [e1, xK_nw, if_neg (by omega)]; exact q.2.1, by omega, fun h2 e2 => ?_⟩⟩
  replace q := Im.step (j := 19) (kd := 21) (n := 16) q (by omega) (by omega) e1 e2
  clear e1 e2 h1
  apply s_M_init_128
  refine ⟨121, by omega, q.2.2.2.1 121 (by omega) (by omega), fun h1 e1 => ⟨by rw [e1, xK_nw, if_neg (by omega)]; exact q.2.1, by omega, fun h2 e2 => ?_⟩⟩
  replace q := Im.step (j := 20) (kd := 21) (n := 16) q (by omega) (by omega) e1 e2
  clear e1 e2 h1
  apply s_M_init_136
  refine ⟨122, by omega, q.2.2.2.1 122 (by omega) (by omega), fun h1 e1 => ⟨by rw [e1, xK_nw, if_neg (by omega)]; exact q.2.1, by omega, fun h2 e2 => ?_⟩⟩
  replace q := Im.step (j := 21) (kd := 21) (n := 192) q (by omega) (by omega) e1 e2
  clear e1 e2 h1
  apply s_M_init_145
  refine ⟨123, by omega, q.2.2.2.1 123 (by omega) (by omega), fun h1 e1 => ⟨by rw [e1, xK_nw, if_neg (by omega)]; exact q.2.1, by omega, fun h2 e2 => ?_⟩⟩
  replace q := Im.step (j := 22) (kd := 21) (n := 7680) q (by omega) (by omega) e1 e2
  clear e1 e2 h1
  apply s_M_init_154
  refine ⟨124, by omega, q.2.2.2.1 124 (by omega) (by omega), fun h1 e1 => ⟨by rw [e1, xK_nw, if_neg (by omega)]; exact q.2.1, by omega, fun h2 e2 => ?_⟩⟩
  replace q := Im.step (j := 23) (kd := 20) (n := 640) q (by omega) (by omega) e1 e2
  clear e1 e2 h1
  apply s_M_init_163
  refine ⟨125, by omega, q.2.2.2.1 125 (by omega) (by omega), fun h1 e1 => ⟨by rw [e1, xK_nw, if_neg (by omega)]; exact q.2.1, by omega, fun h2 e2 => ?_⟩⟩
  replace q := Im.step (j := 24) (kd := 21) (n := 16) q (by omega) (by omega) e1 e2
  clear e1 e2 h1
  apply s_M_init_171
  refine ⟨126, by omega, q.2.2.2.1 126 (by omega) (by omega), fun h1 e1 => ⟨by rw [e1, xK_nw, if_neg (by omega)]; exact q.2.1, by omega, fun h2 e2 => ?_⟩⟩
  replace q := Im.step (j := 25) (kd := 21) (n := 256) q (by omega) (by omega) e1 e2
  clear e1 e2 h1
  apply s_M_init_180
  refine ⟨128, by omega, q.2.2.2.1 128 (by omega) (by omega), fun h1 e1 => ⟨by rw [e1, xK_nw, if_neg (by omega)]; exact q.2.1, by omega, fun h2 e2 => ?_⟩⟩
  replace q := Im.step (j := 27) (kd := 21) (n := 48) q (by omega) (by omega) e1 e2
  clear e1 e2 h1
  apply s_M_init_188
  refine ⟨129, by omega, q.2.2.2.1 129 (by omega) (by omega), fun h1 e1 => ⟨by rw [e1, xK_nw, if_neg (by omega)]; exact q.2.1, by omega, fun h2 e2 => ?_⟩⟩
  replace q := Im.step (j := 28) (kd := 21) (n := 16) q (by omega) (by omega) e1 e2
  clear e1 e2 h1
  apply s_M_init_196
  refine ⟨130, by omega, q.2.2.2.1 130 (by omega) (by omega), fun h1 e1 => ⟨by rw [e1, xK_nw, if_neg (by omega)]; exact q.2.1, by omega, fun h2 e2 => ?_⟩⟩
  replace q := Im.step (j := 29) (kd := 21) (n := 16) q (by omega) (by omega) e1 e2
  clear e1 e2 h1
  apply s_M_init_204
  refine ⟨131, by omega, q.2.2.2.1 131 (by omega) (by omega), fun h1 e1 => ⟨by rw [e1, xK_nw, if_neg (by omega)]; exact q.2.1, by omega, fun h2 e2 => ?_⟩⟩
  replace q := Im.step (j := 30) (kd := 21) (n := 2304) q (by omega) (by omega) e1 e2
  clear e1 e2 h1
  apply s_M_init_213
  refine ⟨132, by omega, q.2.2.2.1 132 (by omega) (by omega), fun h1 e1 => ⟨by rw [e1, xK_nw, if_neg (by omega)]; exact q.2.1, by omega, fun h2 e2 => ?_⟩⟩
  replace q := Im.step (j := 31) (kd := 21) (n := 2304) q (by omega) (by omega) e1 e2
  clear e1 e2 h1
  apply s_M_init_222
  refine ⟨133, by omega, q.2.2.2.1 133 (by omega) (by omega), fun h1 e1 => ⟨by rw [e1, xK_nw, if_neg (by omega)]; exact q.2.1, by omega, fun h2 e2 => ?_⟩⟩
  replace q := Im.step (j := 32) (kd := 20) (n := 48) q (by omega) (by omega) e1 e2
  clear e1 e2 h1
  apply s_M_init_230
  refine ⟨134, by omega, q.2.2.2.1 134 (by omega) (by omega), fun h1 e1 => ⟨by rw [e1, xK_nw, if_neg (by omega)]; exact q.2.1, by omega, fun h2 e2 => ?_⟩⟩
  replace q := Im.step (j := 33) (kd := 20) (n := 1000) q (by omega) (by omega) e1 e2
  clear e1 e2 h1
  apply s_M_init_239
  refine ⟨135, by omega, q.2.2.2.1 135 (by omega) (by omega), fun h1 e1 => ⟨by rw [e1, xK_nw, if_neg (by omega)]; exact q.2.1, by omega, fun h2 e2 => ?_⟩⟩
  replace q := Im.step (j := 34) (kd := 20) (n := 1000) q (by omega) (by omega) e1 e2
  clear e1 e2 h1
  apply s_M_init_248
  refine ⟨136, by omega, q.2.2.2.1 136 (by omega) (by omega), fun h1 e1 => ⟨by rw [e1, xK_nw, if_neg (by omega)]; exact q.2.1, by omega, fun h2 e2 => ?_⟩⟩
  replace q := Im.step (j := 35) (kd := 20) (n := 1000) q (by omega) (by omega) e1 e2
  clear e1 e2 h1
  apply s_M_init_257
  refine ⟨137, by omega, q.2.2.2.1 137 (by omega) (by omega), fun h1 e1 => ⟨by rw [e1, xK_nw, if_neg (by omega)]; exact q.2.1, by omega, fun h2 e2 => ?_⟩⟩
  replace q := Im.step (j := 36) (kd := 20) (n := 1000) q (by omega) (by omega) e1 e2
  clear e1 e2 h1
  apply s_M_init_266
  refine ⟨145, by omega, q.2.2.2.1 145 (by omega) (by omega), fun h1 e1 => ⟨by rw [e1, xK_nw, if_neg (by omega)]; exact q.2.1, by omega, fun h2 e2 => ?_⟩⟩
  replace q := Im.step (j := 44) (kd := 21) (n := 48) q (by omega) (by omega) e1 e2
  clear e1 e2 h1
  apply s_M_init_274
  refine ⟨146, by omega, q.2.2.2.1 146 (by omega) (by omega), fun h1 e1 => ⟨by rw [e1, xK_nw, if_neg (by omega)]; exact q.2.1, by omega, fun h2 e2 => ?_⟩⟩
  replace q := Im.step (j := 45) (kd := 21) (n := 16) q (by omega) (by omega) e1 e2
  clear e1 e2 h1
  apply s_M_init_282
  refine ⟨147, by omega, q.2.2.2.1 147 (by omega) (by omega), fun h1 e1 => ⟨by rw [e1, xK_nw, if_neg (by omega)]; exact q.2.1, by omega, fun h2 e2 => ?_⟩⟩
  replace q := Im.step (j := 46) (kd := 20) (n := 20) q (by omega) (by omega) e1 e2
  clear e1 e2 h1
  apply s_M_init_290
  refine ⟨149, by omega, q.2.2.2.1 149 (by omega) (by omega), fun h1 e1 => ⟨by rw [e1, xK_nw, if_neg (by omega)]; exact q.2.1, by omega, fun h2 e2 => ?_⟩⟩
  replace q := Im.step (j := 48) (kd := 20) (n := 192) q (by omega) (by omega) e1 e2
  clear e1 e2 h1
  apply s_M_init_299
  refine ⟨150, by omega, q.2.2.2.1 150 (by omega) (by omega), fun h1 e1 => ⟨by rw [e1, xK_nw, if_neg (by omega)]; exact q.2.1, by omega, fun h2 e2 => ?_⟩⟩
  replace q := Im.step (j := 49) (kd := 20) (n := 4) q (by omega) (by omega) e1 e2
  clear e1 e2 h1
  apply s_M_init_306
  have f := q.2.2.2.2
  have hM : MS h2 := ⟨q.2.1, (f (1, 20, 16) (by decide)).2.1, (f (2, 20, 16) (by decide)).2.1, (f (3, 20, 16) (by decide)).2.1, (f (4, 20, 48) (by decide)).2.1, (f (6, 20, 48) (by decide)).2.1, (f (7, 20, 48) (by decide)).2.1, (f (8, 20, 48) (by decide)).2.1, (f (9, 21, 48) (by decide)).2.1, (f (10, 20, 48) (by decide)).2.1, (f (11, 20, 1152) (by decide)).2.1, (f (13, 20, 160) (by decide)).2.1, (f (14, 20, 160) (by decide)).2.1, (f (15, 20, 160) (by decide)).2.1, (f (18, 21, 48) (by decide)).2.1, (f (19, 21, 16) (by decide)).2.1, (f (20, 21, 16) (by decide)).2.1, (f (21, 21, 192) (by decide)).2.1, (f (22, 21, 7680) (by decide)).2.1, (f (23, 20, 640) (by decide)).2.1, (f (24, 21, 16) (by decide)).2.1, (f (25, 21, 256) (by decide)).2.1, (f (27, 21, 48) (by decide)).2.1, (f (28, 21, 16) (by decide)).2.1, (f (29, 21, 16) (by decide)).2.1, (f (30, 21, 2304) (by decide)).2.1, (f (31, 21, 2304) (by decide)).2.1, (f (32, 20, 48) (by decide)).2.1, (f (33, 20, 1000) (by decide)).2.1, (f (34, 20, 1000) (by decide)).2.1, (f (35, 20, 1000) (by decide)).2.1, (f (36, 20, 1000) (by decide)).2.1, (f (44, 21, 48) (by decide)).2.1, (f (45, 21, 16) (by decide)).2.1, (f (46, 20, 20) (by decide)).2.1, (f (48, 20, 192) (by decide)).2.1, (f (49, 20, 4) (by decide)).2.1, (f (1, 20, 16) (by decide)).2.2.1, (f (1, 20, 16) (by decide)).2.2.2, (f (2, 20, 16) (by decide)).2.2.1, (f (2, 20, 16) (by decide)).2.2.2, (f (3, 20, 16) (by decide)).2.2.1, (f (3, 20, 16) (by decide)).2.2.2, (f (4, 20, 48) (by decide)).2.2.1, (f (4, 20, 48) (by decide)).2.2.2, (f (6, 20, 48) (by decide)).2.2.1, (f (6, 20, 48) (by decide)).2.2.2, (f (7, 20, 48) (by decide)).2.2.1, (f (7, 20, 48) (by decide)).2.2.2, (f (8, 20, 48) (by decide)).2.2.1, (f (8, 20, 48) (by decide)).2.2.2, (f (9, 21, 48) (by decide)).2.2.1, (f (9, 21, 48) (by decide)).2.2.2, (f (10, 20, 48) (by decide)).2.2.1, (f (10, 20, 48) (by decide)).2.2.2, (f (11, 20, 1152) (by decide)).2.2.1, (f (11, 20, 1152) (by decide)).2.2.2, (f (13, 20, 160) (by decide)).2.2.1, (f (13, 20, 160) (by decide)).2.2.2, (f (14, 20, 160) (by decide)).2.2.1, (f (14, 20, 160) (by decide)).2.2.2, (f (15, 20, 160) (by decide)).2.2.1, (f (15, 20, 160) (by decide)).2.2.2, (f (18, 21, 48) (by decide)).2.2.1, (f (18, 21, 48) (by decide)).2.2.2, (f (19, 21, 16) (by decide)).2.2.1, (f (19, 21, 16) (by decide)).2.2.2, (f (20, 21, 16) (by decide)).2.2.1, (f (20, 21, 16) (by decide)).2.2.2, (f (21, 21, 192) (by decide)).2.2.1, (f (21, 21, 192) (by decide)).2.2.2, (f (22, 21, 7680) (by decide)).2.2.1, (f (22, 21, 7680) (by decide)).2.2.2, (f (23, 20, 640) (by decide)).2.2.1, (f (23, 20, 640) (by decide)).2.2.2, (f (24, 21, 16) (by decide)).2.2.1, (f (24, 21, 16) (by decide)).2.2.2, (f (25, 21, 256) (by decide)).2.2.1, (f (25, 21, 256) (by decide)).2.2.2, (f (27, 21, 48) (by decide)).2.2.1, (f (27, 21, 48) (by decide)).2.2.2, (f (28, 21, 16) (by decide)).2.2.1, (f (28, 21, 16) (by decide)).2.2.2, (f (29, 21, 16) (by decide)).2.2.1, (f (29, 21, 16) (by decide)).2.2.2, (f (30, 21, 2304) (by decide)).2.2.1, (f (30, 21, 2304) (by decide)).2.2.2, (f (31, 21, 2304) (by decide)).2.2.1, (f (31, 21, 2304) (by decide)).2.2.2, (f (32, 20, 48) (by decide)).2.2.1, (f (32, 20, 48) (by decide)).2.2.2, (f (33, 20, 1000) (by decide)).2.2.1, (f (33, 20, 1000) (by decide)).2.2.2, (f (34, 20, 1000) (by decide)).2.2.1, (f (34, 20, 1000) (by decide)).2.2.2, (f (35, 20, 1000) (by decide)).2.2.1, (f (35, 20, 1000) (by decide)).2.2.2, (f (36, 20, 1000) (by decide)).2.2.1, (f (36, 20, 1000) (by decide)).2.2.2, (f (44, 21, 48) (by decide)).2.2.1, (f (44, 21, 48) (by decide)).2.2.2, (f (45, 21, 16) (by decide)).2.2.1, (f (45, 21, 16) (by decide)).2.2.2, (f (46, 20, 20) (by decide)).2.2.1, (f (46, 20, 20) (by decide)).2.2.2, (f (48, 20, 192) (by decide)).2.2.1, (f (48, 20, 192) (by decide)).2.2.2, (f (49, 20, 4) (by decide)).2.2.1, (f (49, 20, 4) (by decide)).2.2.2⟩
  refine ⟨q.2.1, by omega, fun h1 e1 => ?_⟩
  have hM1 : MS h1 := by rw [e1]; exact MS_sI hM
  have z : ∀ a i, 100 ≤ a → a < 151 → xI h1 a i = 0 := fun a i g1 g2 => by
    rw [e1, xI_sI]
    by_cases e : a = 100 ∧ i = 16
    · rw [if_pos e]
    · rw [if_neg e]; exact q.2.2.1 a i g1 g2
  refine k h1 (by rw [e1]; exact q.1.sI (by omega)) ⟨⟨hM1, fun a i hs => z a i ?_ ?_, WF_0, Or.inl (z 100 26 (by omega) (by omega)), fun c => absurd (z 100 26 (by omega) (by omega)) c⟩, Fm_0 (z 100 16 (by omega) (by omega))⟩
  · have := sta_iff.mp hs; omega
  · have := sta_iff.mp hs; omega
theorem ct_Run_init (hk : xK h 80 = 2) (hf : ∀ a, 81 ≤ a → a < 86 → xK h a = 0) (k : ∀ h', off (fun a => 80 ≤ a ∧ a < 86) h h' → (xK h' 80 = 2 ∧ xR h' 80 2 = 81 ∧ xR h' 80 4 = 82 ∧ xR h' 80 5 = 83 ∧ xR h' 80 6 = 84 ∧ xR h' 80 7 = 85 ∧ xK h' 81 = 22 ∧ xN h' 81 = 20 ∧ xK h' 82 = 21 ∧ xN h' 82 = 16 ∧ xK h' 83 = 23 ∧ xN h' 83 = 192 ∧ xK h' 84 = 20 ∧ xN h' 84 = 4 ∧ xK h' 85 = 21 ∧ xN h' 85 = 48) → Ψ none h') : Ev l D Y_Run_init (d + 1) (kc + 5) (ks + 280) 0 [some (vr 80)] [] h Ψ := by
  apply s_Run_init_0
  refine ⟨by rw [hk]; decide, 81, by omega, hf 81 (by omega) (by omega), fun h1 e1 => ?_⟩
  have k1 : ∀ a, xK h1 a = if a = 81 then 22 else xK h a := fun a => by rw [e1, xK_nw]
  refine ⟨by rw [k1, if_neg (by omega)]; exact hk, by omega, fun h2 e2 => ⟨82, by omega, by rw [e2, xK_sR, k1, if_neg (by omega)]; exact hf 82 (by omega) (by omega), fun h3 e3 => ?_⟩⟩
  have k3 : ∀ a, xK h3 a = if a = 82 then 21 else if a = 81 then 22 else xK h a := fun a => by rw [e3, xK_nw, e2, xK_sR, k1]
  refine ⟨by rw [k3, if_neg (by omega), if_neg (by omega)]; exact hk, by omega, fun h4 e4 => ⟨83, by omega, by rw [e4, xK_sR, k3, if_neg (by omega), if_neg (by omega)]; exact hf 83 (by omega) (by omega), fun h5 e5 => ?_⟩⟩
  have k5 : ∀ a, xK h5 a = if a = 83 then 23 else if a = 82 then 21 else if a = 81 then 22 else xK h a := fun a => by rw [e5, xK_nw, e4, xK_sR, k3]
  refine ⟨by rw [k5, if_neg (by omega), if_neg (by omega), if_neg (by omega)]; exact hk, by omega, fun h6 e6 => ⟨84, by omega, by rw [e6, xK_sR, k5, if_neg (by omega), if_neg (by omega), if_neg (by omega)]; exact hf 84 (by omega) (by omega), fun h7 e7 => ?_⟩⟩
  have k7 : ∀ a, xK h7 a = if a = 84 then 20 else if a = 83 then 23 else if a = 82 then 21 else if a = 81 then 22 else xK h a := fun a => by rw [e7, xK_nw, e6, xK_sR, k5]
  refine ⟨by rw [k7, if_neg (by omega), if_neg (by omega), if_neg (by omega), if_neg (by omega)]; exact hk, by omega, fun h8 e8 => ⟨85, by omega, by rw [e8, xK_sR, k7, if_neg (by omega), if_neg (by omega), if_neg (by omega), if_neg (by omega)]; exact hf 85 (by omega) (by omega), fun h9 e9 => ?_⟩⟩
  have k9 : ∀ a, xK h9 a = if a = 85 then 21 else if a = 84 then 20 else if a = 83 then 23 else if a = 82 then 21 else if a = 81 then 22 else xK h a := fun a => by rw [e9, xK_nw, e8, xK_sR, k7]
  refine ⟨by rw [k9, if_neg (by omega), if_neg (by omega), if_neg (by omega), if_neg (by omega), if_neg (by omega)]; exact hk, by omega, fun h10 e10 => ?_⟩
  have ka : ∀ a, xK h10 a = xK h9 a := fun a => by rw [e10, xK_sR]
  have na : ∀ a, xN h10 a = if a = 85 then 48 else if a = 84 then 4 else if a = 83 then 192 else if a = 82 then 16 else if a = 81 then 20 else xN h a := fun a => by rw [e10, xN_sR, e9, xN_nw, e8, xN_sR, e7, xN_nw, e6, xN_sR, e5, xN_nw, e4, xN_sR, e3, xN_nw, e2, xN_sR, e1, xN_nw]; rfl
  have ra : ∀ j, xR h10 80 j = if j = 7 then 85 else if j = 6 then 84 else if j = 5 then 83 else if j = 4 then 82 else if j = 2 then 81 else xR h 80 j := fun j => by
    rw [e10, xR_sR, e9, xR_nw, e8, xR_sR, e7, xR_nw, e6, xR_sR, e5, xR_nw, e4, xR_sR, e3, xR_nw, e2, xR_sR, e1, xR_nw]
    simp
  have oa : off (fun a => 80 ≤ a ∧ a < 86) h h10 := by
    rw [e10, e9, e8, e7, e6, e5, e4, e3, e2, e1]
    exact (((((((((off.rf.nw (by omega)).sR (by omega)).nw (by omega)).sR (by omega)).nw (by omega)).sR (by omega)).nw (by omega)).sR (by omega)).nw (by omega)).sR (by omega)
  refine k h10 oa ⟨?_, ?_, ?_, ?_, ?_, ?_, ?_, ?_, ?_, ?_, ?_, ?_, ?_, ?_, ?_, ?_⟩
  · rw [ka, k9]; simp; exact hk
  · rw [ra]; rfl
  · rw [ra]; rfl
  · rw [ra]; rfl
  · rw [ra]; rfl
  · rw [ra]; rfl
  · rw [ka, k9]; rfl
  · rw [na]; rfl
  · rw [ka, k9]; rfl
  · rw [na]; rfl
  · rw [ka, k9]; rfl
  · rw [na]; rfl
  · rw [ka, k9]; rfl
  · rw [na]; rfl
  · rw [ka, k9]; rfl
  · rw [na]; rfl
theorem ct_G_init (hk : xK h 20 = 1) (hz : ∀ i, xI h 20 i = 0) (hf : ∀ a, 21 ≤ a → a < 86 → xK h a = 0) (k : ∀ h', off (fun a => 20 ≤ a ∧ a < 86) h h' → GS h' → (∀ i, xI h' 20 i = 0) → Ψ none h') : Ev l D Y_G_init (d + 2) (kc + 65) (ks + 2985) 0 [some (vr 20)] [] h Ψ := by
  apply s_G_init_0
  refine ⟨by rw [hk]; decide, 21, by omega, hf 21 (by omega) (by omega), fun h1 e1 => ?_⟩
  have k1 : ∀ a, xK h1 a = if a = 21 then 22 else xK h a := fun a => by rw [e1, xK_nw]
  refine ⟨by rw [k1, if_neg (by omega)]; exact hk, by omega, fun h2 e2 => ⟨22, by omega, by rw [e2, xK_sR, k1, if_neg (by omega)]; exact hf 22 (by omega) (by omega), fun h3 e3 => ?_⟩⟩
  have k3 : ∀ a, xK h3 a = if a = 22 then 23 else if a = 21 then 22 else xK h a := fun a => by rw [e3, xK_nw, e2, xK_sR, k1]
  refine ⟨by rw [k3, if_neg (by omega), if_neg (by omega)]; exact hk, by omega, fun h4 e4 => ⟨23, by omega, by rw [e4, xK_sR, k3, if_neg (by omega), if_neg (by omega)]; exact hf 23 (by omega) (by omega), fun h5 e5 => ?_⟩⟩
  have k5 : ∀ a, xK h5 a = if a = 23 then 21 else if a = 22 then 23 else if a = 21 then 22 else xK h a := fun a => by rw [e5, xK_nw, e4, xK_sR, k3]
  refine ⟨by rw [k5, if_neg (by omega), if_neg (by omega), if_neg (by omega)]; exact hk, by omega, fun h6 e6 => ⟨24, by omega, by rw [e6, xK_sR, k5, if_neg (by omega), if_neg (by omega), if_neg (by omega)]; exact hf 24 (by omega) (by omega), fun h7 e7 => ?_⟩⟩
  have k7 : ∀ a, xK h7 a = if a = 24 then 21 else if a = 23 then 21 else if a = 22 then 23 else if a = 21 then 22 else xK h a := fun a => by rw [e7, xK_nw, e6, xK_sR, k5]
  have n7 : ∀ a, xN h7 a = if a = 24 then 16 else if a = 23 then 16 else if a = 22 then 48 else if a = 21 then 16 else xN h a := fun a => by rw [e7, xN_nw, e6, xN_sR, e5, xN_nw, e4, xN_sR, e3, xN_nw, e2, xN_sR, e1, xN_nw]; rfl
  have r7 : ∀ j, xR h7 20 j = if j = 9 then 23 else if j = 2 then 22 else if j = 0 then 21 else xR h 20 j := fun j => by
    rw [e7, xR_nw, e6, xR_sR, e5, xR_nw, e4, xR_sR, e3, xR_nw, e2, xR_sR, e1, xR_nw]
    simp
  have i7 : ∀ j, xI h7 20 j = 0 := fun j => by
    rw [e7, xI_nw, e6, xI_sR, e5, xI_nw, e4, xI_sR, e3, xI_nw, e2, xI_sR, e1, xI_nw]
    simp [hz]
  have o7 : off (fun a => 20 ≤ a ∧ a < 86) h h7 := by
    rw [e7, e6, e5, e4, e3, e2, e1]
    exact ((((((off.rf.nw (by omega)).sR (by omega)).nw (by omega)).sR (by omega)).nw (by omega)).sR (by omega)).nw (by omega)
  clear e7 e6 e5 e4 e3 e2 e1 k5 k3 k1
  have k70 : xK h7 20 = 1 := by rw [k7, if_neg (by omega), if_neg (by omega), if_neg (by omega), if_neg (by omega)]; exact hk
  refine ⟨k70, by omega, fun h8 e8 => ⟨25, by omega, fun j hj => by rw [e8, xK_sR, k7, if_neg (by omega), if_neg (by omega), if_neg (by omega), if_neg (by omega)]; exact hf _ (by omega) (by omega), fun h9 e9 => ?_⟩⟩
  have k9 : ∀ a, xK h9 a = if a = 25 then 25 else if 25 < a ∧ a ≤ 25 + 4 then 21 else xK h7 a := fun a => by rw [e9, xK_grid, e8, xK_sR]
  refine ⟨by rw [k9, if_neg (by omega), if_neg (by omega)]; exact k70, by omega, fun h10 e10 => ⟨30, by omega, fun j hj => by rw [e10, xK_sR, k9, if_neg (by omega), if_neg (by omega), k7, if_neg (by omega), if_neg (by omega), if_neg (by omega), if_neg (by omega)]; exact hf _ (by omega) (by omega), fun h11 e11 => ?_⟩⟩
  have k11 : ∀ a, xK h11 a = if a = 30 then 25 else if 30 < a ∧ a ≤ 30 + 48 then 21 else if a = 25 then 25 else if 25 < a ∧ a ≤ 25 + 4 then 21 else xK h7 a := fun a => by rw [e11, xK_grid, e10, xK_sR, k9]
  have n11 : ∀ a, xN h11 a = if a = 30 then 48 else if 30 < a ∧ a ≤ 30 + 48 then 48 else if a = 25 then 4 else if 25 < a ∧ a ≤ 25 + 4 then 48 else xN h7 a := fun a => by rw [e11, xN_grid, e10, xN_sR, e9, xN_grid, e8, xN_sR]
  have k110 : xK h11 20 = 1 := by rw [k11, if_neg (by omega), if_neg (by omega), if_neg (by omega), if_neg (by omega)]; exact k70
  have r11 : ∀ j, xR h11 20 j = if j = 11 then 25 else if j = 10 then 24 else xR h7 20 j := fun j => by
    rw [e11, xR_grid, e10, xR_sR, e9, xR_grid, e8, xR_sR]
    simp
  have rb : ∀ b, b < 4 → xR h11 25 b = 26 + b := fun b hb => by
    rw [e11, xR_grid, if_neg (by omega), if_neg (by omega), e10, xR_sR, if_neg (by omega), e9, xR_grid, if_pos rfl, if_pos hb]
  have rl : ∀ b, b < 48 → xR h11 30 b = 31 + b := fun b hb => by
    rw [e11, xR_grid, if_pos rfl, if_pos hb]
  have i11 : ∀ j, xI h11 20 j = 0 := fun j => by
    rw [e11, xI_grid, if_neg (by omega), e10, xI_sR, e9, xI_grid, if_neg (by omega), e8, xI_sR]; exact i7 j
  have og : ∀ (a : Nat), ¬ (20 ≤ a ∧ a < 86) → ∀ (g : Hp) (b n m : Nat), 20 ≤ b → b + n < 86 → sa g (grid g b n m) a := fun a ha g b n m h1 h2 => ⟨by rw [xK_grid, if_neg (by omega), if_neg (by omega)], by rw [xN_grid, if_neg (by omega), if_neg (by omega)], fun j => by rw [xI_grid, if_neg (by omega)], fun j => by rw [xR_grid, if_neg (by omega), if_neg (by omega)], fun j => by rw [xL_grid, if_neg (by omega)]⟩
  have o11 : off (fun a => 20 ≤ a ∧ a < 86) h h11 := by
    have o8 : off (fun a => 20 ≤ a ∧ a < 86) h h8 := by rw [e8]; exact o7.sR (by omega)
    have o9 : off (fun a => 20 ≤ a ∧ a < 86) h h9 := fun a ha => (o8 a ha).tr (by rw [e9]; exact og a ha _ _ _ _ (by omega) (by omega))
    have o10 : off (fun a => 20 ≤ a ∧ a < 86) h h10 := by rw [e10]; exact o9.sR (by omega)
    exact fun a ha => (o10 a ha).tr (by rw [e11]; exact og a ha _ _ _ _ (by omega) (by omega))
  clear e11 e10 e9 e8 k9
  refine ⟨k110, by omega, fun h12 e12 => ⟨80, by omega, by rw [e12, xK_sR, k11, if_neg (by omega), if_neg (by omega), if_neg (by omega), if_neg (by omega), k7, if_neg (by omega), if_neg (by omega), if_neg (by omega), if_neg (by omega)]; exact hf 80 (by omega) (by omega), fun h13 e13 => ?_⟩⟩
  have k13 : ∀ a, xK h13 a = if a = 80 then 2 else xK h11 a := fun a => by rw [e13, xK_nw, e12, xK_sR]
  have n13 : ∀ a, xN h13 a = if a = 80 then 0 else xN h11 a := fun a => by rw [e13, xN_nw, e12, xN_sR]
  have r13 : ∀ a j, ¬ a = 80 → xR h13 a j = if a = 20 ∧ j = 12 then 30 else xR h11 a j := fun a j ha => by rw [e13, xR_nw, if_neg ha, e12, xR_sR]
  have i13 : ∀ j, xI h13 20 j = 0 := fun j => by rw [e13, xI_nw, if_neg (by omega), e12, xI_sR]; exact i11 j
  have o13 : off (fun a => 20 ≤ a ∧ a < 86) h h13 := by rw [e13, e12]; exact (o11.sR (by omega)).nw (by omega)
  clear e13 e12
  refine ⟨by rw [k13, if_pos rfl]; decide, ct_Run_init (by rw [k13, if_pos rfl]) (fun a g1 g2 => by rw [k13, if_neg (by omega), k11, if_neg (by omega), if_neg (by omega), if_neg (by omega), if_neg (by omega), k7, if_neg (by omega), if_neg (by omega), if_neg (by omega), if_neg (by omega)]; exact hf a (by omega) (by omega)) (fun h14 o14 f14 => ?_)⟩
  have e14 : ∀ a, ¬ (80 ≤ a ∧ a < 86) → sa h13 h14 a := o14
  have k140 : xK h14 20 = 1 := by rw [(e14 20 (by omega)).1, k13, if_neg (by omega)]; exact k110
  refine ⟨k140, by omega, fun h15 e15 => ⟨79, by omega, by rw [e15, xK_sR, (e14 79 (by omega)).1, k13, if_neg (by omega), k11, if_neg (by omega), if_neg (by omega), if_neg (by omega), if_neg (by omega), k7, if_neg (by omega), if_neg (by omega), if_neg (by omega), if_neg (by omega)]; exact hf 79 (by omega) (by omega), fun h16 e16 => ?_⟩⟩
  have k16 : ∀ a, xK h16 a = if a = 79 then 20 else xK h14 a := fun a => by rw [e16, xK_nw, e15, xK_sR]
  refine ⟨by rw [k16, if_neg (by omega)]; exact k140, by omega, fun h17 e17 => ?_⟩
  have k17 : ∀ a, xK h17 a = if a = 79 then 20 else xK h14 a := fun a => by rw [e17, xK_sR, k16]
  have n17 : ∀ a, xN h17 a = if a = 79 then 48 else xN h14 a := fun a => by rw [e17, xN_sR, e16, xN_nw, e15, xN_sR]; rfl
  have r17 : ∀ a j, ¬ a = 79 → xR h17 a j = if a = 20 ∧ j = 14 then 79 else if a = 20 ∧ j = 13 then 80 else xR h14 a j := fun a j ha => by rw [e17, xR_sR, e16, xR_nw, if_neg ha, e15, xR_sR]
  have i17 : ∀ j, xI h17 20 j = 0 := fun j => by rw [e17, xI_sR, e16, xI_nw, if_neg (by omega), e15, xI_sR, (e14 20 (by omega)).2.2.1]; exact i13 j
  have o17 : off (fun a => 20 ≤ a ∧ a < 86) h h17 := by
    rw [e17, e16, e15]
    exact (((o13.tr (o14.mono (fun a z => by have z' : 80 ≤ a ∧ a < 86 := z; show 20 ≤ a ∧ a < 86; omega))).sR (by omega)).nw (by omega)).sR (by omega)
  clear e17 e16 e15
  have kA : ∀ a, ¬ a = 79 → ¬ (80 ≤ a ∧ a < 86) → xK h17 a = xK h11 a := fun a z1 z2 => by rw [k17, if_neg z1, (e14 a z2).1, k13, if_neg (by omega)]
  have nA : ∀ a, ¬ a = 79 → ¬ (80 ≤ a ∧ a < 86) → xN h17 a = xN h11 a := fun a z1 z2 => by rw [n17, if_neg z1, (e14 a z2).2.1, n13, if_neg (by omega)]
  have rA' : ∀ a j, ¬ a = 79 → ¬ (80 ≤ a ∧ a < 86) → ¬ (a = 20 ∧ (j = 12 ∨ j = 13 ∨ j = 14)) → xR h17 a j = xR h11 a j := fun a j z1 z2 z3 => by rw [r17 a j z1, if_neg (by omega), if_neg (by omega), (e14 a z2).2.2.2.1, r13 a j (by omega), if_neg (by omega)]
  obtain ⟨s1, s2, s3, s4, s5, s6, s7, s8, s9, s10, s11, s12, s13, s14, s15, s16⟩ := f14
  have kR : ∀ a, 80 ≤ a → a < 86 → xK h17 a = xK h14 a := fun a _ _ => by rw [k17, if_neg (by omega)]
  have nR : ∀ a, 80 ≤ a → a < 86 → xN h17 a = xN h14 a := fun a _ _ => by rw [n17, if_neg (by omega)]
  have rR : ∀ j, xR h17 80 j = xR h14 80 j := fun j => by rw [r17 80 j (by omega), if_neg (by omega), if_neg (by omega)]
  refine k h17 o17 ⟨?_, ?_, ?_, ?_, ?_, ?_, ?_, ?_, ?_, ?_, ?_, ?_, ?_, ?_, ?_, ?_, ?_, ?_, ?_, ?_, ?_, ?_, ?_, ?_, ?_, ?_, ?_, ?_, ?_, ?_, ?_, ?_, ?_, ?_, ?_, ?_, ?_, ?_, ?_, fun b hb => ⟨?_, ?_, ?_⟩, fun b hb => ⟨?_, ?_, ?_⟩⟩ i17
  · rw [kA 20 (by omega) (by omega)]; exact k110
  · rw [rA' 20 0 (by omega) (by omega) (by omega), r11, r7]; rfl
  · rw [rA' 20 2 (by omega) (by omega) (by omega), r11, r7]; rfl
  · rw [rA' 20 9 (by omega) (by omega) (by omega), r11, r7]; rfl
  · rw [rA' 20 10 (by omega) (by omega) (by omega), r11]; rfl
  · rw [rA' 20 11 (by omega) (by omega) (by omega), r11]; rfl
  · rw [r17 20 12 (by omega), if_neg (by omega), if_neg (by omega), (e14 20 (by omega)).2.2.2.1, r13 20 12 (by omega), if_pos ⟨rfl, rfl⟩]
  · rw [r17 20 13 (by omega), if_neg (by omega), if_pos ⟨rfl, rfl⟩]
  · rw [r17 20 14 (by omega), if_pos ⟨rfl, rfl⟩]
  · rw [kA 21 (by omega) (by omega), k11, k7]; rfl
  · rw [nA 21 (by omega) (by omega), n11, n7]; rfl
  · rw [kA 22 (by omega) (by omega), k11, k7]; rfl
  · rw [nA 22 (by omega) (by omega), n11, n7]; rfl
  · rw [kA 23 (by omega) (by omega), k11, k7]; rfl
  · rw [nA 23 (by omega) (by omega), n11, n7]; rfl
  · rw [kA 24 (by omega) (by omega), k11, k7]; rfl
  · rw [nA 24 (by omega) (by omega), n11, n7]; rfl
  · rw [kA 25 (by omega) (by omega), k11]; rfl
  · rw [nA 25 (by omega) (by omega), n11]; rfl
  · rw [kA 30 (by omega) (by omega), k11]; rfl
  · rw [nA 30 (by omega) (by omega), n11]; rfl
  · rw [k17, if_pos rfl]
  · rw [n17, if_pos rfl]
  · rw [kR 80 (by omega) (by omega)]; exact s1
  · rw [rR]; exact s2
  · rw [rR]; exact s3
  · rw [rR]; exact s4
  · rw [rR]; exact s5
  · rw [rR]; exact s6
  · rw [kR 81 (by omega) (by omega)]; exact s7
  · rw [nR 81 (by omega) (by omega)]; exact s8
  · rw [kR 82 (by omega) (by omega)]; exact s9
  · rw [nR 82 (by omega) (by omega)]; exact s10
  · rw [kR 83 (by omega) (by omega)]; exact s11
  · rw [nR 83 (by omega) (by omega)]; exact s12
  · rw [kR 84 (by omega) (by omega)]; exact s13
  · rw [nR 84 (by omega) (by omega)]; exact s14
  · rw [kR 85 (by omega) (by omega)]; exact s15
  · rw [nR 85 (by omega) (by omega)]; exact s16
  · rw [rA' 25 b (by omega) (by omega) (by omega)]; exact rb b hb
  · rw [kA _ (by omega) (by omega), k11, if_neg (by omega), if_neg (by omega), if_neg (by omega), if_pos (by omega)]
  · rw [nA _ (by omega) (by omega), n11, if_neg (by omega), if_neg (by omega), if_neg (by omega), if_pos (by omega)]
  · rw [rA' 30 b (by omega) (by omega) (by omega)]; exact rl b hb
  · rw [kA _ (by omega) (by omega), k11, if_neg (by omega), if_pos (by omega)]
  · rw [nA _ (by omega) (by omega), n11, if_neg (by omega), if_pos (by omega)]
end INI
