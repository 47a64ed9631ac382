/-! the law's loop -/
theorem MS_ag {h h' : Hp} (e : agM h h') (hM : MS h) : MS h' := by
  obtain ⟨m0, m1, m2, m3, m4, m5, m6, m7, m8, m9, m10, m11, m12, m13, m14, m15, m16, m17, m18, m19, m20, m21, m22, m23, m24, m25, m26, m27, m28, m29, m30, m31, m32, m33, m34, m35, m36, m37, m38, m39, m40, m41, m42, m43, m44, m45, m46, m47, m48, m49, m50, m51, m52, m53, m54, m55, m56, m57, m58, m59, m60, m61, m62, m63, m64, m65, m66, m67, m68, m69, m70, m71, m72, m73, m74, m75, m76, m77, m78, m79, m80, m81, m82, m83, m84, m85, m86, m87, m88, m89, m90, m91, m92, m93, m94, m95, m96, m97, m98, m99, m100, m101, m102, m103, m104, m105, m106, m107, m108⟩ := hM
  exact ⟨(e 100 (by omega)).1.trans m0, ((e 100 (by omega)).2.2.2.1 1).trans m1, ((e 100 (by omega)).2.2.2.1 2).trans m2, ((e 100 (by omega)).2.2.2.1 3).trans m3, ((e 100 (by omega)).2.2.2.1 4).trans m4, ((e 100 (by omega)).2.2.2.1 6).trans m5, ((e 100 (by omega)).2.2.2.1 7).trans m6, ((e 100 (by omega)).2.2.2.1 8).trans m7, ((e 100 (by omega)).2.2.2.1 9).trans m8, ((e 100 (by omega)).2.2.2.1 10).trans m9, ((e 100 (by omega)).2.2.2.1 11).trans m10, ((e 100 (by omega)).2.2.2.1 13).trans m11, ((e 100 (by omega)).2.2.2.1 14).trans m12, ((e 100 (by omega)).2.2.2.1 15).trans m13, ((e 100 (by omega)).2.2.2.1 18).trans m14, ((e 100 (by omega)).2.2.2.1 19).trans m15, ((e 100 (by omega)).2.2.2.1 20).trans m16, ((e 100 (by omega)).2.2.2.1 21).trans m17, ((e 100 (by omega)).2.2.2.1 22).trans m18, ((e 100 (by omega)).2.2.2.1 23).trans m19, ((e 100 (by omega)).2.2.2.1 24).trans m20, ((e 100 (by omega)).2.2.2.1 25).trans m21, ((e 100 (by omega)).2.2.2.1 27).trans m22, ((e 100 (by omega)).2.2.2.1 28).trans m23, ((e 100 (by omega)).2.2.2.1 29).trans m24, ((e 100 (by omega)).2.2.2.1 30).trans m25, ((e 100 (by omega)).2.2.2.1 31).trans m26, ((e 100 (by omega)).2.2.2.1 32).trans m27, ((e 100 (by omega)).2.2.2.1 33).trans m28, ((e 100 (by omega)).2.2.2.1 34).trans m29, ((e 100 (by omega)).2.2.2.1 35).trans m30, ((e 100 (by omega)).2.2.2.1 36).trans m31, ((e 100 (by omega)).2.2.2.1 44).trans m32, ((e 100 (by omega)).2.2.2.1 45).trans m33, ((e 100 (by omega)).2.2.2.1 46).trans m34, ((e 100 (by omega)).2.2.2.1 48).trans m35, ((e 100 (by omega)).2.2.2.1 49).trans m36, (e 102 (by omega)).1.trans m37, (e 102 (by omega)).2.1.trans m38, (e 103 (by omega)).1.trans m39, (e 103 (by omega)).2.1.trans m40, (e 104 (by omega)).1.trans m41, (e 104 (by omega)).2.1.trans m42, (e 105 (by omega)).1.trans m43, (e 105 (by omega)).2.1.trans m44, (e 107 (by omega)).1.trans m45, (e 107 (by omega)).2.1.trans m46, (e 108 (by omega)).1.trans m47, (e 108 (by omega)).2.1.trans m48, (e 109 (by omega)).1.trans m49, (e 109 (by omega)).2.1.trans m50, (e 110 (by omega)).1.trans m51, (e 110 (by omega)).2.1.trans m52, (e 111 (by omega)).1.trans m53, (e 111 (by omega)).2.1.trans m54, (e 112 (by omega)).1.trans m55, (e 112 (by omega)).2.1.trans m56, (e 114 (by omega)).1.trans m57, (e 114 (by omega)).2.1.trans m58, (e 115 (by omega)).1.trans m59, (e 115 (by omega)).2.1.trans m60, (e 116 (by omega)).1.trans m61, (e 116 (by omega)).2.1.trans m62, (e 119 (by omega)).1.trans m63, (e 119 (by omega)).2.1.trans m64, (e 120 (by omega)).1.trans m65, (e 120 (by omega)).2.1.trans m66, (e 121 (by omega)).1.trans m67, (e 121 (by omega)).2.1.trans m68, (e 122 (by omega)).1.trans m69, (e 122 (by omega)).2.1.trans m70, (e 123 (by omega)).1.trans m71, (e 123 (by omega)).2.1.trans m72, (e 124 (by omega)).1.trans m73, (e 124 (by omega)).2.1.trans m74, (e 125 (by omega)).1.trans m75, (e 125 (by omega)).2.1.trans m76, (e 126 (by omega)).1.trans m77, (e 126 (by omega)).2.1.trans m78, (e 128 (by omega)).1.trans m79, (e 128 (by omega)).2.1.trans m80, (e 129 (by omega)).1.trans m81, (e 129 (by omega)).2.1.trans m82, (e 130 (by omega)).1.trans m83, (e 130 (by omega)).2.1.trans m84, (e 131 (by omega)).1.trans m85, (e 131 (by omega)).2.1.trans m86, (e 132 (by omega)).1.trans m87, (e 132 (by omega)).2.1.trans m88, (e 133 (by omega)).1.trans m89, (e 133 (by omega)).2.1.trans m90, (e 134 (by omega)).1.trans m91, (e 134 (by omega)).2.1.trans m92, (e 135 (by omega)).1.trans m93, (e 135 (by omega)).2.1.trans m94, (e 136 (by omega)).1.trans m95, (e 136 (by omega)).2.1.trans m96, (e 137 (by omega)).1.trans m97, (e 137 (by omega)).2.1.trans m98, (e 145 (by omega)).1.trans m99, (e 145 (by omega)).2.1.trans m100, (e 146 (by omega)).1.trans m101, (e 146 (by omega)).2.1.trans m102, (e 147 (by omega)).1.trans m103, (e 147 (by omega)).2.1.trans m104, (e 149 (by omega)).1.trans m105, (e 149 (by omega)).2.1.trans m106, (e 150 (by omega)).1.trans m107, (e 150 (by omega)).2.1.trans m108⟩
theorem Ms_ag {p : Pg} {h h' : Hp} (e : agM h h') (q : Ms p h) : Ms p h' := by
  obtain ⟨⟨q1, q2, q3, q4, q5⟩, q6, q7⟩ := q
  have i : ∀ a k, 100 ≤ a → a < 151 → xI h' a k = xI h a k := fun a k h1 h2 => (e a (Or.inr ⟨h1, h2⟩)).2.2.1 k
  refine ⟨⟨MS_ag e q1, fun a k hs => ?_, q3, by rw [i _ _ (by omega) (by omega)]; exact q4, fun c t u ht hu => ?_⟩, by rw [i _ _ (by omega) (by omega)]; exact q6, fun c => ?_⟩
  · rw [i a k (by have := sta_iff.mp hs; omega) (by have := sta_iff.mp hs; omega)]; exact q2 a k hs
  · rw [i _ _ (by omega) (by omega)] at c ⊢; exact q5 c t u ht hu
  · rw [i _ _ (by omega) (by omega)] at c
    obtain ⟨g1, g2⟩ := q7 c
    refine ⟨fun a k hd => ?_, fun a c2 ha hc => ⟨?_, ?_⟩⟩
    · rw [i a k (by unfold dyn at hd; omega) (by unfold dyn at hd; omega)]; exact g1 a k hd
    · rw [i _ _ (by omega) (by omega)]; exact (g2 a c2 ha hc).1
    · rw [i _ _ (by omega) (by omega)]; exact (g2 a c2 ha hc).2
theorem CA_x {p : Pg} {h h' : Hp} (e1 : h'.1 = h.1) (e2 : ∀ a k, xR h' a k = xR h a k) (e3 : ∀ a k, ¬ mdl a k → xI h' a k = xI h a k) (q : CA p h) : CA p h' := by
  have f : fx mdl (fun _ _ => False) h (h'.1, h'.2.1, h'.2.2.1, h.2.2.2) := ⟨e1, e3, fun a k _ => e2 a k, fun _ _ => rfl⟩
  have z := Cs_fx f (fun a k z => by have z' : 100 ≤ a ∧ a < 151 := z; unfold cst drx cdx; omega) (fun a k z => z.elim) q.1
  have kk : ∀ a, xK h' a = xK h a := fun a => by unfold xK; rw [e1]
  have nn : ∀ a, xN h' a = xN h a := fun a => by unfold xN; rw [e1]
  obtain ⟨_, ⟨a1, a2, a3, a4, a5⟩, ⟨b1, b2, b3, b4, b5, b6⟩⟩ := q
  exact ⟨z, ⟨fun t j x y z => by rw [kk]; exact a1 t j x y z, fun t j x y z => by rw [kk]; exact a2 t j x y z, fun t j x y z => by rw [kk]; exact a3 t j x y z, fun t x y => by rw [kk]; exact a4 t x y, fun t x y => by rw [kk]; exact a5 t x y⟩, ⟨by rw [kk]; exact b1, by rw [nn]; exact b2, by rw [kk]; exact b3, by rw [nn]; exact b4, fun i hi => by rw [e2]; exact b5 i hi, fun i hi => by rw [e2]; exact b6 i hi⟩⟩
theorem CA_sm {p : Pg} {h h' : Hp} (s : sm mdl h h') (q : CA p h) : CA p h' := CA_x s.1 s.R s.2.2 q
theorem CA_mf {p : Pg} {h h' : Hp} (s : mfr h h') (q : CA p h) : CA p h' := CA_x s.1 (fun a k => by unfold xR; rw [s.2.1]) s.2.2.1 q
/-- the script -/
def Sc0 (N : Nat) (sc : Nat → Int) (h : Hp) : Prop := xK h 11 = 28 ∧ xN h 11 = N ∧ ∀ j, xI h 11 j = sc j
theorem Sc0.ag {N : Nat} {sc : Nat → Int} {h h' : Hp} (q : Sc0 N sc h) (e : agM h h') : Sc0 N sc h' := ⟨(e 11 (Or.inl rfl)).1.trans q.1, (e 11 (Or.inl rfl)).2.1.trans q.2.1, fun j => ((e 11 (Or.inl rfl)).2.2.1 j).trans (q.2.2 j)⟩
theorem Sc0.x {N : Nat} {sc : Nat → Int} {h h' : Hp} (q : Sc0 N sc h) (e1 : h'.1 = h.1) (e3 : ∀ a k, ¬ mdl a k → xI h' a k = xI h a k) : Sc0 N sc h' := ⟨by unfold xK; rw [e1]; exact q.1, by unfold xN; rw [e1]; exact q.2.1, fun j => (e3 11 j (fun z => by have z' : 100 ≤ 11 ∧ 11 < 151 := z; omega)).trans (q.2.2 j)⟩
def LSt (N : Nat) (sc : Nat → Int) (h : Hp) : Prop := Sc0 N sc h ∧ ∃ p, CA p h ∧ Ms p h
section LAW
variable {l : Launch} {D : DD} {d kc ks N : Nat} {h : Hp} {Ψ : Option AV → Hp → Prop} {sc : Nat → Int}
theorem lw_116 {i : Nat} (q : LSt N sc h) (hi : i + 5 ≤ N) (hN : N ≤ 2560) (_hs : ∀ j, sc j ≤ 2147483647) (nx : ∀ h', LSt N sc h' → Ev l D Y_Law_law (d + 80) kc (ks + 18) 793 [some (vr 11), some (vr 20), some (vr 100), some (vi (i : Int))] [] h' Ψ) : Ev l D Y_Law_law (d + 80) (kc + 5) (ks + 58) 116 [some (vr 11), some (vr 20), some (vr 100), some (vi (i : Int))] [] h Ψ := by
  obtain ⟨⟨s1, s2, s3⟩, p, ca, ms⟩ := q
  apply s_Law_law_116
  rw [wr_eq (x := (i : Int) + 1) (by omega) (by omega), show ((i : Int) + 1).toNat = i + 1 by omega, s3, wr_eq (x := (i : Int) + 2) (by omega) (by omega), show ((i : Int) + 2).toNat = i + 2 by omega, s3]
  refine ⟨s1, by omega, by omega, s1, by omega, by omega, ca.1.1.sh.1, ct_G_type (kc := 0) (ks := 0) ca (fun h1 ag ca1 => ?_)⟩
  obtain ⟨u1, u2, u3⟩ := Sc0.ag ⟨s1, s2, s3⟩ ag
  have ms1 := Ms_ag ag ms
  refine ⟨u1, by omega, by omega, u1, by omega, by omega, ms1.1.1.1, ?_⟩
  rw [u3 (i + 1), u3 (i + 2)]
  exact ct_M_type ms1 (fun h2 s2' ms2 => ⟨fun _ => nx h2 ⟨Sc0.x ⟨u1, u2, u3⟩ s2'.1 s2'.2.2, _, CA_sm s2' ca1, ms2⟩, fun c => absurd rfl c⟩)
theorem lw_149 {i : Nat} (q : LSt N sc h) (hi : i + 5 ≤ N) (hN : N ≤ 2560) (_hs : ∀ j, sc j ≤ 2147483647) (nx : ∀ h', LSt N sc h' → Ev l D Y_Law_law (d + 80) (kc + 5) (ks + 58) 793 [some (vr 11), some (vr 20), some (vr 100), some (vi (i : Int))] [] h' Ψ) : Ev l D Y_Law_law (d + 80) (kc + 5) (ks + 58) 149 [some (vr 11), some (vr 20), some (vr 100), some (vi (i : Int))] [] h Ψ := by
  obtain ⟨⟨s1, s2, s3⟩, p, ca, ms⟩ := q
  apply s_Law_law_149
  rw [wr_eq (x := (i : Int) + 1) (by omega) (by omega), show ((i : Int) + 1).toNat = i + 1 by omega, s3, wr_eq (x := (i : Int) + 2) (by omega) (by omega), show ((i : Int) + 2).toNat = i + 2 by omega, s3]
  refine ⟨s1, by omega, by omega, s1, by omega, by omega, ca.1.1.sh.1, ct_G_face ca (fun h1 ag ca1 => ?_)⟩
  obtain ⟨u1, u2, u3⟩ := Sc0.ag ⟨s1, s2, s3⟩ ag
  have ms1 := Ms_ag ag ms
  refine ⟨u1, by omega, by omega, u1, by omega, by omega, ms1.1.1.1, ?_⟩
  rw [u3 (i + 1), u3 (i + 2)]
  exact ct_M_face ms1 (fun h2 s2' ms2 => ⟨fun _ => nx h2 ⟨Sc0.x ⟨u1, u2, u3⟩ s2'.1 s2'.2.2, _, CA_sm s2' ca1, ms2⟩, fun c => absurd rfl c⟩)
theorem lw_182 {i : Nat} (q : LSt N sc h) (hi : i + 5 ≤ N) (hN : N ≤ 2560) (_hs : ∀ j, sc j ≤ 2147483647) (nx : ∀ h', LSt N sc h' → Ev l D Y_Law_law (d + 80) (kc + 2) (ks + 21) 793 [some (vr 11), some (vr 20), some (vr 100), some (vi (i : Int))] [] h' Ψ) : Ev l D Y_Law_law (d + 80) (kc + 5) (ks + 58) 182 [some (vr 11), some (vr 20), some (vr 100), some (vi (i : Int))] [] h Ψ := by
  obtain ⟨⟨s1, s2, s3⟩, p, ca, ms⟩ := q
  apply s_Law_law_182
  rw [wr_eq (x := (i : Int) + 1) (by omega) (by omega), show ((i : Int) + 1).toNat = i + 1 by omega, s3, wr_eq (x := (i : Int) + 2) (by omega) (by omega), show ((i : Int) + 2).toNat = i + 2 by omega, s3, wr_eq (x := (i : Int) + 3) (by omega) (by omega), show ((i : Int) + 3).toNat = i + 3 by omega, s3]
  refine ⟨s1, by omega, by omega, s1, by omega, by omega, s1, by omega, by omega, ca.1.1.sh.1, ct_G_member (kc := 0) (ks := 0) ca (fun h1 ag ca1 => ?_)⟩
  obtain ⟨u1, u2, u3⟩ := Sc0.ag ⟨s1, s2, s3⟩ ag
  have ms1 := Ms_ag ag ms
  refine ⟨u1, by omega, by omega, u1, by omega, by omega, u1, by omega, by omega, ms1.1.1.1, ?_⟩
  rw [u3 (i + 1), u3 (i + 2), u3 (i + 3)]
  exact ct_M_member ms1 (fun h2 s2' ms2 => ⟨fun _ => nx h2 ⟨Sc0.x ⟨u1, u2, u3⟩ s2'.1 s2'.2.2, _, CA_sm s2' ca1, ms2⟩, fun c => absurd rfl c⟩)
theorem lw_225 {i : Nat} (q : LSt N sc h) (hi : i + 5 ≤ N) (hN : N ≤ 2560) (_hs : ∀ j, sc j ≤ 2147483647) (nx : ∀ h', LSt N sc h' → Ev l D Y_Law_law (d + 80) (kc + 2) ks 793 [some (vr 11), some (vr 20), some (vr 100), some (vi (i : Int))] [] h' Ψ) : Ev l D Y_Law_law (d + 80) (kc + 5) (ks + 58) 225 [some (vr 11), some (vr 20), some (vr 100), some (vi (i : Int))] [] h Ψ := by
  obtain ⟨⟨s1, s2, s3⟩, p, ca, ms⟩ := q
  apply s_Law_law_225
  rw [wr_eq (x := (i : Int) + 1) (by omega) (by omega), show ((i : Int) + 1).toNat = i + 1 by omega, s3, wr_eq (x := (i : Int) + 2) (by omega) (by omega), show ((i : Int) + 2).toNat = i + 2 by omega, s3, wr_eq (x := (i : Int) + 3) (by omega) (by omega), show ((i : Int) + 3).toNat = i + 3 by omega, s3, wr_eq (x := (i : Int) + 4) (by omega) (by omega), show ((i : Int) + 4).toNat = i + 4 by omega, s3]
  refine ⟨s1, by omega, by omega, s1, by omega, by omega, s1, by omega, by omega, s1, by omega, by omega, ca.1.1.sh.1, ct_G_op (kc := 0) (ks := 0) ca (fun h1 ag ca1 => ?_)⟩
  obtain ⟨u1, u2, u3⟩ := Sc0.ag ⟨s1, s2, s3⟩ ag
  have ms1 := Ms_ag ag ms
  refine ⟨u1, by omega, by omega, u1, by omega, by omega, u1, by omega, by omega, u1, by omega, by omega, ms1.1.1.1, ?_⟩
  rw [u3 (i + 1), u3 (i + 2), u3 (i + 3), u3 (i + 4)]
  exact ct_M_op ms1 (fun h2 s2' ms2 => ⟨fun _ => nx h2 ⟨Sc0.x ⟨u1, u2, u3⟩ s2'.1 s2'.2.2, _, CA_sm s2' ca1, ms2⟩, fun c => absurd rfl c⟩)
theorem lw_327 {i : Nat} (q : LSt N sc h) (hi : i + 5 ≤ N) (hN : N ≤ 2560) (_hs : ∀ j, sc j ≤ 2147483647) (nx : ∀ h', LSt N sc h' → Ev l D Y_Law_law (d + 80) (kc + 5) (ks + 58) 793 [some (vr 11), some (vr 20), some (vr 100), some (vi (i : Int))] [] h' Ψ) : Ev l D Y_Law_law (d + 80) (kc + 5) (ks + 58) 327 [some (vr 11), some (vr 20), some (vr 100), some (vi (i : Int))] [] h Ψ := by
  obtain ⟨⟨s1, s2, s3⟩, p, ca, ms⟩ := q
  apply s_Law_law_327
  rw [wr_eq (x := (i : Int) + 1) (by omega) (by omega), show ((i : Int) + 1).toNat = i + 1 by omega, s3]
  refine ⟨s1, by omega, by omega, ca.1.1.sh.1, ct_G_count ca (fun h1 ag ca1 => ?_)⟩
  obtain ⟨u1, u2, u3⟩ := Sc0.ag ⟨s1, s2, s3⟩ ag
  have ms1 := Ms_ag ag ms
  refine ⟨u1, by omega, by omega, ms1.1.1.1, ?_⟩
  rw [u3 (i + 1)]
  exact ct_M_count ms1 (fun h2 s2' ms2 => ⟨fun _ => nx h2 ⟨Sc0.x ⟨u1, u2, u3⟩ s2'.1 s2'.2.2, _, CA_sm s2' ca1, ms2⟩, fun c => absurd rfl c⟩)
theorem lw_350 {i : Nat} (q : LSt N sc h) (hi : i + 5 ≤ N) (hN : N ≤ 2560) (_hs : ∀ j, sc j ≤ 2147483647) (nx : ∀ h', LSt N sc h' → Ev l D Y_Law_law (d + 80) (kc + 5) (ks + 58) 793 [some (vr 11), some (vr 20), some (vr 100), some (vi (i : Int))] [] h' Ψ) : Ev l D Y_Law_law (d + 80) (kc + 5) (ks + 58) 350 [some (vr 11), some (vr 20), some (vr 100), some (vi (i : Int))] [] h Ψ := by
  obtain ⟨⟨s1, s2, s3⟩, p, ca, ms⟩ := q
  apply s_Law_law_350
  rw [wr_eq (x := (i : Int) + 1) (by omega) (by omega), show ((i : Int) + 1).toNat = i + 1 by omega, s3, wr_eq (x := (i : Int) + 2) (by omega) (by omega), show ((i : Int) + 2).toNat = i + 2 by omega, s3]
  refine ⟨s1, by omega, by omega, s1, by omega, by omega, ca.1.1.sh.1, ct_G_under ca (fun h1 ag ca1 => ?_)⟩
  obtain ⟨u1, u2, u3⟩ := Sc0.ag ⟨s1, s2, s3⟩ ag
  have ms1 := Ms_ag ag ms
  refine ⟨u1, by omega, by omega, u1, by omega, by omega, ms1.1.1.1, ?_⟩
  rw [u3 (i + 1), u3 (i + 2)]
  exact ct_M_under ms1 (fun h2 s2' ms2 => ⟨fun _ => nx h2 ⟨Sc0.x ⟨u1, u2, u3⟩ s2'.1 s2'.2.2, _, CA_sm s2' ca1, ms2⟩, fun c => absurd rfl c⟩)
theorem lw_383 {i : Nat} (q : LSt N sc h) (hi : i + 5 ≤ N) (hN : N ≤ 2560) (_hs : ∀ j, sc j ≤ 2147483647) (nx : ∀ h', LSt N sc h' → Ev l D Y_Law_law (d + 80) (kc + 5) (ks + 58) 793 [some (vr 11), some (vr 20), some (vr 100), some (vi (i : Int))] [] h' Ψ) : Ev l D Y_Law_law (d + 80) (kc + 5) (ks + 58) 383 [some (vr 11), some (vr 20), some (vr 100), some (vi (i : Int))] [] h Ψ := by
  obtain ⟨⟨s1, s2, s3⟩, p, ca, ms⟩ := q
  apply s_Law_law_383
  rw [wr_eq (x := (i : Int) + 1) (by omega) (by omega), show ((i : Int) + 1).toNat = i + 1 by omega, s3, wr_eq (x := (i : Int) + 2) (by omega) (by omega), show ((i : Int) + 2).toNat = i + 2 by omega, s3]
  refine ⟨s1, by omega, by omega, s1, by omega, by omega, ca.1.1.sh.1, ct_G_found ca (fun h1 ag ca1 => ?_)⟩
  obtain ⟨u1, u2, u3⟩ := Sc0.ag ⟨s1, s2, s3⟩ ag
  have ms1 := Ms_ag ag ms
  refine ⟨u1, by omega, by omega, u1, by omega, by omega, ms1.1.1.1, ?_⟩
  rw [u3 (i + 1), u3 (i + 2)]
  exact ct_M_found ms1 (fun h2 s2' ms2 => ⟨fun _ => nx h2 ⟨Sc0.x ⟨u1, u2, u3⟩ s2'.1 s2'.2.2, _, CA_sm s2' ca1, ms2⟩, fun c => absurd rfl c⟩)
theorem lw_416 {i : Nat} (q : LSt N sc h) (hi : i + 5 ≤ N) (hN : N ≤ 2560) (_hs : ∀ j, sc j ≤ 2147483647) (nx : ∀ h', LSt N sc h' → Ev l D Y_Law_law (d + 80) (kc + 5) (ks + 58) 793 [some (vr 11), some (vr 20), some (vr 100), some (vi (i : Int))] [] h' Ψ) : Ev l D Y_Law_law (d + 80) (kc + 5) (ks + 58) 416 [some (vr 11), some (vr 20), some (vr 100), some (vi (i : Int))] [] h Ψ := by
  obtain ⟨⟨s1, s2, s3⟩, p, ca, ms⟩ := q
  apply s_Law_law_416
  rw [wr_eq (x := (i : Int) + 1) (by omega) (by omega), show ((i : Int) + 1).toNat = i + 1 by omega, s3, wr_eq (x := (i : Int) + 2) (by omega) (by omega), show ((i : Int) + 2).toNat = i + 2 by omega, s3, wr_eq (x := (i : Int) + 3) (by omega) (by omega), show ((i : Int) + 3).toNat = i + 3 by omega, s3]
  refine ⟨s1, by omega, by omega, s1, by omega, by omega, s1, by omega, by omega, ca.1.1.sh.1, ct_G_chosen ca (fun h1 ag ca1 => ?_)⟩
  obtain ⟨u1, u2, u3⟩ := Sc0.ag ⟨s1, s2, s3⟩ ag
  have ms1 := Ms_ag ag ms
  refine ⟨u1, by omega, by omega, u1, by omega, by omega, u1, by omega, by omega, ms1.1.1.1, ?_⟩
  rw [u3 (i + 1), u3 (i + 2), u3 (i + 3)]
  exact ct_M_chosen ms1 (fun h2 s2' ms2 => ⟨fun _ => nx h2 ⟨Sc0.x ⟨u1, u2, u3⟩ s2'.1 s2'.2.2, _, CA_sm s2' ca1, ms2⟩, fun c => absurd rfl c⟩)
theorem lw_459 {i : Nat} (q : LSt N sc h) (hi : i + 5 ≤ N) (hN : N ≤ 2560) (_hs : ∀ j, sc j ≤ 2147483647) (nx : ∀ h', LSt N sc h' → Ev l D Y_Law_law (d + 80) (kc + 5) (ks + 58) 793 [some (vr 11), some (vr 20), some (vr 100), some (vi (i : Int))] [] h' Ψ) : Ev l D Y_Law_law (d + 80) (kc + 5) (ks + 58) 459 [some (vr 11), some (vr 20), some (vr 100), some (vi (i : Int))] [] h Ψ := by
  obtain ⟨⟨s1, s2, s3⟩, p, ca, ms⟩ := q
  apply s_Law_law_459
  rw [wr_eq (x := (i : Int) + 1) (by omega) (by omega), show ((i : Int) + 1).toNat = i + 1 by omega, s3, wr_eq (x := (i : Int) + 2) (by omega) (by omega), show ((i : Int) + 2).toNat = i + 2 by omega, s3]
  refine ⟨s1, by omega, by omega, s1, by omega, by omega, ca.1.1.sh.1, ct_G_about ca (fun h1 ag ca1 => ?_)⟩
  obtain ⟨u1, u2, u3⟩ := Sc0.ag ⟨s1, s2, s3⟩ ag
  have ms1 := Ms_ag ag ms
  refine ⟨u1, by omega, by omega, u1, by omega, by omega, ms1.1.1.1, ?_⟩
  rw [u3 (i + 1), u3 (i + 2)]
  exact ct_M_about ms1 (fun h2 s2' ms2 => ⟨fun _ => nx h2 ⟨Sc0.x ⟨u1, u2, u3⟩ s2'.1 s2'.2.2, _, CA_sm s2' ca1, ms2⟩, fun c => absurd rfl c⟩)
theorem lw_492 {i : Nat} (q : LSt N sc h) (hi : i + 5 ≤ N) (hN : N ≤ 2560) (_hs : ∀ j, sc j ≤ 2147483647) (nx : ∀ h', LSt N sc h' → Ev l D Y_Law_law (d + 80) (kc + 5) (ks + 58) 793 [some (vr 11), some (vr 20), some (vr 100), some (vi (i : Int))] [] h' Ψ) : Ev l D Y_Law_law (d + 80) (kc + 5) (ks + 58) 492 [some (vr 11), some (vr 20), some (vr 100), some (vi (i : Int))] [] h Ψ := by
  obtain ⟨⟨s1, s2, s3⟩, p, ca, ms⟩ := q
  apply s_Law_law_492
  rw [wr_eq (x := (i : Int) + 1) (by omega) (by omega), show ((i : Int) + 1).toNat = i + 1 by omega, s3, wr_eq (x := (i : Int) + 2) (by omega) (by omega), show ((i : Int) + 2).toNat = i + 2 by omega, s3]
  refine ⟨s1, by omega, by omega, s1, by omega, by omega, ca.1.1.sh.1, ct_G_made ca (fun h1 ag ca1 => ?_)⟩
  obtain ⟨u1, u2, u3⟩ := Sc0.ag ⟨s1, s2, s3⟩ ag
  have ms1 := Ms_ag ag ms
  refine ⟨u1, by omega, by omega, u1, by omega, by omega, ms1.1.1.1, ?_⟩
  rw [u3 (i + 1), u3 (i + 2)]
  exact ct_M_made ms1 (fun h2 s2' ms2 => ⟨fun _ => nx h2 ⟨Sc0.x ⟨u1, u2, u3⟩ s2'.1 s2'.2.2, _, CA_sm s2' ca1, ms2⟩, fun c => absurd rfl c⟩)
theorem lw_525 {i : Nat} (q : LSt N sc h) (hi : i + 5 ≤ N) (hN : N ≤ 2560) (hs : ∀ j, sc j ≤ 2147483647) (nx : ∀ h', LSt N sc h' → Ev l D Y_Law_law (d + 80) (kc + 5) (ks + 58) 793 [some (vr 11), some (vr 20), some (vr 100), some (vi (i : Int))] [] h' Ψ) : Ev l D Y_Law_law (d + 80) (kc + 5) (ks + 58) 525 [some (vr 11), some (vr 20), some (vr 100), some (vi (i : Int))] [] h Ψ := by
  obtain ⟨⟨s1, s2, s3⟩, p, ca, ms⟩ := q
  apply s_Law_law_525
  rw [wr_eq (x := (i : Int) + 1) (by omega) (by omega), show ((i : Int) + 1).toNat = i + 1 by omega, s3, wr_eq (x := (i : Int) + 2) (by omega) (by omega), show ((i : Int) + 2).toNat = i + 2 by omega, s3, wr_eq (x := (i : Int) + 3) (by omega) (by omega), show ((i : Int) + 3).toNat = i + 3 by omega, s3]
  refine ⟨s1, by omega, by omega, s1, by omega, by omega, s1, by omega, by omega, ca.1.1.sh.1, ct_G_callee ca (hs _) (fun h1 ag ca1 => ?_)⟩
  obtain ⟨u1, u2, u3⟩ := Sc0.ag ⟨s1, s2, s3⟩ ag
  have ms1 := Ms_ag ag ms
  refine ⟨u1, by omega, by omega, u1, by omega, by omega, u1, by omega, by omega, ms1.1.1.1, ?_⟩
  rw [u3 (i + 1), u3 (i + 2), u3 (i + 3)]
  exact ct_M_callee ms1 (fun h2 s2' ms2 => ⟨fun _ => nx h2 ⟨Sc0.x ⟨u1, u2, u3⟩ s2'.1 s2'.2.2, _, CA_sm s2' ca1, ms2⟩, fun c => absurd rfl c⟩)
theorem lw_568 {i : Nat} (q : LSt N sc h) (hi : i + 5 ≤ N) (hN : N ≤ 2560) (_hs : ∀ j, sc j ≤ 2147483647) (nx : ∀ h', LSt N sc h' → Ev l D Y_Law_law (d + 80) (kc + 5) (ks + 58) 793 [some (vr 11), some (vr 20), some (vr 100), some (vi (i : Int))] [] h' Ψ) : Ev l D Y_Law_law (d + 80) (kc + 5) (ks + 58) 568 [some (vr 11), some (vr 20), some (vr 100), some (vi (i : Int))] [] h Ψ := by
  obtain ⟨⟨s1, s2, s3⟩, p, ca, ms⟩ := q
  apply s_Law_law_568
  rw [wr_eq (x := (i : Int) + 1) (by omega) (by omega), show ((i : Int) + 1).toNat = i + 1 by omega, s3, wr_eq (x := (i : Int) + 2) (by omega) (by omega), show ((i : Int) + 2).toNat = i + 2 by omega, s3, wr_eq (x := (i : Int) + 3) (by omega) (by omega), show ((i : Int) + 3).toNat = i + 3 by omega, s3]
  refine ⟨s1, by omega, by omega, s1, by omega, by omega, s1, by omega, by omega, ca.1.1.sh.1, ct_G_faults ca (fun h1 ag ca1 => ?_)⟩
  obtain ⟨u1, u2, u3⟩ := Sc0.ag ⟨s1, s2, s3⟩ ag
  have ms1 := Ms_ag ag ms
  refine ⟨u1, by omega, by omega, u1, by omega, by omega, u1, by omega, by omega, ms1.1.1.1, ?_⟩
  rw [u3 (i + 1), u3 (i + 2), u3 (i + 3)]
  exact ct_M_faults ms1 (fun h2 s2' ms2 => ⟨fun _ => nx h2 ⟨Sc0.x ⟨u1, u2, u3⟩ s2'.1 s2'.2.2, _, CA_sm s2' ca1, ms2⟩, fun c => absurd rfl c⟩)
theorem lw_611 {i : Nat} (q : LSt N sc h) (hi : i + 5 ≤ N) (hN : N ≤ 2560) (hs : ∀ j, sc j ≤ 2147483647) (nx : ∀ h', LSt N sc h' → Ev l D Y_Law_law (d + 80) (kc + 5) (ks + 58) 793 [some (vr 11), some (vr 20), some (vr 100), some (vi (i : Int))] [] h' Ψ) : Ev l D Y_Law_law (d + 80) (kc + 5) (ks + 58) 611 [some (vr 11), some (vr 20), some (vr 100), some (vi (i : Int))] [] h Ψ := by
  obtain ⟨⟨s1, s2, s3⟩, p, ca, ms⟩ := q
  apply s_Law_law_611
  rw [wr_eq (x := (i : Int) + 1) (by omega) (by omega), show ((i : Int) + 1).toNat = i + 1 by omega, s3, wr_eq (x := (i : Int) + 2) (by omega) (by omega), show ((i : Int) + 2).toNat = i + 2 by omega, s3]
  refine ⟨s1, by omega, by omega, s1, by omega, by omega, ca.1.1.sh.1, ct_G_caller ca (hs _) (fun h1 ag ca1 => ?_)⟩
  obtain ⟨u1, u2, u3⟩ := Sc0.ag ⟨s1, s2, s3⟩ ag
  have ms1 := Ms_ag ag ms
  refine ⟨u1, by omega, by omega, u1, by omega, by omega, ms1.1.1.1, ?_⟩
  rw [u3 (i + 1), u3 (i + 2)]
  exact ct_M_caller ms1 (fun h2 s2' ms2 => ⟨fun _ => nx h2 ⟨Sc0.x ⟨u1, u2, u3⟩ s2'.1 s2'.2.2, _, CA_sm s2' ca1, ms2⟩, fun c => absurd rfl c⟩)
theorem lw_644 {i : Nat} (q : LSt N sc h) (hi : i + 5 ≤ N) (hN : N ≤ 2560) (hs : ∀ j, sc j ≤ 2147483647) (nx : ∀ h', LSt N sc h' → Ev l D Y_Law_law (d + 80) (kc + 5) (ks + 58) 793 [some (vr 11), some (vr 20), some (vr 100), some (vi (i : Int))] [] h' Ψ) : Ev l D Y_Law_law (d + 80) (kc + 5) (ks + 58) 644 [some (vr 11), some (vr 20), some (vr 100), some (vi (i : Int))] [] h Ψ := by
  obtain ⟨⟨s1, s2, s3⟩, p, ca, ms⟩ := q
  apply s_Law_law_644
  rw [wr_eq (x := (i : Int) + 1) (by omega) (by omega), show ((i : Int) + 1).toNat = i + 1 by omega, s3, wr_eq (x := (i : Int) + 2) (by omega) (by omega), show ((i : Int) + 2).toNat = i + 2 by omega, s3]
  refine ⟨s1, by omega, by omega, s1, by omega, by omega, ca.1.1.sh.1, ct_G_way ca (hs _) (fun h1 ag ca1 => ?_)⟩
  obtain ⟨u1, u2, u3⟩ := Sc0.ag ⟨s1, s2, s3⟩ ag
  have ms1 := Ms_ag ag ms
  refine ⟨u1, by omega, by omega, u1, by omega, by omega, ms1.1.1.1, ?_⟩
  rw [u3 (i + 1), u3 (i + 2)]
  exact ct_M_way ms1 (fun h2 s2' ms2 => ⟨fun _ => nx h2 ⟨Sc0.x ⟨u1, u2, u3⟩ s2'.1 s2'.2.2, _, CA_sm s2' ca1, ms2⟩, fun c => absurd rfl c⟩)
theorem lw_278 {i : Nat} (q : LSt N sc h) (hi : i + 5 ≤ N) (hN : N ≤ 2560) (nx : ∀ h', LSt N sc h' → Ev l D Y_Law_law (d + 80) (kc + 5) (ks + 58) 793 [some (vr 11), some (vr 20), some (vr 100), some (vi (i : Int))] [] h' Ψ) : Ev l D Y_Law_law (d + 80) (kc + 5) (ks + 58) 278 [some (vr 11), some (vr 20), some (vr 100), some (vi (i : Int))] [] h Ψ := by
  obtain ⟨⟨s1, s2, s3⟩, p, ca, ms⟩ := q
  apply s_Law_law_278
  rw [wr_eq (x := (i : Int) + 1) (by omega) (by omega), show ((i : Int) + 1).toNat = i + 1 by omega, s3, wr_eq (x := (i : Int) + 2) (by omega) (by omega), show ((i : Int) + 2).toNat = i + 2 by omega, s3]
  refine ⟨s1, by omega, by omega, s1, by omega, by omega, fun c => ⟨ca.1.1.sh.1, ct_G_root ca (Or.inl rfl) (fun h1 ag ca1 => ?_)⟩, fun c => ⟨ca.1.1.sh.1, ct_G_root ca (Or.inr rfl) (fun h1 ag ca1 => ?_)⟩⟩
  · obtain ⟨u1, u2, u3⟩ := Sc0.ag ⟨s1, s2, s3⟩ ag
    have ms1 := Ms_ag ag ms
    refine ⟨u1, by omega, by omega, u1, by omega, by omega, fun c2 => ⟨ms1.1.1.1, ?_⟩, fun c2 => absurd c (by rw [u3] at c2; exact c2)⟩
    rw [u3 (i + 1)]
    exact ct_M_root ms1 (Or.inl rfl) (fun h2 s2' ms2 => ⟨fun _ => nx h2 ⟨Sc0.x ⟨u1, u2, u3⟩ s2'.1 s2'.2.2, _, CA_sm s2' ca1, ms2⟩, fun c => absurd rfl c⟩)
  · obtain ⟨u1, u2, u3⟩ := Sc0.ag ⟨s1, s2, s3⟩ ag
    have ms1 := Ms_ag ag ms
    refine ⟨u1, by omega, by omega, u1, by omega, by omega, fun c2 => absurd (by rw [u3] at c2; exact c2) c, fun c2 => ⟨ms1.1.1.1, ?_⟩⟩
    rw [u3 (i + 1)]
    exact ct_M_root ms1 (Or.inr rfl) (fun h2 s2' ms2 => ⟨fun _ => nx h2 ⟨Sc0.x ⟨u1, u2, u3⟩ s2'.1 s2'.2.2, _, CA_sm s2' ca1, ms2⟩, fun c => absurd rfl c⟩)
theorem lw_677 {i : Nat} (q : LSt N sc h) (hi : i + 5 ≤ N) (hN : N ≤ 2560) (nx : ∀ h', LSt N sc h' → Ev l D Y_Law_law (d + 80) (kc + 5) (ks + 58) 793 [some (vr 11), some (vr 20), some (vr 100), some (vi (i : Int))] [] h' Ψ) : Ev l D Y_Law_law (d + 80) (kc + 5) (ks + 58) 677 [some (vr 11), some (vr 20), some (vr 100), some (vi (i : Int))] [] h Ψ := by
  obtain ⟨⟨s1, s2, s3⟩, p, ca, ms⟩ := q
  apply s_Law_law_677
  rw [wr_eq (x := (i : Int) + 1) (by omega) (by omega), show ((i : Int) + 1).toNat = i + 1 by omega, s3, wr_eq (x := (i : Int) + 2) (by omega) (by omega), show ((i : Int) + 2).toNat = i + 2 by omega, s3, wr_eq (x := (i : Int) + 3) (by omega) (by omega), show ((i : Int) + 3).toNat = i + 3 by omega, s3]
  refine ⟨s1, by omega, by omega, s1, by omega, by omega, s1, by omega, by omega, ca.1.1.sh.1, ct_G_run ca (fun h1 ag ca1 => ?_)⟩
  obtain ⟨u1, u2, u3⟩ := Sc0.ag ⟨s1, s2, s3⟩ ag
  have ms1 := Ms_ag ag ms
  refine ⟨u1, by omega, by omega, u1, by omega, by omega, u1, by omega, by omega, ms1.1.1.1, ?_⟩
  rw [u3 (i + 1), u3 (i + 2), u3 (i + 3)]
  exact ct_M_run ms1 (fun h2 s2' ms2 => ⟨fun _ => nx h2 ⟨Sc0.x ⟨u1, u2, u3⟩ s2'.1 s2'.2.2.1, _, CA_mf s2' ca1, ms2⟩, fun c => absurd rfl c⟩)
theorem lw_740 {i : Nat} (q : LSt N sc h) (hi : i + 5 ≤ N) (hN : N ≤ 2560) (nx : ∀ h', LSt N sc h' → Ev l D Y_Law_law (d + 80) (kc + 5) (ks + 58) 793 [some (vr 11), some (vr 20), some (vr 100), some (vi (i : Int))] [] h' Ψ) : Ev l D Y_Law_law (d + 80) (kc + 5) (ks + 58) 740 [some (vr 11), some (vr 20), some (vr 100), some (vi (i : Int))] [] h Ψ := by
  obtain ⟨⟨s1, s2, s3⟩, p, ca, ms⟩ := q
  apply s_Law_law_740
  rw [wr_eq (x := (i : Int) + 1) (by omega) (by omega), show ((i : Int) + 1).toNat = i + 1 by omega, s3, wr_eq (x := (i : Int) + 2) (by omega) (by omega), show ((i : Int) + 2).toNat = i + 2 by omega, s3]
  refine ⟨s1, by omega, by omega, s1, by omega, by omega, ca.1.1.sh.1, ct_G_holds ca (fun h1 ag ca1 => ?_)⟩
  obtain ⟨u1, u2, u3⟩ := Sc0.ag ⟨s1, s2, s3⟩ ag
  have ms1 := Ms_ag ag ms
  refine ⟨u1, by omega, by omega, u1, by omega, by omega, ms1.1.1.1, ?_⟩
  rw [u3 (i + 1), u3 (i + 2)]
  exact ct_M_holds ms1 (fun h2 s2' ms2 => ⟨fun _ => nx h2 ⟨Sc0.x ⟨u1, u2, u3⟩ s2'.1 s2'.2.2.1, _, CA_mf s2' ca1, ms2⟩, fun c => absurd rfl c⟩)
theorem lw_loop (hN : N ≤ 2560) (hs : ∀ j, sc j ≤ 2147483647) : ∀ (n i : Nat) (h : Hp), i ≤ N + 5 → N < i + 5 * n + 5 → LSt N sc h → Ev l D Y_Law_law (d + 80) (5 * n + 5) (58 * n + 58) 18 [some (vr 11), some (vr 20), some (vr 100), some (vi (i : Int))] [] h (fun v _ => v = some (vi 1)) := by
  intro n
  induction n with
  | zero =>
    intro i h hi hn q
    have q' := q
    obtain ⟨⟨s1, s2, s3⟩, _⟩ := q'
    apply s_Law_law_18
    rw [s1, s2, wr_eq (by omega) (by omega)]
    exact ⟨by omega, fun _ => rfl, fun c => by omega⟩
  | succ n ih =>
    intro i h hi hn q
    have q' := q
    obtain ⟨⟨s1, s2, s3⟩, _⟩ := q'
    apply s_Law_law_18
    rw [s1, s2, wr_eq (by omega) (by omega)]
    refine ⟨by omega, fun _ => rfl, fun c => ?_⟩
    have hi5 : i + 5 ≤ N := by omega
    have nx0 : ∀ h', LSt N sc h' → Ev l D Y_Law_law (d + 80) (5 * n + 5) (58 * n + 58) 793 [some (vr 11), some (vr 20), some (vr 100), some (vi (i : Int))] [] h' (fun v _ => v = some (vi 1)) := fun h' q' => by
      apply s_Law_law_793
      have z := ih (i + 5) h' (by omega) (by omega) q'
      rw [wr_eq (by omega) (by omega)]
      exact z
    have nx : ∀ (x y : Nat) (h' : Hp), LSt N sc h' → Ev l D Y_Law_law (d + 80) (5 * (n + 1) + x) (58 * (n + 1) + y) 793 [some (vr 11), some (vr 20), some (vr 100), some (vi (i : Int))] [] h' (fun v _ => v = some (vi 1)) := fun x y h' q' => Ev.wid (nx0 h' q') (Nat.le_refl _) (by omega) (by omega)
    exact ⟨rfl, by omega, by omega, fun _ => lw_116 q hi5 hN hs (nx 0 18), fun _ => lw_149 q hi5 hN hs (nx 5 58), fun _ => lw_182 q hi5 hN hs (nx 2 21), fun _ => lw_225 q hi5 hN hs (nx 2 0), fun _ => lw_278 q hi5 hN (nx 5 58), fun _ => lw_327 q hi5 hN hs (nx 5 58), fun _ => lw_350 q hi5 hN hs (nx 5 58), fun _ => lw_383 q hi5 hN hs (nx 5 58), fun _ => lw_416 q hi5 hN hs (nx 5 58), fun _ => lw_459 q hi5 hN hs (nx 5 58), fun _ => lw_492 q hi5 hN hs (nx 5 58), fun _ => lw_525 q hi5 hN hs (nx 5 58), fun _ => lw_568 q hi5 hN hs (nx 5 58), fun _ => lw_611 q hi5 hN hs (nx 5 58), fun _ => lw_644 q hi5 hN hs (nx 5 58), fun _ => lw_677 q hi5 hN (nx 5 58), fun _ => lw_740 q hi5 hN (nx 5 58), fun _ => nx 5 58 h q⟩
/-- the heap at the law's start -/
def I0 (N : Nat) (sc : Nat → Int) (h : Hp) : Prop := Sc0 N sc h ∧ (∀ a, 16 ≤ a → xK h a = 0) ∧ (∀ a i, 16 ≤ a → xI h a i = 0) ∧ Vs h ∧ (∀ i, 1 ≤ i → i ≤ 3 → xK h i = 30) ∧ ∀ i, 4 ≤ i → i ≤ 8 → xK h i = 31
theorem lw_all (hN : N ≤ 2560) (hs : ∀ j, sc j ≤ 2147483647) (q : I0 N sc h) : Ev l D Y_Law_law (d + 80) (2560 + 108) (29696 + 22956) 0 [some (vr 11), none, none, none] [] h (fun v _ => v = some (vi 1)) := by
  obtain ⟨⟨s1, s2, s3⟩, fr0, z0, vs, kc', sc'⟩ := q
  apply s_Law_law_0
  refine ⟨20, by omega, fr0 20 (by omega), fun h1 e1 => ?_⟩
  have k1 : ∀ a, xK h1 a = if a = 20 then 1 else xK h a := fun a => by rw [e1, xK_nw]
  have o1 : off (fun a => 20 ≤ a ∧ a < 86) h h1 := by rw [e1]; exact off.rf.nw (by omega)
  refine ⟨by rw [k1, if_pos rfl]; decide, ct_G_init (kc := 0) (ks := 0) (by rw [k1, if_pos rfl]) (fun i => by rw [e1, xI_nw, if_pos rfl]) (fun a g1 g2 => by rw [k1, if_neg (by omega)]; exact fr0 a (by omega)) (fun h2 o2 g2 z2 => ?_)⟩
  have o2' : off (fun a => 20 ≤ a ∧ a < 86) h h2 := o1.tr o2
  have e2 : ∀ a, ¬ (20 ≤ a ∧ a < 86) → sa h h2 a := o2'
  refine ⟨100, by omega, by rw [(e2 100 (by omega)).1]; exact fr0 100 (by omega), fun h3 e3 => ?_⟩
  have o3 : off (fun a => 100 ≤ a ∧ a < 151) h2 h3 := by rw [e3]; exact off.rf.nw (by omega)
  have k3 : ∀ a, xK h3 a = if a = 100 then 12 else xK h2 a := fun a => by rw [e3, xK_nw]
  refine ⟨by rw [k3, if_pos rfl]; decide, ct_M_init (kc := 0) (ks := 0) (by rw [k3, if_pos rfl]) (fun a i g1 g2 => ?_) (fun a g1 g2 => ?_) (fun h4 o4 m4 => ?_)⟩
  · rw [e3, xI_nw]
    by_cases e : a = 100
    · rw [if_pos e]
    · rw [if_neg e, (e2 a (by omega)).2.2.1]; exact z0 a i (by omega)
  · rw [k3, if_neg (by omega), (e2 a (by omega)).1]; exact fr0 a (by omega)
  · have o4' : off (fun a => 100 ≤ a ∧ a < 151) h2 h4 := o3.tr o4
    have e4 : ∀ a, ¬ (100 ≤ a ∧ a < 151) → sa h2 h4 a := o4'
    have e5 : ∀ a, ¬ (20 ≤ a ∧ a < 86) → ¬ (100 ≤ a ∧ a < 151) → sa h h4 a := fun a z1 z2 => (e2 a z1).tr (e4 a z2)
    have g4 : GS h4 := GS_off o4' (fun a z => by have z' : 100 ≤ a ∧ a < 151 := z; omega) g2
    have i4 : ∀ i, xI h4 20 i = 0 := fun i => ((e4 20 (by omega)).2.2.1 i).trans (z2 i)
    have cs : CS h4 (fun _ _ => 0) := by
      refine CS_mk ⟨g4, i4 1, i4 3, i4 4, fun i g1 g2 => ?_, fun i g1 g2 => ?_⟩ (fun t ht => ?_) (fun m hm => ?_) (fun o ho => ?_)
      · rw [(e5 i (by omega) (by omega)).1]; exact kc' i g1 g2
      · rw [(e5 i (by omega) (by omega)).1]; exact sc' i g1 g2
      · have ht' : (t : Int) < 0 := ht
        omega
      · have hm' : (m : Int) < 0 := hm
        omega
      · have ho' : (o : Int) < 0 := ho
        omega
    obtain ⟨b1, b2, b3, b4, b5, b6⟩ := vs
    have s9 := e5 9 (by omega) (by omega)
    have s10 := e5 10 (by omega) (by omega)
    have s11 := e5 11 (by omega) (by omega)
    have ca : CA (fun _ _ => 0) h4 := by
      refine ⟨⟨cs, WF_0, WO_0, Or.inl (i4 7), fun c => absurd (i4 7) c⟩, ⟨fun t j x y z => ?_, fun m j x y z => ?_, fun o j x y z => ?_, fun t x y => ?_, fun m x y => ?_⟩, ⟨s9.1.trans b1, s9.2.1.trans b2, s10.1.trans b3, s10.2.1.trans b4, fun i hi => (s9.2.2.2.1 i).trans (b5 i hi), fun i hi => (s10.2.2.2.1 i).trans (b6 i hi)⟩⟩
      · rw [(e5 _ (by unfold tA; omega) (by unfold tA; omega)).1]; exact fr0 _ (by unfold tA; omega)
      · rw [(e5 _ (by unfold mA; omega) (by unfold mA; omega)).1]; exact fr0 _ (by unfold mA; omega)
      · rw [(e5 _ (by unfold oD; omega) (by unfold oD; omega)).1]; exact fr0 _ (by unfold oD; omega)
      · rw [(e5 _ (by omega) (by omega)).1]; exact fr0 _ (by omega)
      · rw [(e5 _ (by omega) (by omega)).1]; exact fr0 _ (by omega)
    exact lw_loop hN hs 512 0 h4 (by omega) (by omega) ⟨⟨s11.1.trans s1, s11.2.1.trans s2, fun j => (s11.2.2.1 j).trans (s3 j)⟩, _, ca, m4⟩
end LAW
