/-! to find, to choose: the words, and the model's methods -/
theorem Lz_sI {h : Hp} {p : Pg} {a k : Nat} {x : Int} (hz : Lz h p) (h2 : a ≠ 126) (h3 : ¬ (a = 100 ∧ k = 26)) : Lz (sI h a k x) p := by
  have e1 : xI (sI h a k x) 100 26 = xI h 100 26 := by rw [xI_sI, if_neg (by omega)]
  refine ⟨by rw [e1]; exact hz.1, fun c t u ht hu => ?_⟩
  rw [xI_sI, if_neg (by omega)]
  exact hz.2 (by rw [← e1]; exact c) t u ht hu
theorem SD_sI {h : Hp} {p : Pg} {a k : Nat} {x : Int} (hs : SD h p) (hn : ¬ sta a k = true) : SD (sI h a k x) p := by
  intro b j hb
  rw [xI_sI, if_neg (fun q => hn (by rw [← q.1, ← q.2]; exact hb))]
  exact hs b j hb
theorem Mok_sI {h : Hp} {p : Pg} {a k : Nat} {x : Int} (hm : Mok p h) (h1 : ¬ sta a k = true) (h2 : a ≠ 126) (h3 : ¬ (a = 100 ∧ k = 26)) : Mok p (sI h a k x) := ⟨hm.1, SD_sI hm.2.1 h1, hm.2.2.1, Lz_sI hm.2.2.2 h2 h3⟩
theorem Sc.put {h h' : Hp} {p : Pg} {a k : Nat} {x : Int} (q : Sc p h h') (ha : a = 128 ∨ a = 129 ∨ a = 130) : Sc p h (sI h' a k x) := ⟨q.1.put (by unfold scr; omega), Mok_sI q.2 (fun z => by have := sta_iff.mp z; omega) (by omega) (by omega)⟩
def av (p : Pg) (t k : Nat) : Prop := (k : Int) < nT p ∧ k ≠ t ∧ kd p k = 2 ∧ U p t k
def cd (p : Pg) (t : Nat) (x : Int) (m : Nat) : Prop := (m : Int) < nM p ∧ nm p m = x ∧ av p t (ty p m).toNat ∧ (so p m = 0 ∨ so p m = 1)
def bt (p : Pg) (t : Nat) (x : Int) (m o : Nat) : Prop := cd p t x o ∧ ¬ ty p o = ty p m ∧ U p (ty p o).toNat (ty p m).toNat
def lf (p : Pg) (t : Nat) (x : Int) (m : Nat) : Prop := cd p t x m ∧ ∀ o : Nat, ¬ bt p t x m o
section FI
variable {l : Launch} {D : DD} {d kc ks : Nat} {h : Hp} {Ψ : Option AV → Hp → Prop} {p : Pg}
abbrev ok129 (p : Pg) (t : Nat) (h : Hp) : Prop := ∀ u, u < 16 → xI h 129 u = bI (av p t u)
theorem Sc_129 {h h' : Hp} {t : Nat} (q : sm scU h h') (g : ok129 p t h) : ok129 p t h' := fun u hu => (q.2.2 129 u (by unfold scU; omega)).trans (g u hu)
theorem ct_M_isUnderI2 {t u : Int} (hm : Mok p h) (ht : 0 ≤ t ∧ t < nT p) (hu : 0 ≤ u ∧ u < 16) (k : ∀ h', Sc p h h' → sm scU h h' → Ψ (some (vi (bI (U p t.toNat u.toNat)))) h') : Ev l D Y_M_isUnder (d + 1) kc ks 0 [some (vr 100), some (vi t), some (vi u), none, none] [] h Ψ := by
  obtain ⟨t', rfl⟩ : ∃ t' : Nat, t = (t' : Int) := ⟨t.toNat, by omega⟩
  obtain ⟨u', rfl⟩ : ∃ u' : Nat, u = (u' : Int) := ⟨u.toNat, by omega⟩
  refine ct_M_isUnder hm ht.2 (by omega) (fun h' q1 q2 => ?_)
  have := k h' ⟨q1.mono (fun _ _ => scU_scr), q2⟩ q1
  simpa only [Int.toNat_natCast] using this
theorem ct_M_isUnderI {t u : Int} (hm : Mok p h) (ht : 0 ≤ t ∧ t < nT p) (hu : 0 ≤ u ∧ u < 16) (k : ∀ h', Sc p h h' → Ψ (some (vi (bI (U p t.toNat u.toNat)))) h') : Ev l D Y_M_isUnder (d + 1) kc ks 0 [some (vr 100), some (vi t), some (vi u), none, none] [] h Ψ := ct_M_isUnderI2 hm ht hu (fun h' q _ => k h' q)
theorem ct_M_findLeft {t : Nat} {x : Int} (hm : Mok p h) (ht : (t : Int) < nT p) (k : ∀ h', Sc p h h' → (∀ m, m < 48 → xI h' 128 m = bI (lf p t x m)) → Ψ none h') : Ev l D Y_M_findLeft (d + 2) kc ks 0 [some (vr 100), some (vi (t : Int)), some (vi x), none, none, none, none] [] h Ψ := by
  have hw := hm.2.2.1
  have w1 := hw.1
  have w2 := hw.2.1
  apply m_M_findLeft_0 hm.1
  have lp3 : ∀ (i : Nat) (h' : Hp), i ≤ (nM p).toNat → (Sc p h h' ∧ ok129 p t h' ∧ (∀ m, m < i → xI h' 128 m = bI (lf p t x m)) ∧ ∀ m, i ≤ m → m < 48 → xI h' 128 m = bI (cd p t x m)) → Ev l D Y_M_findLeft (d + 2) kc ks 147 [some (vr 100), some (vi (t : Int)), some (vi x), some (vi (i : Int)), none, none, none] [] h' Ψ := by
    refine lup _ _ ?_ ?_
    · rintro h' ⟨q1, q2, q3, q4⟩
      apply m_M_findLeft_147 q1.2.1
      rw [(q1.2.2.1).nM]
      refine ⟨fun _ => k h' q1 (fun m hm' => ?_), fun c => by omega⟩
      by_cases e : m < (nM p).toNat
      · exact q3 m e
      · rw [q4 m (by omega) hm']
        exact bI_c ⟨fun z => by have := z.1; omega, fun z => by have := z.1.1; omega⟩
    · rintro i h' hi ⟨q1, q2, q3, q4⟩ ih
      apply m_M_findLeft_147 q1.2.1
      rw [(q1.2.2.1).nM, Int.toNat_natCast, q4 i (Nat.le_refl _) (by omega)]
      refine ⟨fun c => by omega, fun _ => ⟨by omega, by omega, ?_⟩⟩
      obtain ⟨m1, m2, m3, m4, m5, m6, m7⟩ := hw.2.2.2.2.1 i (by omega)
      -- the end of the inner loop
      have ex : ∀ (h2 : Hp) (y : Int), Sc p h h2 → ok129 p t h2 → (∀ m, m < i → xI h2 128 m = bI (lf p t x m)) → (∀ m, i ≤ m → m < 48 → xI h2 128 m = bI (cd p t x m)) → y = bI (lf p t x i) → ∀ h3 : Hp, h3 = sI h2 128 i y → Ev l D Y_M_findLeft (d + 2) kc ks 147 [some (vr 100), some (vi (t : Int)), some (vi x), some (vi ((i + 1 : Nat) : Int)), none, none, none] [] h3 Ψ := by
        intro h2 y r1 r2 r3 r4 ry h3 e3
        subst e3
        refine ih _ ⟨r1.put (Or.inl rfl), fun u hu => (by rw [xI_sI, if_neg (by omega)]; exact r2 u hu), pre_sI r3 ry, fun m g1 g2 => ?_⟩
        rw [xI_sI, if_neg (by omega)]; exact r4 m (by omega) g2
      have inner : ∀ (j : Nat) (h2 : Hp), j ≤ (nM p).toNat → (Sc p h h2 ∧ ok129 p t h2 ∧ (∀ m, m < i → xI h2 128 m = bI (lf p t x m)) ∧ ∀ m, i ≤ m → m < 48 → xI h2 128 m = bI (cd p t x m)) → Ev l D Y_M_findLeft (d + 2) kc ks 166 [some (vr 100), some (vi (t : Int)), some (vi x), some (vi (i : Int)), some (vi (bI (cd p t x i ∧ ∀ o, o < j → ¬ bt p t x i o))), some (vi (j : Int)), none] [] h2 Ψ := by
        refine lup _ _ ?_ ?_
        · rintro h2 ⟨r1, r2, r3, r4⟩
          apply m_M_findLeft_166 r1.2.1
          rw [(r1.2.2.1).nM]
          simp only [Int.toNat_natCast, wr_s (show i < 1000000 by omega)]
          refine ⟨fun _ => ⟨by omega, by omega, bI_01 _, ex h2 _ r1 r2 r3 r4 (bI_c ?_)⟩, fun c => by omega⟩
          exact and_congr Iff.rfl ⟨fun z o zo => z o (by have := zo.1.1; omega) zo, fun z o _ => z o⟩
        · rintro j h2 hj ⟨r1, r2, r3, r4⟩ ih2
          apply m_M_findLeft_166 r1.2.1
          obtain ⟨n1, n2, n3, n4, n5, n6, n7⟩ := hw.2.2.2.2.1 j (by omega)
          have e5 := (r1.2.2.1).nM
          have e7 := (r1.2.2.1).ty j
          have e8 := (r1.2.2.1).nm j
          have e9 := (r1.2.2.1).so j
          have e6 := r2 (ty p j).toNat (by omega)
          simp only [e5, Int.toNat_natCast, e7, e8, e9, e6, wr_s (show i < 1000000 by omega)]
          -- at 280 and 232
          have g280 : ∀ (h3 : Hp) (y0 y6 x4 : Int), (Sc p h h3 ∧ ok129 p t h3 ∧ (∀ m, m < i → xI h3 128 m = bI (lf p t x m)) ∧ ∀ m, i ≤ m → m < 48 → xI h3 128 m = bI (cd p t x m)) → y0 = bI (cd p t x i ∧ ∀ o, o < j + 1 → ¬ bt p t x i o) → Ev l D Y_M_findLeft (d + 2) kc ks 280 [some (vr 100), some (vi (t : Int)), some (vi x), some (vi (i : Int)), some (vi x4), some (vi (j : Int)), some (vi y6)] [vi y0] h3 Ψ := by
            intro h3 y0 y6 x4 s1 ey
            apply m_M_findLeft_280 s1.1.2.1
            rw [wr_s (show j < 1000000 by omega), ey]
            exact ih2 h3 s1
          refine ⟨fun c => by omega, fun _ => ⟨fun c => ?_, fun c => ?_⟩⟩
          · refine ⟨by omega, by omega, bI_01 _, ex h2 _ r1 r2 r3 r4 ?_⟩
            rw [c]
            rw [bI_0] at c
            exact (bI_f (fun z => c ⟨z.1, fun o _ => z.2 o⟩)).symm
          · have c' : cd p t x i ∧ ∀ o, o < j → ¬ bt p t x i o := bI_n.mp c
            have nxt : ∀ (b : Prop), (b ↔ bt p t x i j) → ∀ (y : Int), y = bI (¬ b) → y = bI (cd p t x i ∧ ∀ o, o < j + 1 → ¬ bt p t x i o) := by
              intro b hb y hy
              rw [hy]
              refine bI_c ⟨fun z => ⟨c'.1, fun o ho => ?_⟩, fun z zb => z.2 j (by omega) (hb.mp zb)⟩
              rcases Nat.eq_or_lt_of_le (Nat.le_of_lt_succ ho) with e | e
              · rw [e]; exact fun q => z (hb.mpr q)
              · exact c'.2 o e
            have g232 : ∀ (y0 : Int), y0 = bI (cd p t x j) → Ev l D Y_M_findLeft (d + 2) kc ks 232 [some (vr 100), some (vi (t : Int)), some (vi x), some (vi (i : Int)), some (vi (bI (cd p t x i ∧ ∀ o, o < j → ¬ bt p t x i o))), some (vi (j : Int)), none] [vi y0] h2 Ψ := by
              intro y0 ey
              apply m_M_findLeft_232 r1.2.1
              have f7 := (r1.2.2.1).ty i
              simp only [Int.toNat_natCast, e7, f7]
              refine ⟨fun z => g280 h2 _ _ _ ⟨r1, r2, r3, r4⟩ (nxt (bt p t x i j) Iff.rfl 1 (bI_t ?_).symm), fun z => ⟨by omega, by omega, by omega, by omega, fun z2 => ?_, fun z2 => ⟨by omega, by omega, by omega, by omega, ct_M_isUnderI2 r1.2 n1 ⟨m1.1, by omega⟩ (fun h3 s1 s2 => ⟨s1.2.1, fun z3 => ?_, fun z3 => ?_⟩)⟩⟩⟩
              · rw [ey, bI_0] at z; exact fun q => z q.1
              · exact g280 h2 _ _ _ ⟨r1, r2, r3, r4⟩ (nxt (bt p t x i j) Iff.rfl 1 (bI_t (fun q => q.2.1 z2)).symm)
              · rw [bI_n] at z3; rw [ey, bI_n] at z
                refine g280 h3 _ _ _ ⟨r1.tr s1, Sc_129 s2 r2, fun m hm' => (s2.2.2 128 m (by unfold scU; omega)).trans (r3 m hm'), fun m g1 g2 => (s2.2.2 128 m (by unfold scU; omega)).trans (r4 m g1 g2)⟩ (nxt (bt p t x i j) Iff.rfl 0 (bI_f (fun q => q ⟨z, z2, z3⟩)).symm)
              · rw [bI_0] at z3
                refine g280 h3 _ _ _ ⟨r1.tr s1, Sc_129 s2 r2, fun m hm' => (s2.2.2 128 m (by unfold scU; omega)).trans (r3 m hm'), fun m g1 g2 => (s2.2.2 128 m (by unfold scU; omega)).trans (r4 m g1 g2)⟩ (nxt (bt p t x i j) Iff.rfl 1 (bI_t (fun q => z3 q.2.2)).symm)
            have jn : (j : Int) < nM p := by omega
            refine ⟨by omega, by omega, fun z => g232 0 (bI_f (fun q => z q.2.1)).symm, fun z => ⟨by omega, by omega, by omega, by omega, fun z2 => ?_, fun z2 => ⟨by omega, by omega, fun z3 => ?_, fun z3 => ⟨by omega, by omega, fun z4 => ?_, fun z4 => ?_⟩⟩⟩⟩
            · rw [bI_0] at z2; exact g232 0 (bI_f (fun q => z2 q.2.2.1)).symm
            · rw [bI_n] at z2; exact g232 1 (bI_t ⟨jn, z, z2, Or.inl z3⟩).symm
            · exact g232 0 (bI_f (fun q => by have := q.2.2.2; omega)).symm
            · rw [bI_n] at z2; exact g232 1 (bI_t ⟨jn, z, z2, Or.inr z4⟩).symm
      have h0 := inner 0 h' (Nat.zero_le _) ⟨q1, q2, q3, q4⟩
      rw [bI_c (show (cd p t x i ∧ ∀ o, o < 0 → ¬ bt p t x i o) ↔ cd p t x i from ⟨fun z => z.1, fun z => ⟨z, fun o ho => by omega⟩⟩)] at h0
      exact h0
  have lp2 : ∀ (i : Nat) (h' : Hp), i ≤ 48 → (Sc p h h' ∧ ok129 p t h' ∧ ∀ m, m < i → xI h' 128 m = bI (cd p t x m)) → Ev l D Y_M_findLeft (d + 2) kc ks 59 [some (vr 100), some (vi (t : Int)), some (vi x), some (vi (i : Int)), none, none, none] [] h' Ψ := by
    refine lup _ _ ?_ ?_
    · rintro h' ⟨q1, q2, q3⟩
      apply m_M_findLeft_59 q1.2.1
      exact ⟨fun _ => lp3 0 h' (Nat.zero_le _) ⟨q1, q2, fun m hm' => by omega, fun m _ g => q3 m g⟩, fun c => by omega⟩
    · rintro i h' hi ⟨q1, q2, q3⟩ ih
      have g138 : ∀ (y0 y4 : Int), y0 = bI (cd p t x i) → Ev l D Y_M_findLeft (d + 2) kc ks 138 [some (vr 100), some (vi (t : Int)), some (vi x), some (vi (i : Int)), some (vi y4), none, none] [vi y0, vi (i : Int), vr 128] h' Ψ := by
        intro y0 y4 ey
        apply m_M_findLeft_138 q1.2.1
        rw [wr_s (show i < 1000000 by omega), Int.toNat_natCast]
        refine ⟨by omega, by omega, by rw [ey]; exact bI_01 _, fun h1 e1 => ?_⟩
        subst e1
        exact ih _ ⟨q1.put (Or.inl rfl), fun u hu => (by rw [xI_sI, if_neg (by omega)]; exact q2 u hu), pre_sI q3 ey⟩
      have g102 : ∀ (y0 : Int), y0 = bI ((i : Int) < nM p ∧ nm p i = x ∧ av p t (ty p i).toNat) → Ev l D Y_M_findLeft (d + 2) kc ks 102 [some (vr 100), some (vi (t : Int)), some (vi x), some (vi (i : Int)), none, none, none] [vi y0] h' Ψ := by
        intro y0 ey
        apply m_M_findLeft_102 q1.2.1
        have e9 := (q1.2.2.1).so i
        simp only [Int.toNat_natCast, e9]
        refine ⟨fun z => g138 0 _ (bI_f (fun q => ?_)).symm, fun z => ?_⟩
        · rw [ey, bI_0] at z; exact z ⟨q.1, q.2.1, q.2.2.1⟩
        · rw [ey, bI_n] at z
          refine ⟨by omega, by omega, fun z2 => g138 1 _ (bI_t ⟨z.1, z.2.1, z.2.2, Or.inl z2⟩).symm, fun z2 => ⟨by omega, by omega, fun z3 => g138 0 _ (bI_f (fun q => ?_)).symm, fun z3 => g138 1 _ (bI_t ⟨z.1, z.2.1, z.2.2, Or.inr z3⟩).symm⟩⟩
          have := q.2.2.2; omega
      apply m_M_findLeft_59 q1.2.1
      have e5 := (q1.2.2.1).nM
      have e7 := (q1.2.2.1).ty i
      have e8 := (q1.2.2.1).nm i
      simp only [e5, Int.toNat_natCast, e7, e8]
      refine ⟨fun c => by omega, fun _ => ⟨fun c => g102 0 (bI_f (fun q => by have := q.1; omega)).symm, fun c => ?_⟩⟩
      obtain ⟨n1, n2, n3, n4, n5, n6, n7⟩ := hw.2.2.2.2.1 i c
      have e6 := q2 (ty p i).toNat (by omega)
      rw [e6]
      refine ⟨by omega, by omega, fun z => g102 0 (bI_f (fun q => z q.2.1)).symm, fun z => ⟨by omega, by omega, by omega, by omega, fun z2 => ?_, fun z2 => ?_⟩⟩
      · rw [bI_0] at z2; exact g102 0 (bI_f (fun q => z2 q.2.2)).symm
      · rw [bI_n] at z2; exact g102 1 (bI_t ⟨c, z, z2⟩).symm
  have lp1 : ∀ (i : Nat) (h' : Hp), i ≤ 16 → (Sc p h h' ∧ ∀ u, u < i → xI h' 129 u = bI (av p t u)) → Ev l D Y_M_findLeft (d + 2) kc ks 2 [some (vr 100), some (vi (t : Int)), some (vi x), some (vi (i : Int)), none, none, none] [] h' Ψ := by
    refine lup _ _ ?_ ?_
    · rintro h' ⟨q1, q2⟩
      apply m_M_findLeft_2 q1.2.1
      exact ⟨fun _ => lp2 0 h' (Nat.zero_le _) ⟨q1, q2, fun m hm' => by omega⟩, fun c => by omega⟩
    · rintro i h' hi ⟨q1, q2⟩ ih
      have g50 : ∀ (h2 : Hp) (y0 : Int), Sc p h h2 → (∀ u, u < i → xI h2 129 u = bI (av p t u)) → y0 = bI (av p t i) → Ev l D Y_M_findLeft (d + 2) kc ks 50 [some (vr 100), some (vi (t : Int)), some (vi x), some (vi (i : Int)), none, none, none] [vi y0, vi (i : Int), vr 129] h2 Ψ := by
        intro h2 y0 s1 s2 ey
        apply m_M_findLeft_50 s1.2.1
        rw [wr_s (show i < 1000000 by omega), Int.toNat_natCast]
        refine ⟨by omega, by omega, by rw [ey]; exact bI_01 _, fun h1 e1 => ?_⟩
        subst e1
        exact ih _ ⟨s1.put (Or.inr (Or.inl rfl)), pre_sI s2 ey⟩
      apply m_M_findLeft_2 q1.2.1
      have e0 := (q1.2.2.1).nT
      have e2 := (q1.2.2.1).kd i
      simp only [e0, Int.toNat_natCast, e2]
      refine ⟨fun c => by omega, fun _ => ⟨fun c => g50 h' 0 q1 q2 (bI_f (fun q => by have := q.1; omega)).symm, fun c => ⟨fun c1 => g50 h' 0 q1 q2 (bI_f (fun q => q.2.1 (by omega))).symm, fun c1 => ⟨by omega, by omega, fun c2 => g50 h' 0 q1 q2 (bI_f (fun q => c2 q.2.2.1)).symm, fun c2 => ct_M_isUnderI2 q1.2 ⟨by omega, ht⟩ ⟨by omega, by omega⟩ (fun h2 s1 s2 => ⟨s1.2.1, fun c3 => ?_, fun c3 => ?_⟩)⟩⟩⟩⟩
      · rw [bI_0] at c3
        exact g50 h2 0 (q1.tr s1) (fun u hu => (s2.2.2 129 u (by unfold scU; omega)).trans (q2 u hu)) (bI_f (fun q => c3 (by simpa using q.2.2.2))).symm
      · rw [bI_n] at c3
        exact g50 h2 1 (q1.tr s1) (fun u hu => (s2.2.2 129 u (by unfold scU; omega)).trans (q2 u hu)) (bI_t ⟨c, fun e => c1 (by omega), c2, by simpa using c3⟩).symm
  exact lp1 0 h (Nat.zero_le _) ⟨Sc.rf hm, fun u hu => by omega⟩
end FI
