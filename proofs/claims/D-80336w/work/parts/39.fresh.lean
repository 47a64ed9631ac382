/-! the graph when nothing comes any more, and the model's freshen -/
noncomputable def gF (p : Pg) : Pg := @Classical.epsilon Pg ⟨p⟩ (fun r => ∃ n, Itn p n (gst p) r)
theorem gF_it {p : Pg} (hw : WF p) : ∃ n, Itn p n (gst p) (gF p) := by
  have ⟨n, r, q⟩ := Itn_ex hw (zrs (gst p) + 1).toNat (gst p) (by
    have := cnt_le (fun i => i < 38400 ∧ gst p (119 + i / 7680) (i % 7680) = 0) 38400 0
    unfold zrs; omega)
  exact @Classical.epsilon_spec Pg (fun r => ∃ n, Itn p n (gst p) r) ⟨r, n, q⟩
def Gr (p : Pg) (h : Hp) : Prop := (∀ a k, dyn a k → xI h a k = gF p a k) ∧ ∀ a c : Nat, (a : Int) < nM p → (c : Int) < nM p → xI h 132 (48 * a + c) = bI (dr p (gF p) a c) ∧ xI h 131 (48 * a + c) = bI (wsh (dr p (gF p)) (nM p).toNat a c)
def Fm (p : Pg) (h : Hp) : Prop := (xI h 100 16 = 0 ∨ xI h 100 16 = 1) ∧ (¬ xI h 100 16 = 0 → Gr p h)
def gfr (a k : Nat) : Prop := gdy a k ∨ a = 131 ∨ a = 132 ∨ (a = 100 ∧ k = 16)
theorem gfr_sta {a k : Nat} (q : gfr a k) : ¬ sta a k = true := by
  intro z
  have := sta_iff.mp z
  unfold gfr gdy scr dyn at q
  omega
section FR
variable {l : Launch} {D : DD} {d kc ks : Nat} {h h0 : Hp} {Ψ : Option AV → Hp → Prop} {p g : Pg}
theorem lp_M_freshen_154 {x1 : Int} {h1 : Hp} (hw : WF p) (k : ∀ h', Gv p h1 h' (gF p) → Ev l D Y_M_findComes (d + 5) 0 0 0 [some (vr 100), none, none, none, none] [] h' (kv (fun h1 => MS h1 ∧ Ψ none h1))) : ∀ (n : Nat) (g : Pg) (h' : Hp) (x1 : Int), Itn p n g (gF p) → Gv p h1 h' g → ¬ g 100 17 = 0 → Ev l D Y_M_freshen (d + 6) kc ks 154 [some (vr 100), some (vi x1), none] [] h' Ψ := by
  have w2 := hw.2.1
  have w3 := hw.2.2.1
  -- a pass
  have ps : ∀ (g : Pg) (h' : Hp), Gv p h1 h' g → (∀ h2 x1, Gv p h1 h2 (gps p g) → Ev l D Y_M_freshen (d + 6) kc ks 154 [some (vr 100), some (vi x1), none] [] h2 Ψ) → Ev l D Y_M_freshen (d + 6) kc ks 168 [some (vr 100), some (vi (0 : Int)), none] [] (sI h' 100 17 0) Ψ := by
    intro g h' r0 kk
    have lm : ∀ (n m : Nat) (h2 : Hp) (g2 : Pg), m + n = (nM p).toNat → Gv p h1 h2 g2 → gpm p n m g2 = gps p g → Ev l D Y_M_freshen (d + 6) kc ks 168 [some (vr 100), some (vi (m : Int)), none] [] h2 Ψ := by
      intro n
      induction n with
      | zero =>
        intro m h2 g2 hm r1 eg
        apply m_M_freshen_168 r1.2.1.1
        rw [(r1.2.1.2.1).nM]
        refine ⟨fun _ => kk h2 _ ?_, fun c => by omega⟩
        rw [← eg]; exact r1
      | succ n ih =>
        intro m h2 g2 hm r1 eg
        obtain ⟨m1, m2, m3, m4, m5, m6, m7⟩ := hw.2.2.2.2.1 m (by omega)
        apply m_M_freshen_168 r1.2.1.1
        rw [(r1.2.1.2.1).nM]
        refine ⟨fun c => by omega, fun _ => ?_⟩
        have nx : ∀ h3 g3, Gv p h1 h3 g3 → g3 = gpi p m (om p m).toNat 0 g2 → Ev l D Y_M_freshen (d + 6) kc ks 168 [some (vr 100), some (vi ((m + 1 : Nat) : Int)), none] [] h3 Ψ := fun h3 g3 r3 e3 => ih (m + 1) h3 g3 (by omega) r3 (by rw [e3]; exact eg)
        have li : ∀ (n2 i : Nat) (h3 : Hp) (g3 : Pg), i + n2 = (om p m).toNat → Gv p h1 h3 g3 → gpi p m n2 i g3 = gpi p m (om p m).toNat 0 g2 → Ev l D Y_M_freshen (d + 6) kc ks 178 [some (vr 100), some (vi (m : Int)), some (vi (i : Int))] [] h3 Ψ := by
          intro n2
          induction n2 with
          | zero =>
            intro i h3 g3 hi r3 e3
            apply m_M_freshen_178 r3.2.1.1
            rw [Int.toNat_natCast, (r3.2.1.2.1).om m, wr_s (show m < 1000000 by omega)]
            exact ⟨by omega, by omega, fun _ => nx h3 g3 r3 e3, fun c => by omega⟩
          | succ n2 ih2 =>
            intro i h3 g3 hi r3 e3
            obtain ⟨ob, oe⟩ := oa_bd hw (show (m : Int) < nM p by omega) (show (i : Int) < om p m by omega)
            have ix4 : wr (wr ((24 : Int) * (m : Int)) + (i : Int)) = ((24 * m + i : Nat) : Int) := by rw [wr_eq (x := 24 * (m : Int)) (by omega) (by omega), wr_eq (by omega) (by omega)]; omega
            have e119 := r3.2.2 119 m (by unfold dyn; omega)
            apply m_M_freshen_178 r3.2.1.1
            simp only [Int.toNat_natCast, (r3.2.1.2.1).om m, wr_s (show m < 1000000 by omega), wr_s (show i < 1000000 by omega), ix4, (r3.2.1.2.1).oa (24 * m + i), e119]
            refine ⟨by omega, by omega, fun c => by omega, fun _ => ⟨by omega, by omega, fun c => nx h3 g3 r3 ?_, fun c => ⟨by omega, by omega, ?_⟩⟩⟩
            · rw [← e3]; exact (cG_t c).symm
            · rw [oe]
              refine ct_M_follow r3 ob (fun h4 r4 => ⟨r4.2.1.1, ih2 (i + 1) h4 _ (by omega) r4 ?_⟩)
              rw [← e3]; exact (cG_f c).symm
        exact li (om p m).toNat 0 h2 g2 (by omega) r1 rfl
    exact lm (nM p).toNat 0 _ _ (by omega) (r0.put (a := 100) (k := 17) (by unfold dyn; omega)) rfl
  intro n
  induction n with
  | zero =>
    intro g h' x1 it r1 hg
    apply m_M_freshen_154 r1.2.1.1
    rw [r1.2.2 100 17 (by unfold dyn; omega)]
    refine ⟨fun c => absurd c hg, fun _ h2 eh => ?_⟩
    subst eh
    refine ps g h' r1 (fun h2 x2 r2 => ?_)
    rw [← it.2] at r2
    apply m_M_freshen_154 r2.2.1.1
    rw [r2.2.2 100 17 (by unfold dyn; omega)]
    exact ⟨fun _ => k h2 r2, fun c => absurd (by rw [it.2]; exact it.1) c⟩
  | succ n ih =>
    intro g h' x1 it r1 hg
    apply m_M_freshen_154 r1.2.1.1
    rw [r1.2.2 100 17 (by unfold dyn; omega)]
    refine ⟨fun c => absurd c hg, fun _ h2 eh => ?_⟩
    subst eh
    exact ps g h' r1 (fun h2 x2 r2 => ih (gps p g) h2 x2 it.2 r2 it.1)
theorem gst119 {k : Nat} : gst p 119 k = bI ((k : Int) < nM p ∧ ¬ rt p k = 0) := by
  unfold gst bI
  rcases Classical.em ((k : Int) < nM p ∧ ¬ rt p k = 0) with e | e
  · rw [cI_t e, cI_t ⟨rfl, e⟩]
  · rw [cI_f e, cI_f (fun z => e z.2), cI_f (by omega)]
theorem gst_0 {a k : Nat} (h1 : a ≠ 119) (h2 : a ≠ 100) : gst p a k = 0 := by unfold gst; rw [cI_f (fun z => h1 z.1), cI_f h2]
theorem ct_M_freshen (hm : Mok p h) (hf : Fm p h) (k : ∀ h', sm gfr h h' → Mok p h' → xI h' 100 16 = 1 → Gr p h' → Ψ none h') : Ev l D Y_M_freshen (d + 6) kc ks 0 [some (vr 100), none, none] [] h Ψ := by
  have hw := hm.2.2.1
  have w1 := hw.1
  have w2 := hw.2.1
  apply m_M_freshen_0 hm.1
  refine ⟨fun c h1 eh => ?_, fun c => k h sm.rf hm (hf.1.resolve_left c) (hf.2 c)⟩
  subst eh
  have mput : ∀ {h' : Hp} {a j : Nat} {x : Int}, Mok p h' → gfr a j → a ≠ 126 → ¬ (a = 100 ∧ j = 26) → Mok p (sI h' a j x) := fun q1 q2 q3 q4 => Mok_sI q1 (gfr_sta q2) q3 q4
  -- J: the common part
  have p6 : ∀ (x1 : Int) (h' : Hp), (sm gfr h h' ∧ Mok p h' ∧ xI h' 100 16 = 1 ∧ ∀ a j, dyn a j → xI h' a j = gst p a j) → Ev l D Y_M_freshen (d + 6) kc ks 154 [some (vr 100), some (vi x1), none] [] h' Ψ := by
    rintro x1 h' ⟨q1, q2, q3, q4⟩
    obtain ⟨n, it⟩ := gF_it hw
    refine lp_M_freshen_154 (x1 := x1) (h1 := h') hw (fun h2 r2 => ?_) n (gst p) h' x1 it ((Gv.rf q2).eq q4) (by unfold gst; rw [cI_f (by omega), cI_t rfl]; decide)
    refine ct_M_findComes r2 (fun h3 s1 s2 => ?_)
    have sM := MS_sm s1 r2.2.1.1
    have e16 : xI h3 100 16 = 1 := ((s1.2.2 100 16 (by omega)).trans (r2.1.2.2 100 16 (by unfold gdy scr dyn; omega))).trans q3
    refine ⟨sM, k h3 ?_ ⟨sM, SD13 s1 r2.2.1.2.1, hw, ?_⟩ e16 ⟨fun a j hd => (s1.2.2 a j (by unfold dyn at hd; omega)).trans (r2.2.2 a j hd), s2⟩⟩
    · exact (q1.tr (r2.1.mono (fun _ _ => Or.inl))).tr (s1.mono (fun a j z => by have z' : a = 131 ∨ a = 132 := z; unfold gfr; omega))
    · obtain ⟨z1, z2⟩ := r2.2.1.2.2.2
      have e26 := s1.2.2 100 26 (by omega)
      refine ⟨by rw [e26]; exact z1, fun c t u ht hu => ?_⟩
      rw [e26] at c
      exact (s1.2.2 126 _ (by omega)).trans (z2 c t u ht hu)
  have p5 : ∀ (j : Nat) (h' : Hp), j ≤ 640 → (sm gfr h h' ∧ Mok p h' ∧ xI h' 100 16 = 1 ∧ (∀ i, i < 48 → xI h' 119 i = gst p 119 i) ∧ (∀ i, i < 16 → xI h' 120 i = 0) ∧ (∀ i, i < 16 → xI h' 121 i = 0) ∧ (∀ i, i < 192 → xI h' 122 i = 0) ∧ (∀ i, i < 7680 → xI h' 123 i = 0) ∧ ∀ i, i < j → xI h' 124 i = (fun _ => 0) i) → Ev l D Y_M_freshen (d + 6) kc ks 129 [some (vr 100), some (vi (j : Int)), none] [] h' Ψ := by
    refine lup _ _ ?_ ?_
    · rintro h' ⟨q1, q2, q3, q4, q5, q6, q7, q8, q9⟩
      apply m_M_freshen_129 q2.1
      refine ⟨fun _ h2 eh => ?_, fun c => by omega⟩
      subst eh
      have e17 : gfr 100 17 := by unfold gfr gdy dyn; omega
      refine p6 _ _ ⟨q1.put e17, mput q2 e17 (by omega) (by omega), by rw [xI_sI, if_neg (by omega)]; exact q3, fun a j hd => ?_⟩
      rw [xI_sI]
      by_cases e : a = 100 ∧ j = 17
      · rw [if_pos e, e.1, e.2]; unfold gst; rw [cI_f (by omega), cI_t rfl]
      · rw [if_neg e]
        unfold dyn at hd
        rcases hd with ⟨rfl, hj⟩ | ⟨rfl, hj⟩ | ⟨rfl, hj⟩ | ⟨rfl, hj⟩ | ⟨rfl, hj⟩ | ⟨rfl, hj⟩ | z
        · exact q4 j hj
        · rw [gst_0 (by omega) (by omega)]; exact q5 j hj
        · rw [gst_0 (by omega) (by omega)]; exact q6 j hj
        · rw [gst_0 (by omega) (by omega)]; exact q7 j hj
        · rw [gst_0 (by omega) (by omega)]; exact q8 j hj
        · rw [gst_0 (by omega) (by omega)]; exact q9 j hj
        · exact absurd z e
    · rintro j h' hj ⟨q1, q2, q3, q4, q5, q6, q7, q8, q9⟩ ih
      apply m_M_freshen_129 q2.1
      rw [Int.toNat_natCast, wr_s (show j < 1000000 by omega)]
      refine ⟨fun c => by omega, fun _ => ⟨by omega, by omega, fun h2 eh => ?_⟩⟩
      subst eh
      have ej : gfr 124 j := by unfold gfr gdy dyn; omega
      have ne : ∀ a i, a ≠ 124 → xI (sI h' 124 j 0) a i = xI h' a i := fun a i ha => by rw [xI_sI, if_neg (fun z => ha z.1)]
      exact ih _ ⟨q1.put ej, mput q2 ej (by omega) (by omega), (ne _ _ (by omega)).trans q3, fun i hi => (ne _ _ (by omega)).trans (q4 i hi), fun i hi => (ne _ _ (by omega)).trans (q5 i hi), fun i hi => (ne _ _ (by omega)).trans (q6 i hi), fun i hi => (ne _ _ (by omega)).trans (q7 i hi), fun i hi => (ne _ _ (by omega)).trans (q8 i hi), pre_sI q9 rfl⟩
  have p4 : ∀ (j : Nat) (h' : Hp), j ≤ 7680 → (sm gfr h h' ∧ Mok p h' ∧ xI h' 100 16 = 1 ∧ (∀ i, i < 48 → xI h' 119 i = gst p 119 i) ∧ (∀ i, i < 16 → xI h' 120 i = 0) ∧ (∀ i, i < 16 → xI h' 121 i = 0) ∧ (∀ i, i < 192 → xI h' 122 i = 0) ∧ (∀ i, i < j → xI h' 123 i = (fun _ => 0) i)) → Ev l D Y_M_freshen (d + 6) kc ks 107 [some (vr 100), some (vi (j : Int)), none] [] h' Ψ := by
    refine lup _ _ ?_ ?_
    · rintro h' ⟨q1, q2, q3, q4, q5, q6, q7, q8⟩
      apply m_M_freshen_107 q2.1
      exact ⟨fun _ => p5 0 h' (by omega) ⟨q1, q2, q3, q4, q5, q6, q7, q8, fun i hi => by omega⟩, fun c => by omega⟩
    · rintro j h' hj ⟨q1, q2, q3, q4, q5, q6, q7, q8⟩ ih
      apply m_M_freshen_107 q2.1
      rw [Int.toNat_natCast, wr_s (show j < 1000000 by omega)]
      refine ⟨fun c => by omega, fun _ => ⟨by omega, by omega, fun h2 eh => ?_⟩⟩
      subst eh
      have ej : gfr 123 j := by unfold gfr gdy dyn; omega
      have ne : ∀ a i, a ≠ 123 → xI (sI h' 123 j 0) a i = xI h' a i := fun a i ha => by rw [xI_sI, if_neg (fun z => ha z.1)]
      exact ih _ ⟨q1.put ej, mput q2 ej (by omega) (by omega), (ne _ _ (by omega)).trans q3, fun i hi => (ne _ _ (by omega)).trans (q4 i hi), fun i hi => (ne _ _ (by omega)).trans (q5 i hi), fun i hi => (ne _ _ (by omega)).trans (q6 i hi), fun i hi => (ne _ _ (by omega)).trans (q7 i hi), pre_sI q8 rfl⟩
  have p3 : ∀ (j : Nat) (h' : Hp), j ≤ 192 → (sm gfr h h' ∧ Mok p h' ∧ xI h' 100 16 = 1 ∧ (∀ i, i < 48 → xI h' 119 i = gst p 119 i) ∧ (∀ i, i < 16 → xI h' 120 i = 0) ∧ (∀ i, i < 16 → xI h' 121 i = 0) ∧ (∀ i, i < j → xI h' 122 i = (fun _ => 0) i)) → Ev l D Y_M_freshen (d + 6) kc ks 85 [some (vr 100), some (vi (j : Int)), none] [] h' Ψ := by
    refine lup _ _ ?_ ?_
    · rintro h' ⟨q1, q2, q3, q4, q5, q6, q7⟩
      apply m_M_freshen_85 q2.1
      exact ⟨fun _ => p4 0 h' (by omega) ⟨q1, q2, q3, q4, q5, q6, q7, fun i hi => by omega⟩, fun c => by omega⟩
    · rintro j h' hj ⟨q1, q2, q3, q4, q5, q6, q7⟩ ih
      apply m_M_freshen_85 q2.1
      rw [Int.toNat_natCast, wr_s (show j < 1000000 by omega)]
      refine ⟨fun c => by omega, fun _ => ⟨by omega, by omega, fun h2 eh => ?_⟩⟩
      subst eh
      have ej : gfr 122 j := by unfold gfr gdy dyn; omega
      have ne : ∀ a i, a ≠ 122 → xI (sI h' 122 j 0) a i = xI h' a i := fun a i ha => by rw [xI_sI, if_neg (fun z => ha z.1)]
      exact ih _ ⟨q1.put ej, mput q2 ej (by omega) (by omega), (ne _ _ (by omega)).trans q3, fun i hi => (ne _ _ (by omega)).trans (q4 i hi), fun i hi => (ne _ _ (by omega)).trans (q5 i hi), fun i hi => (ne _ _ (by omega)).trans (q6 i hi), pre_sI q7 rfl⟩
  have p2 : ∀ (j : Nat) (h' : Hp), j ≤ 16 → (sm gfr h h' ∧ Mok p h' ∧ xI h' 100 16 = 1 ∧ (∀ i, i < 48 → xI h' 119 i = gst p 119 i) ∧ (∀ i, i < j → xI h' 120 i = (fun _ => 0) i) ∧ (∀ i, i < j → xI h' 121 i = (fun _ => 0) i)) → Ev l D Y_M_freshen (d + 6) kc ks 57 [some (vr 100), some (vi (j : Int)), none] [] h' Ψ := by
    refine lup _ _ ?_ ?_
    · rintro h' ⟨q1, q2, q3, q4, q5, q6⟩
      apply m_M_freshen_57 q2.1
      exact ⟨fun _ => p3 0 h' (by omega) ⟨q1, q2, q3, q4, q5, q6, fun i hi => by omega⟩, fun c => by omega⟩
    · rintro j h' hj ⟨q1, q2, q3, q4, q5, q6⟩ ih
      apply m_M_freshen_57 q2.1
      rw [Int.toNat_natCast, wr_s (show j < 1000000 by omega)]
      refine ⟨fun c => by omega, fun _ => ⟨by omega, by omega, fun h2 eh => ⟨by omega, by omega, fun h3 eh3 => ?_⟩⟩⟩
      subst eh; subst eh3
      have ej : gfr 120 j := by unfold gfr gdy dyn; omega
      have ej1 : gfr 121 j := by unfold gfr gdy dyn; omega
      have ne : ∀ a i, a ≠ 120 → a ≠ 121 → xI (sI (sI h' 120 j 0) 121 j 0) a i = xI h' a i := fun a i ha hb => by rw [xI_sI, if_neg (fun z => hb z.1), xI_sI, if_neg (fun z => ha z.1)]
      refine ih _ ⟨(q1.put ej).put ej1, mput (mput q2 ej (by omega) (by omega)) ej1 (by omega) (by omega), (ne _ _ (by omega) (by omega)).trans q3, fun i hi => (ne _ _ (by omega) (by omega)).trans (q4 i hi), fun i hi => ?_, pre_sI (fun i hi => ?_) rfl⟩
      · rw [xI_sI, if_neg (by omega)]; exact pre_sI q5 rfl i hi
      · rw [xI_sI, if_neg (by omega)]; exact q6 i hi
  have p1 : ∀ (j : Nat) (h' : Hp), j ≤ 48 → (sm gfr h h' ∧ Mok p h' ∧ xI h' 100 16 = 1 ∧ (∀ i, i < j → xI h' 119 i = gst p 119 i)) → Ev l D Y_M_freshen (d + 6) kc ks 15 [some (vr 100), some (vi (j : Int)), none] [] h' Ψ := by
    refine lup _ _ ?_ ?_
    · rintro h' ⟨q1, q2, q3, q4⟩
      apply m_M_freshen_15 q2.1
      exact ⟨fun _ => p2 0 h' (by omega) ⟨q1, q2, q3, q4, fun i hi => by omega, fun i hi => by omega⟩, fun c => by omega⟩
    · rintro j h' hj ⟨q1, q2, q3, q4⟩ ih
      have g48 : ∀ y0 : Int, y0 = bI ((j : Int) < nM p ∧ ¬ rt p j = 0) → Ev l D Y_M_freshen (d + 6) kc ks 48 [some (vr 100), some (vi (j : Int)), none] [vi y0, vi (j : Int), vr 119] h' Ψ := by
        intro y0 ey
        apply m_M_freshen_48 q2.1
        rw [Int.toNat_natCast, wr_s (show j < 1000000 by omega)]
        refine ⟨by omega, by omega, by rw [ey]; exact bI_01 _, fun h2 eh => ?_⟩
        subst eh
        have ej : gfr 119 j := by unfold gfr gdy dyn; omega
        exact ih _ ⟨q1.put ej, mput q2 ej (by omega) (by omega), by rw [xI_sI, if_neg (by omega)]; exact q3, pre_sI q4 (ey.trans gst119.symm)⟩
      apply m_M_freshen_15 q2.1
      rw [Int.toNat_natCast, (q2.2.1).nM, (q2.2.1).rt j]
      exact ⟨fun c => by omega, fun _ => ⟨fun c => g48 0 (bI_f (by omega)).symm, fun c => ⟨by omega, by omega, fun c2 => g48 0 (bI_f (fun z => z.2 c2)).symm, fun c2 => g48 1 (bI_t ⟨c, c2⟩).symm⟩⟩⟩
  have e16 : gfr 100 16 := by unfold gfr; omega
  exact p1 0 _ (by omega) ⟨sm.rf.put e16, mput hm e16 (by omega) (by omega), by rw [xI_sI, if_pos ⟨rfl, rfl⟩], fun i hi => by omega⟩
end FR
