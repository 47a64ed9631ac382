/-! the model: member, op, root -/
section SE2
variable {l : Launch} {D : DD} {d kc ks : Nat} {h h0 : Hp} {Ψ : Option AV → Hp → Prop} {p g : Pg}
theorem ct_M_member {x1 x2 x3 : Int} (hm : Ms p h) (k : ∀ h', sm mdl h h' → Ms (pMe p x1 x2 x3) h' → Ψ (some (vi (rMe p x1 x2 x3))) h') : Ev l D Y_M_member (d + 2) kc ks 0 [some (vr 100), some (vi x1), some (vi x2), some (vi x3), none] [] h Ψ := by
  have hw := hm.1.2.2.1
  have w1 := hw.1
  have w2 := hw.2.1
  have hM := hm.1.1
  have hs := hm.1.2.1
  have bad : ∀ r, rMe p x1 x2 x3 = r → r < 0 → Ψ (some (vi r)) h := fun r e hr => by
    have z := k h sm.rf
    rw [e, show pMe p x1 x2 x3 = p from cG_f (by rw [e]; omega)] at z
    exact z hm
  apply m_M_member_0 hM
  refine ct_M_isType hM hs hw ⟨hM, fun c => ?_, fun c => bad _ ?_ (by omega)⟩
  · rw [bI_n] at c
    have n1 : ¬ ¬ (0 ≤ x1 ∧ x1 < nT p) := fun z => z c
    have ekd := hs.kd x1.toNat
    have g62 : ¬ (¬ (0 ≤ x3 ∧ x3 ≤ 4) ∨ (¬ x3 = 4 ∧ ¬ (0 ≤ x2 ∧ x2 ≤ 9)) ∨ (x3 = 1 ∧ kd p x1.toNat = 0)) → ∀ y : Int, y = cI (x3 = 4) (-1) x2 → Ev l D Y_M_member (d + 2) kc ks 62 [some (vr 100), some (vi x1), some (vi x2), some (vi x3), none] [vi y] h Ψ := by
      intro n2 y ey
      have hy : -1 ≤ y ∧ y ≤ 9 ∧ (x3 = 4 ↔ y = -1) := by
        rcases Classical.em (x3 = 4) with e | e
        · rw [cI_t e] at ey; omega
        · rw [cI_f e] at ey; omega
      apply m_M_member_62 hM
      refine ct_M_ownOf hM hs hw ⟨hM, fun c2 => ?_, fun c2 => bad _ ?_ (by omega)⟩
      · have n3 : ¬ (¬ own p x1 (cI (x3 = 4) (-1) x2) = -1) := fun z => z (by rw [← ey]; exact c2)
        have e0 := hs.nM
        rw [e0]
        refine ⟨fun c3 => ?_, fun c3 => bad _ (by unfold rMe; rw [cI_f n1, cI_f n2, cI_f n3, cI_t c3]) (by omega)⟩
        refine ⟨by omega, by omega, fun h1 eh1 => ?_⟩
        have e1 : xI h1 100 5 = nM p := by rw [eh1, xI_sI, if_neg (by omega)]; exact e0
        rw [e1]
        refine ⟨by omega, by omega, fun h2 eh2 => ?_⟩
        have e2 : xI h2 100 5 = nM p := by rw [eh2, xI_sI, if_neg (by omega)]; exact e1
        rw [e2]
        refine ⟨by omega, by omega, fun h3 eh3 => ?_⟩
        have e3 : xI h3 100 5 = nM p := by rw [eh3, xI_sI, if_neg (by omega)]; exact e2
        rw [e3]
        refine ⟨by omega, by omega, fun h4 eh4 => ?_⟩
        have e4 : xI h4 100 5 = nM p := by rw [eh4, xI_sI, if_neg (by omega)]; exact e3
        rw [e4]
        refine ⟨by omega, by omega, fun h5 eh5 h6 eh6 h7 eh7 => ?_⟩
        have e5 : xI h5 100 5 = nM p := by rw [eh5, xI_sI, if_neg (by omega)]; exact e4
        rw [e5, wr_eq (by omega) (by omega)] at eh6
        have e7 : xI h7 100 5 = nM p + 1 := by rw [eh7, xI_sI, if_neg (by omega), eh6, xI_sI, if_pos ⟨rfl, rfl⟩]
        rw [e7, wr_eq (by omega) (by omega), show nM p + 1 - 1 = nM p by omega]
        have er : rMe p x1 x2 x3 = nM p := by unfold rMe; rw [cI_f n1, cI_f n2, cI_f n3, cI_f c3]
        have z := k h7
        rw [er, show pMe p x1 x2 x3 = pMe1 p x1 y x3 by unfold pMe; rw [cG_t (by rw [er]; omega), ← ey]] at z
        subst eh7; subst eh6; subst eh5; subst eh4; subst eh3; subst eh2; subst eh1
        refine z (((((((sm.rf.put (by omega)).put (by omega)).put (by omega)).put (by omega)).put (by omega)).put (by omega)).put (by omega)) ⟨⟨hM, ?_, WF_me hw c (by omega) (by omega) hy.2.2 (by omega) c2, ?_⟩, Fm_0 ?_⟩
        · exact SD_sI (SD_put (SD_put (SD_put (SD_put (SD_put (SD_put hs)))))) (by decide)
        · refine Lz_congr hm.1.2.2.2 ?_ (fun j => ?_) rfl (fun v => rfl) (fun v => rfl) (fun v => rfl)
          · simp [xI_sI]
          · simp [xI_sI]
        · rw [xI_sI, if_pos ⟨rfl, rfl⟩]
      · unfold rMe; rw [cI_f n1, cI_f n2, cI_t (by rw [← ey]; exact c2)]
    have g52 : ¬ (¬ (0 ≤ x3 ∧ x3 ≤ 4) ∨ (¬ x3 = 4 ∧ ¬ (0 ≤ x2 ∧ x2 ≤ 9)) ∨ (x3 = 1 ∧ kd p x1.toNat = 0)) → Ev l D Y_M_member (d + 2) kc ks 52 [some (vr 100), some (vi x1), some (vi x2), some (vi x3), none] [] h Ψ := by
      intro n2
      apply m_M_member_52 hM
      exact ⟨fun c2 => g62 n2 _ (cI_f c2).symm, fun c2 => g62 n2 _ (cI_t c2).symm⟩
    refine ct_M_in hM ⟨hM, fun c2 => bad _ ?_ (by omega), fun c2 => ?_⟩
    · rw [bI_0] at c2; unfold rMe; rw [cI_f n1, cI_t (Or.inl c2)]
    · rw [bI_n] at c2
      refine ⟨fun c3 => ⟨fun _ => g52 (by omega), fun c4 => by omega⟩, fun c3 => ct_M_in hM ⟨hM, fun c4 => bad _ ?_ (by omega), fun c4 => ?_⟩⟩
      · rw [bI_0] at c4; unfold rMe; rw [cI_f n1, cI_t (Or.inr (Or.inl ⟨c3, c4⟩))]
      · rw [bI_n] at c4
        rw [ekd]
        refine ⟨fun c5 => g52 (by omega), fun c5 => ⟨by omega, by omega, fun c6 => g52 (by omega), fun c6 => bad _ ?_ (by omega)⟩⟩
        unfold rMe; rw [cI_f n1, cI_t (Or.inr (Or.inr ⟨c5, c6⟩))]
  · rw [bI_0] at c; unfold rMe; rw [cI_t c]
theorem ct_M_isNext {t : Nat} {a : Int} (hm : Mok p h) (ht : (t : Int) < nT p) (k : Ψ (some (vi (bI (nxt p t a)))) h) : Ev l D Y_M_isNext d kc ks 0 [some (vr 100), some (vi (t : Int)), some (vi a), none, none] [] h Ψ := by
  obtain ⟨hM, hs, hw, hz⟩ := hm
  have w1 := hw.1
  obtain ⟨z1, z2, z3, z4, z5⟩ := hw.2.2.2.1 t ht
  have e4 := hs.fm t
  have key : ∀ (n i : Nat), i + n = (fm p t).toNat → Ev l D Y_M_isNext d kc ks 19 [some (vr 100), some (vi (t : Int)), some (vi a), some (vi (bI (up p t = a ∨ ∃ j : Nat, j < i ∧ fo p (3 * t + j) = a))), some (vi (i : Int))] [] h Ψ := by
    intro n
    induction n with
    | zero =>
      intro i hi
      apply m_M_isNext_19 hM
      rw [Int.toNat_natCast, e4]
      refine ⟨by omega, by omega, fun _ => ⟨bI_01 _, ?_⟩, fun c => by omega⟩
      rw [bI_c (show (up p t = a ∨ ∃ j : Nat, j < i ∧ fo p (3 * t + j) = a) ↔ nxt p t a from or_congr Iff.rfl ⟨fun ⟨j, j1, j2⟩ => ⟨j, by omega, j2⟩, fun ⟨j, j1, j2⟩ => ⟨j, by omega, j2⟩⟩)]
      exact k
    | succ n ih =>
      intro i hi
      have g54 : ∀ y0 x3 : Int, y0 = bI (up p t = a ∨ ∃ j : Nat, j < i + 1 ∧ fo p (3 * t + j) = a) → Ev l D Y_M_isNext d kc ks 54 [some (vr 100), some (vi (t : Int)), some (vi a), some (vi x3), some (vi (i : Int))] [vi y0] h Ψ := by
        intro y0 x3 ey
        apply m_M_isNext_54 hM
        rw [wr_s (show i < 1000000 by omega), ey]
        exact ih (i + 1) (by omega)
      have ix : wr (wr ((3 : Int) * (t : Int)) + (i : Int)) = ((3 * t + i : Nat) : Int) := by rw [wr_eq (x := 3 * (t : Int)) (by omega) (by omega), wr_eq (by omega) (by omega)]; omega
      have e5 := hs.fo (3 * t + i)
      apply m_M_isNext_19 hM
      rw [Int.toNat_natCast, e4]
      refine ⟨by omega, by omega, fun c => by omega, fun _ => ?_⟩
      rw [ix, Int.toNat_natCast, e5]
      refine ⟨fun c => g54 1 _ ?_, fun c => ⟨by omega, by omega, fun c2 => g54 0 _ ?_, fun c2 => g54 1 _ ?_⟩⟩
      · refine (bI_t ?_).symm
        rcases bI_n.mp c with q | ⟨j, j1, j2⟩
        · exact Or.inl q
        · exact Or.inr ⟨j, by omega, j2⟩
      · refine (bI_f ?_).symm
        rintro (q | ⟨j, j1, j2⟩)
        · exact bI_0.mp c (Or.inl q)
        · rcases Nat.eq_or_lt_of_le (Nat.le_of_lt_succ j1) with e | e
          · rw [e] at j2; exact c2 j2
          · exact bI_0.mp c (Or.inr ⟨j, e, j2⟩)
      · exact (bI_t (Or.inr ⟨i, by omega, c2⟩)).symm
  have e3 := hs.up t
  apply m_M_isNext_0 hM
  rw [Int.toNat_natCast, e3]
  have k0 := key (fm p t).toNat 0 (by omega)
  refine ⟨by omega, by omega, fun c => ?_, fun c => ?_⟩
  · rw [bI_f (by rintro (q | ⟨j, j1, _⟩); exact c q; omega)] at k0; exact k0
  · rw [bI_t (Or.inl c)] at k0; exact k0
theorem ct_M_isRightOp {m : Nat} {x2 x3 x4 : Int} (hm : Mok p h) (hmm : (m : Int) < nM p) (h3 : (0 ≤ x2 ∧ x2 ≤ 4) → 0 ≤ x3 ∧ x3 < nT p) (h4 : x2 = 5 → 0 ≤ x4 ∧ x4 < nM p) (k : Ψ (some (vi (bI (rgt p m x2 x3 x4)))) h) : Ev l D Y_M_isRightOp (d + 1) kc ks 0 [some (vr 100), some (vi (m : Int)), some (vi x2), some (vi x3), some (vi x4)] [] h Ψ := by
  obtain ⟨hM, hs, hw, hz⟩ := hm
  have w1 := hw.1
  have w2 := hw.2.1
  have yes : rgt p m x2 x3 x4 → Ψ (some (vi 1)) h := fun q => by rw [bI_t q] at k; exact k
  have no : ¬ rgt p m x2 x3 x4 → Ψ (some (vi 0)) h := fun q => by rw [bI_f q] at k; exact k
  apply m_M_isRightOp_0 hM
  rw [hs.kd, Int.toNat_natCast, hs.ty m]
  refine ⟨fun c => ⟨by omega, by omega, fun c2 => no ?_, fun c2 => yes ?_⟩, fun c => ct_M_in hM ⟨hM, bI_01 _, ?_⟩, fun c => ⟨by omega, by omega, ?_⟩, fun c => ct_M_in hM ⟨hM, bI_01 _, ?_⟩, fun c => yes ?_, fun c => ct_M_in hM ⟨hM, fun c2 => no ?_, fun c2 => ⟨by have := h4 c; omega, by have := h4 c; omega, ?_⟩⟩, fun c => ct_M_in hM ⟨hM, bI_01 _, ?_⟩, fun c => ct_M_in hM ⟨hM, bI_01 _, ?_⟩, fun c => no ?_⟩
  · unfold rgt; omega
  · unfold rgt; omega
  · rw [bI_c (show (0 ≤ x4 ∧ x4 ≤ 9) ↔ rgt p m x2 x3 x4 by unfold rgt; omega)]; exact k
  · have wt := (hw.2.2.2.2.1 m hmm).1
    obtain ⟨t, et⟩ : ∃ t : Nat, ty p m = (t : Int) := ⟨(ty p m).toNat, by omega⟩
    have yr : rgt p m x2 x3 x4 ↔ nxt p t x3 ∧ 0 ≤ x4 ∧ x4 ≤ 9 := by
      unfold rgt
      rw [et, Int.toNat_natCast]
      constructor
      · intro q; rcases q with q | q | q | q | q | q | q | q
        · omega
        · omega
        · exact q.2
        · omega
        · omega
        · omega
        · omega
        · omega
      · intro q; exact Or.inr (Or.inr (Or.inl ⟨c, q⟩))
    rw [et] at wt ⊢
    refine ct_M_isNext ⟨hM, hs, hw, hz⟩ wt.2 ⟨hM, fun c2 => no (fun q => bI_0.mp c2 (yr.mp q).1), fun c2 => ct_M_in hM ⟨hM, fun c3 => no (fun q => bI_0.mp c3 (yr.mp q).2), fun c3 => yes (yr.mpr ⟨bI_n.mp c2, bI_n.mp c3⟩)⟩⟩
  · rw [bI_c (show (0 ≤ x4 ∧ x4 ≤ 9) ↔ rgt p m x2 x3 x4 by unfold rgt; omega)]; exact k
  · unfold rgt; omega
  · rw [bI_0] at c2; unfold rgt; omega
  · rw [bI_n] at c2
    rw [hs.so]
    refine ct_M_canBeCalled hM ⟨hM, fun c3 => no ?_, fun c3 => yes ?_⟩
    · rw [bI_0] at c3; unfold rgt; omega
    · rw [bI_n] at c3; unfold rgt; omega
  · rw [bI_c (show (0 ≤ x3 ∧ x3 ≤ 3) ↔ rgt p m x2 x3 x4 by unfold rgt; omega)]; exact k
  · rw [bI_c (show (0 ≤ x4 ∧ x4 ≤ 9) ↔ rgt p m x2 x3 x4 by unfold rgt; omega)]; exact k
  · unfold rgt; omega
theorem ct_M_op {x1 x2 x3 x4 : Int} (hm : Ms p h) (k : ∀ h', sm mdl h h' → Ms (pOp p x1 x2 x3 x4) h' → Ψ (some (vi (rOp p x1 x2 x3 x4))) h') : Ev l D Y_M_op (d + 3) kc ks 0 [some (vr 100), some (vi x1), some (vi x2), some (vi x3), some (vi x4)] [] h Ψ := by
  have hw := hm.1.2.2.1
  have w1 := hw.1
  have w2 := hw.2.1
  have w3 := hw.2.2.1
  have hM := hm.1.1
  have hs := hm.1.2.1
  have bad : ∀ r, rOp p x1 x2 x3 x4 = r → r < 0 → Ψ (some (vi r)) h := fun r e hr => by
    have z := k h sm.rf
    rw [e, show pOp p x1 x2 x3 x4 = p from cG_f (by rw [e]; omega)] at z
    exact z hm
  have g42 : ¬ (¬ (0 ≤ x1 ∧ x1 < nM p) ∨ ((0 ≤ x2 ∧ x2 ≤ 4) ∧ ¬ (0 ≤ x3 ∧ x3 < nT p)) ∨ (x2 = 5 ∧ ¬ (0 ≤ x4 ∧ x4 < nM p))) → Ev l D Y_M_op (d + 3) kc ks 42 [some (vr 100), some (vi x1), some (vi x2), some (vi x3), some (vi x4)] [] h Ψ := by
    intro n1
    obtain ⟨m, rfl⟩ : ∃ m : Nat, x1 = (m : Int) := ⟨x1.toNat, by omega⟩
    obtain ⟨m1, m2, m3, m4, m5, m6, m7⟩ := hw.2.2.2.2.1 m (by omega)
    apply m_M_op_42 hM
    refine ct_M_isRightOp hm.1 (by omega) (by omega) (by omega) ⟨hM, fun c => ?_, fun c => bad _ ?_ (by omega)⟩
    · rw [bI_n] at c
      have n2 : ¬ ¬ rgt p (m : Int).toNat x2 x3 x4 := fun z => z (by rw [Int.toNat_natCast]; exact c)
      have eO := hs.nO
      have eM := hs.om m
      rw [Int.toNat_natCast, hs.so m, eO, eM]
      refine ⟨by omega, by omega, fun c2 => ?_, fun c2 => bad _ ?_ (by omega)⟩
      · have n3 : ¬ so p (m : Int).toNat = 1 := by rw [Int.toNat_natCast]; exact c2
        have full : (nO p = 160 ∨ om p m = 24) → Ev l D Y_M_op (d + 3) kc ks 91 [some (vr 100), some (vi (m : Int)), some (vi x2), some (vi x3), some (vi x4)] [] h Ψ := by
          intro q
          apply m_M_op_91 hM
          refine bad _ ?_ (by omega)
          unfold rOp; rw [cI_f n1, cI_f n2, cI_f n3, cI_t (by rw [Int.toNat_natCast]; exact q)]
        refine ⟨fun c3 => full (Or.inl c3), fun c3 => ⟨by omega, by omega, fun c4 => ?_, fun c4 => full (Or.inr c4)⟩⟩
        refine ⟨by omega, by omega, fun h1 eh1 => ?_⟩
        have e1 : xI h1 100 12 = nO p := by rw [eh1, xI_sI, if_neg (by omega)]; exact eO
        rw [e1]
        refine ⟨by omega, by omega, fun h2 eh2 => ?_⟩
        have e2 : xI h2 100 12 = nO p := by rw [eh2, xI_sI, if_neg (by omega)]; exact e1
        have er : rOp p m x2 x3 x4 = om p m := by unfold rOp; rw [cI_f n1, cI_f n2, cI_f n3, Int.toNat_natCast, cI_f (by omega)]
        have hM2 : MS h2 := by rw [eh2, eh1]; exact hM
        have e2m : xI h2 111 m = om p m := by rw [eh2, xI_sI, if_neg (by omega), eh1, xI_sI, if_neg (by omega)]; exact eM
        have g134 : ∀ y : Int, y = cI (x2 = 4) 9 x4 → Ev l D Y_M_op (d + 3) kc ks 134 [some (vr 100), some (vi (m : Int)), some (vi x2), some (vi x3), some (vi x4)] [vi y, vi (xI h2 100 12), vr 116] h2 Ψ := by
          intro y ey
          have hk : (0 ≤ x2 ∧ x2 ≤ 7) ∧ (5 ≤ x2 → x2 ≤ 6 → 0 ≤ x3 ∧ x3 ≤ 3) ∧ ((1 ≤ x2 ∧ x2 ≤ 3) ∨ x2 = 7 → 0 ≤ x4 ∧ x4 ≤ 9) := by unfold rgt at c; omega
          have hy : (x2 = 4 → y = 9) ∧ (¬ x2 = 4 → y = x4) := ⟨fun q => by rw [ey, cI_t q], fun q => by rw [ey, cI_f q]⟩
          rw [e2]
          apply m_M_op_134 hM2
          refine ⟨by omega, by omega, fun h3 eh3 => ?_⟩
          have e3 : xI h3 100 12 = nO p := by rw [eh3, xI_sI, if_neg (by omega)]; exact e2
          have e3m : xI h3 111 m = om p m := by rw [eh3, xI_sI, if_neg (by omega)]; exact e2m
          have ix : wr (wr ((24 : Int) * (m : Int)) + om p m) = ((24 * m + (om p m).toNat : Nat) : Int) := by rw [wr_eq (x := 24 * (m : Int)) (by omega) (by omega), wr_eq (by omega) (by omega)]; omega
          rw [Int.toNat_natCast, e3m, ix, e3, Int.toNat_natCast]
          refine ⟨by omega, by omega, by omega, by omega, fun h4 eh4 h5 eh5 => ⟨by omega, by omega, by omega, by omega, fun h6 eh6 h7 eh7 => ⟨by omega, by omega, ?_⟩⟩⟩
          have e4 : xI h4 100 12 = nO p := by rw [eh4, xI_sI, if_neg (by omega)]; exact e3
          rw [e4, wr_eq (by omega) (by omega)] at eh5
          have e5m : xI h5 111 m = om p m := by rw [eh5, xI_sI, if_neg (by omega), eh4, xI_sI, if_neg (by omega)]; exact e3m
          rw [e5m, wr_eq (by omega) (by omega)] at eh6
          have e7m : xI h7 111 m = om p m + 1 := by rw [eh7, xI_sI, if_neg (by omega), eh6, xI_sI, if_pos ⟨rfl, rfl⟩]
          rw [e7m, wr_eq (by omega) (by omega), show om p m + 1 - 1 = om p m by omega]
          have z := k h7
          rw [er, show pOp p m x2 x3 x4 = pOp1 p m x2 x3 y by unfold pOp; rw [cG_t (by rw [er]; omega), ← ey, Int.toNat_natCast]] at z
          subst eh7; subst eh6; subst eh5; subst eh4; subst eh3; subst eh2; subst eh1
          refine z ((((((((sm.rf.put (by omega)).put (by omega)).put (by omega)).put (by omega)).put (by omega)).put (by omega)).put (by omega))) ⟨⟨hM, ?_, WF_op hw (by omega) hk.1 (by omega) hk.2.1 (by omega) (by omega) (by omega) (by omega), ?_⟩, Fm_0 ?_⟩
          · exact SD_sI (SD_put (SD_put (SD_put (SD_put (SD_put (SD_put hs)))))) (by decide)
          · refine Lz_congr hm.1.2.2.2 ?_ (fun j => ?_) rfl (fun v => rfl) (fun v => rfl) (fun v => rfl)
            · simp [xI_sI]
            · simp [xI_sI]
          · rw [xI_sI, if_pos ⟨rfl, rfl⟩]
        exact ⟨fun c5 => g134 _ (cI_f c5).symm, fun c5 => g134 _ (cI_t c5).symm⟩
      · unfold rOp; rw [cI_f n1, cI_f n2, cI_t (by rw [Int.toNat_natCast]; exact c2)]
    · rw [bI_0] at c; unfold rOp; rw [cI_f n1, cI_t (by rw [Int.toNat_natCast]; exact c)]
  apply m_M_op_0 hM
  refine ct_M_isMember hM hs hw ⟨hM, fun c => bad _ ?_ (by omega), fun c => ct_M_in hM ⟨hM, fun c2 => ⟨fun c3 => ?_, fun c3 => ct_M_isMember hM hs hw ⟨hM, fun c4 => ?_, fun c4 => bad _ ?_ (by omega)⟩⟩, fun c2 => ct_M_isType hM hs hw ⟨hM, fun c3 => bad _ ?_ (by omega), fun c3 => ⟨fun c4 => ?_, fun c4 => ?_⟩⟩⟩⟩
  · rw [bI_0] at c; unfold rOp; rw [cI_t (Or.inl c)]
  · rw [bI_n] at c; rw [bI_0] at c2; exact g42 (by omega)
  · rw [bI_n] at c c4; rw [bI_0] at c2; exact g42 (by omega)
  · rw [bI_0] at c4; unfold rOp; rw [cI_t (Or.inr (Or.inr ⟨c3, c4⟩))]
  · rw [bI_n] at c2; rw [bI_0] at c3; unfold rOp; rw [cI_t (Or.inr (Or.inl ⟨c2, c3⟩))]
  · rw [bI_n] at c c3; exact g42 (by omega)
  · rw [bI_n] at c2; omega
theorem ct_M_root {x1 x2 : Int} (hm : Ms p h) (hx : x2 = 0 ∨ x2 = 1) (k : ∀ h', sm mdl h h' → Ms (pRo p x1 x2) h' → Ψ (some (vi (rRo p x1 x2))) h') : Ev l D Y_M_root (d + 2) kc ks 0 [some (vr 100), some (vi x1), some (vi x2), none] [] h Ψ := by
  have hw := hm.1.2.2.1
  have w2 := hw.2.1
  have hM := hm.1.1
  have hs := hm.1.2.1
  have bad : ∀ r, rRo p x1 x2 = r → r < 0 → Ψ (some (vi r)) h := fun r e hr => by
    have z := k h sm.rf
    rw [e, show pRo p x1 x2 = p from cG_f (by rw [e]; omega)] at z
    exact z hm
  apply m_M_root_0 hM
  refine ct_M_isMember hM hs hw ⟨hM, fun c => ?_, fun c => bad _ ?_ (by omega)⟩
  · rw [bI_n] at c
    have n1 : ¬ ¬ (0 ≤ x1 ∧ x1 < nM p) := fun z => z c
    rw [hs.so, hs.rt]
    refine ⟨by omega, by omega, fun c2 => bad _ ?_ (by omega), fun c2 => ⟨by omega, by omega, fun c3 => ⟨by omega, by omega, by omega, by omega, hx, fun h1 eh1 h2 eh2 => ?_⟩, fun c3 => bad _ ?_ (by omega)⟩⟩
    · unfold rRo; rw [cI_f n1, cI_t (Or.inl c2)]
    · have er : rRo p x1 x2 = bI (¬ rt p x1.toNat = x2) := by unfold rRo; rw [cI_f n1, cI_f (by omega)]
      have z := k h2
      rw [er, show pRo p x1 x2 = gs p 110 x1.toNat x2 from cG_t (by rw [er]; rcases bI_01 (¬ rt p x1.toNat = x2) with q | q <;> rw [q] <;> decide)] at z
      subst eh2; subst eh1
      have z' := z ((sm.rf.put (by omega)).put (by omega)) ⟨⟨hM, SD_sI (SD_put hs) (by decide), WF_ro hw hx, Lz_congr hm.1.2.2.2 (by simp [xI_sI]) (fun j => by simp [xI_sI]) rfl (fun v => rfl) (fun v => rfl) (fun v => rfl)⟩, Fm_0 (by rw [xI_sI, if_pos ⟨rfl, rfl⟩])⟩
      refine ⟨fun c4 => ?_, fun c4 => ?_⟩
      · rw [bI_f (fun q => q c4)] at z'; exact z'
      · rw [bI_t c4] at z'; exact z'
    · unfold rRo; rw [cI_f n1, cI_t (Or.inr c3)]
  · rw [bI_0] at c; unfold rRo; rw [cI_t c]
end SE2
