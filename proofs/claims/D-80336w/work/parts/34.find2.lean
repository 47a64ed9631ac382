/-! find, choose, chosenOf of the model -/
theorem fst_m1 (Q : Nat → Prop) (n m : Nat) : fst Q n m = -1 ↔ ∀ j, m ≤ j → j < m + n → ¬ Q j := by
  rcases fst_spec Q n m with ⟨h1, h2⟩ | ⟨j, h1, h2, h3, h4, h5⟩
  · exact ⟨fun _ => h2, fun _ => h1⟩
  · rw [h5]; exact ⟨fun q => by omega, fun q => absurd h3 (q j h1 h2)⟩
theorem fst_bd (Q : Nat → Prop) (n m : Nat) : -1 ≤ fst Q n m ∧ fst Q n m < m + n ∨ (n = 0 ∧ fst Q n m = -1) := by
  rcases fst_spec Q n m with ⟨h1, h2⟩ | ⟨j, h1, h2, h3, h4, h5⟩
  · cases n with
    | zero => exact Or.inr ⟨rfl, h1⟩
    | succ n => rw [h1]; exact Or.inl ⟨by omega, by omega⟩
  · rw [h5]; exact Or.inl ⟨by omega, by omega⟩
theorem fst_snoc (Q : Nat → Prop) (n m : Nat) : fst Q (n + 1) m = cI (fst Q n m = -1) (cI (Q (m + n)) ((m + n : Nat) : Int) (-1)) (fst Q n m) := by
  rcases fst_spec Q n m with ⟨h1, h2⟩ | ⟨j, h1, h2, h3, h4, h5⟩
  · rw [h1, cI_t rfl]
    rcases fst_spec Q (n + 1) m with ⟨g1, g2⟩ | ⟨j, g1, g2, g3, g4, g5⟩
    · rw [g1, cI_f (g2 (m + n) (by omega) (by omega))]
    · have e : j = m + n := by
        rcases Nat.lt_or_ge j (m + n) with z | z
        · exact absurd g3 (h2 j g1 z)
        · omega
      rw [g5, cI_t (e ▸ g3), e]
  · rw [h5, cI_f (by omega)]
    rcases fst_spec Q (n + 1) m with ⟨g1, g2⟩ | ⟨i, g1, g2, g3, g4, g5⟩
    · exact absurd h3 (g2 j h1 (by omega))
    · have e : i = j := by
        rcases Nat.lt_trichotomy i j with z | z | z
        · exact absurd g3 (h4 i g1 z)
        · exact z
        · exact absurd h3 (g4 j h1 z)
      rw [g5, e]
noncomputable def chs (p : Pg) (x : Int) : Nat → Int → Int
  | 0, _ => -1
  | n + 1, k => cI (k < 0) (-1) (cI (own p k x = -1) (chs p x n (up p k.toNat)) (own p k x))
theorem chs_neg (p : Pg) (x : Int) (n : Nat) : chs p x n (-1) = -1 := by
  cases n with
  | zero => rfl
  | succ n => unfold chs; exact cI_t (by omega)
abbrev lp0 (p : Pg) (t : Nat) (x : Int) : Nat → Prop := fun m => lf p t x m ∧ so p m = 0
noncomputable def fnd (p : Pg) (t : Nat) (x : Int) : Int := cI (chs p x 17 t = -1) (cI (cnt (lp0 p t x) (nM p).toNat 0 = 1) (fst (lp0 p t x) (nM p).toNat 0) (fst (lf p t x) (nM p).toNat 0)) (chs p x 17 t)
/-- the chain of classes, for what may be chosen; -9: nothing there -/
noncomputable def cho1 (p : Pg) (x : Int) : Nat → Int → Int
  | 0, _ => -9
  | n + 1, k => cI (k < 0) (-9) (cI (¬ own p k x = -1 ∧ (so p (own p k x).toNat = 0 ∨ so p (own p k x).toNat = 1)) (cI (so p (own p k x).toNat = 0) (own p k x) (-4)) (cho1 p x n (up p k.toNat)))
theorem cho1_neg (p : Pg) (x : Int) (n : Nat) : cho1 p x n (-1) = -9 := by
  cases n with
  | zero => rfl
  | succ n => unfold cho1; exact cI_t (by omega)
noncomputable def cho2 (p : Pg) (c : Nat) (x : Int) (n : Nat) : Int := cI (cnt (lp0 p c x) n 0 = 0) (-4) (cI (cnt (lp0 p c x) n 0 = 1) (fst (lp0 p c x) n 0) (-5))
noncomputable def cho (p : Pg) (c f : Nat) : Int := cI (so p f = 3) f (cI (cho1 p (nm p f) 17 c = -9) (cho2 p c (nm p f) (nM p).toNat) (cho1 p (nm p f) 17 c))
noncomputable def chf (p : Pg) (c t : Nat) (x : Int) : Int := cI (fnd p t x = -1) (-2) (cI (so p (fnd p t x).toNat = 2) (-3) (cho p c (fnd p t x).toNat))
theorem own_bd {p : Pg} (hw : WF p) (t x : Int) : -1 ≤ own p t x ∧ own p t x < nM p := by
  have w2 := hw.2.1
  rcases fst_bd (fun m => ty p m = t ∧ nm p m = x) (nM p).toNat 0 with h | h
  · unfold own; omega
  · unfold own; omega
theorem chs_bd {p : Pg} (hw : WF p) (x : Int) : ∀ (n : Nat) (k : Int), -1 ≤ chs p x n k ∧ chs p x n k < nM p
  | 0, k => by have := hw.2.1; unfold chs; omega
  | n + 1, k => by
    have h1 := chs_bd hw x n (up p k.toNat)
    have h2 := own_bd hw k x
    have w2 := hw.2.1
    unfold chs
    rcases Classical.em (k < 0) with e | e
    · rw [cI_t e]; omega
    · rw [cI_f e]
      rcases Classical.em (own p k x = -1) with e2 | e2
      · rw [cI_t e2]; exact h1
      · rw [cI_f e2]; exact h2
theorem fnd_bd {p : Pg} (hw : WF p) (t : Nat) (x : Int) : -1 ≤ fnd p t x ∧ fnd p t x < nM p := by
  have w2 := hw.2.1
  have h1 := chs_bd hw x 17 t
  unfold fnd
  rcases Classical.em (chs p x 17 t = -1) with e | e
  · rw [cI_t e]
    have g : ∀ Q : Nat → Prop, -1 ≤ fst Q (nM p).toNat 0 ∧ fst Q (nM p).toNat 0 < nM p := fun Q => by
      rcases fst_bd Q (nM p).toNat 0 with h | h <;> omega
    rcases Classical.em (cnt (lp0 p t x) (nM p).toNat 0 = 1) with e2 | e2
    · rw [cI_t e2]; exact g _
    · rw [cI_f e2]; exact g _
  · rw [cI_f e]; exact h1
section F2
variable {l : Launch} {D : DD} {d kc ks : Nat} {h : Hp} {Ψ : Option AV → Hp → Prop} {p : Pg}
theorem lp_M_find_71 {t : Nat} {x x3 : Int} {h1 : Hp} (hm : Mok p h1) (hl : ∀ m, m < 48 → xI h1 128 m = bI (lf p t x m)) (k : Ψ (some (vi (cI (cnt (lp0 p t x) (nM p).toNat 0 = 1) (fst (lp0 p t x) (nM p).toNat 0) (fst (lf p t x) (nM p).toNat 0)))) h1) :
    ∀ (j : Nat), j ≤ (nM p).toNat → Ev l D Y_M_find (d + 1) kc ks 71 [some (vr 100), some (vi (t : Int)), some (vi x), some (vi x3), some (vi (fst (lf p t x) ((nM p).toNat - j) j)), some (vi (fst (lp0 p t x) ((nM p).toNat - j) j)), some (vi (cnt (lp0 p t x) ((nM p).toNat - j) j)), some (vi ((j : Int) - 1))] [] h1 Ψ := by
  have w2 := hm.2.2.1.2.1
  intro j
  induction j with
  | zero =>
    intro _
    apply m_M_find_71 hm.1
    refine ⟨fun _ => ⟨fun c => ?_, fun c => ?_⟩, fun c => by omega⟩
    · rw [Nat.sub_zero] at c ⊢
      rw [cI_f c] at k; exact k
    · rw [Nat.sub_zero] at c ⊢
      rw [cI_t c] at k; exact k
  | succ j ih =>
    intro hj
    have ih := ih (by omega)
    obtain ⟨N, hN⟩ : ∃ N, (nM p).toNat - (j + 1) = N := ⟨_, rfl⟩
    have hN1 : (nM p).toNat - j = N + 1 := by omega
    rw [hN1] at ih
    rw [hN, show (((j + 1 : Nat) : Int) - 1) = (j : Int) by omega]
    have e9 := (hm.2.1).so j
    have el := hl j (by omega)
    have cb := cnt_le (lp0 p t x) N (j + 1)
    have g151 : ∀ (y0 x6 a4 a5 : Int), a4 = fst (lf p t x) (N + 1) j → a5 = fst (lp0 p t x) (N + 1) j → y0 = bI (lp0 p t x j) → Ev l D Y_M_find (d + 1) kc ks 151 [some (vr 100), some (vi (t : Int)), some (vi x), some (vi x3), some (vi a4), some (vi a5), some (vi x6), some (vi (j : Int))] [vi y0, vi (cnt (lp0 p t x) N (j + 1))] h1 Ψ := by
      intro y0 x6 a4 a5 e4 e5 e0
      apply m_M_find_151 hm.1
      rw [wr_eq (x := (j : Int) + -1) (by omega) (by omega), show (j : Int) + -1 = (j : Int) - 1 by omega]
      have eb := bI_01 (lp0 p t x j)
      have ec : cnt (lp0 p t x) (N + 1) j = bI (lp0 p t x j) + cnt (lp0 p t x) N (j + 1) := rfl
      rw [wr_eq (by omega) (by omega), e4, e5, e0, show cnt (lp0 p t x) N (j + 1) + bI (lp0 p t x j) = cnt (lp0 p t x) (N + 1) j by rw [ec]; omega]
      exact ih
    have g122 : ∀ (y0 a4 x5 : Int), a4 = fst (lf p t x) (N + 1) j → y0 = fst (lp0 p t x) (N + 1) j → Ev l D Y_M_find (d + 1) kc ks 122 [some (vr 100), some (vi (t : Int)), some (vi x), some (vi x3), some (vi a4), some (vi x5), some (vi (cnt (lp0 p t x) N (j + 1))), some (vi (j : Int))] [vi y0] h1 Ψ := by
      intro y0 a4 x5 e4 e0
      apply m_M_find_122 hm.1
      simp only [Int.toNat_natCast, e9, el]
      refine ⟨by omega, by omega, fun z => g151 0 _ _ _ e4 e0 ?_, fun z => ⟨by omega, by omega, fun z2 => g151 0 _ _ _ e4 e0 ?_, fun z2 => g151 1 _ _ _ e4 e0 ?_⟩⟩
      · rw [bI_0] at z; exact (bI_f (fun q => z q.1)).symm
      · exact (bI_f (fun q => z2 q.2)).symm
      · rw [bI_n] at z; exact (bI_t ⟨z, z2⟩).symm
    have g93 : ∀ (y0 x4 : Int), y0 = fst (lf p t x) (N + 1) j → Ev l D Y_M_find (d + 1) kc ks 93 [some (vr 100), some (vi (t : Int)), some (vi x), some (vi x3), some (vi x4), some (vi (fst (lp0 p t x) N (j + 1))), some (vi (cnt (lp0 p t x) N (j + 1))), some (vi (j : Int))] [vi y0] h1 Ψ := by
      intro y0 x4 e0
      apply m_M_find_93 hm.1
      have ef : fst (lp0 p t x) (N + 1) j = cI (lp0 p t x j) j (fst (lp0 p t x) N (j + 1)) := rfl
      simp only [Int.toNat_natCast, e9, el]
      refine ⟨by omega, by omega, fun z => g122 _ _ _ e0 ?_, fun z => ⟨by omega, by omega, fun z2 => g122 _ _ _ e0 ?_, fun z2 => g122 _ _ _ e0 ?_⟩⟩
      · rw [bI_0] at z; rw [ef, cI_f (fun q => z q.1)]
      · rw [ef, cI_f (fun q => z2 q.2)]
      · rw [bI_n] at z; rw [ef, cI_t ⟨z, z2⟩]
    have ef : fst (lf p t x) (N + 1) j = cI (lf p t x j) j (fst (lf p t x) N (j + 1)) := rfl
    apply m_M_find_71 hm.1
    simp only [Int.toNat_natCast, el]
    refine ⟨fun c => by omega, fun _ => ⟨by omega, by omega, fun z => g93 _ _ ?_, fun z => g93 _ _ ?_⟩⟩
    · rw [bI_0] at z; rw [ef, cI_f z]
    · rw [bI_n] at z; rw [ef, cI_t z]
theorem lp_M_find_2 {t : Nat} {x : Int} (hm : Mok p h) : ∀ (n : Nat) (j : Int), -1 ≤ j → j < n → j < nT p → (∀ r, chs p x n j = r → ¬ r = -1 → Ψ (some (vi r)) h) → (chs p x n j = -1 → Ev l D Y_M_find (d + 1) kc ks 2 [some (vr 100), some (vi (t : Int)), some (vi x), some (vi (-1 : Int)), none, none, none, none] [] h Ψ) → Ev l D Y_M_find (d + 1) kc ks 2 [some (vr 100), some (vi (t : Int)), some (vi x), some (vi j), none, none, none, none] [] h Ψ := by
  have hw := hm.2.2.1
  have w1 := hw.1
  intro n
  induction n with
  | zero =>
    intro j h1 h2 h3 k1 k2
    have e : j = -1 := by omega
    rw [e] at k2 ⊢
    exact k2 rfl
  | succ n ih =>
    intro j h1 h2 h3 k1 k2
    by_cases e : j = -1
    · rw [e] at k2 ⊢
      exact k2 (chs_neg p x _)
    · apply m_M_find_2 hm.1
      refine ⟨fun c => absurd c e, fun _ => ct_M_ownOf hm.1 hm.2.1 hw ⟨hm.1, fun c => ?_, fun c => ?_⟩⟩
      · obtain ⟨j', rfl⟩ : ∃ j' : Nat, j = (j' : Int) := ⟨j.toNat, by omega⟩
        obtain ⟨q1, q2, q3, q4, q5⟩ := hw.2.2.2.1 j' h3
        have ex : chs p x (n + 1) (j' : Int) = chs p x n (up p j') := by
          show cI _ _ _ = _
          rw [cI_f (by omega), cI_t c, Int.toNat_natCast]
        have e2 := (hm.2.1).kd j'
        have e3 := (hm.2.1).up j'
        simp only [Int.toNat_natCast, e2, e3]
        rw [ex] at k1 k2
        refine ⟨by omega, by omega, fun z => ⟨by omega, by omega, ih _ q2.1 (by omega) (by omega) k1 k2⟩, fun z => ?_⟩
        rw [q3 z] at k2
        exact k2 (chs_neg p x n)
      · have ex : chs p x (n + 1) j = own p j x := by
          show cI _ _ _ = _
          rw [cI_f (by omega), cI_f c]
        exact k1 _ ex c
theorem ct_M_find {t : Nat} {x : Int} (hm : Mok p h) (ht : (t : Int) < nT p) (k : ∀ h', Sc p h h' → Ψ (some (vi (fnd p t x))) h') : Ev l D Y_M_find (d + 3) kc ks 0 [some (vr 100), some (vi (t : Int)), some (vi x), none, none, none, none, none] [] h Ψ := by
  have hw := hm.2.2.1
  have w1 := hw.1
  have w2 := hw.2.1
  apply m_M_find_0 hm.1
  refine lp_M_find_2 hm 17 t (by omega) (by omega) ht (fun r e hr => ?_) (fun e => ?_)
  · have e2 : fnd p t x = r := by unfold fnd; rw [cI_f (by rw [e]; exact hr), e]
    rw [← e2]; exact k h (Sc.rf hm)
  · apply m_M_find_2 hm.1
    refine ⟨fun _ => ct_M_findLeft hm ht (fun h1 q1 q2 => ⟨q1.2.1, ?_⟩), fun c => absurd rfl c⟩
    rw [(q1.2.2.1).nM, wr_eq (by omega) (by omega)]
    have g := lp_M_find_71 (l := l) (D := D) (d := d + 2) (kc := kc) (ks := ks) (Ψ := Ψ) (x3 := -1) q1.2 q2 (by
      have := k h1 q1
      unfold fnd at this
      rw [cI_t e] at this
      exact this) (nM p).toNat (Nat.le_refl _)
    rw [Nat.sub_self, show ((nM p).toNat : Int) = nM p by omega] at g
    exact g
theorem lp_M_choose_119 {c f : Nat} {x x3 : Int} {h1 : Hp} (hm : Mok p h1) (hl : ∀ m, m < 48 → xI h1 128 m = bI (lf p c x m)) (k : Ψ (some (vi (cho2 p c x (nM p).toNat))) h1) :
    ∀ (i j : Nat), j + i = (nM p).toNat → Ev l D Y_M_choose (d + 1) kc ks 119 [some (vr 100), some (vi (c : Int)), some (vi (f : Int)), some (vi x3), some (vi (cho2 p c x j)), some (vi (j : Int))] [] h1 Ψ := by
  have w2 := hm.2.2.1.2.1
  have e5 := (hm.2.1).nM
  intro i
  induction i with
  | zero =>
    intro j hj
    apply m_M_choose_119 hm.1
    rw [e5]
    obtain rfl : j = (nM p).toNat := by omega
    exact ⟨fun _ => k, fun z => by omega⟩
  | succ i ih =>
    intro j hj
    have ih := ih (j + 1) (by omega)
    have e9 := (hm.2.1).so j
    have el := hl j (by omega)
    have c1 := cnt_snoc (lp0 p c x) j 0
    have f1 := fst_snoc (lp0 p c x) j 0
    rw [Nat.zero_add] at c1 f1
    have cb := cnt_le (lp0 p c x) j 0
    have same : ¬ lp0 p c x j → cho2 p c x (j + 1) = cho2 p c x j := by
      intro hn
      unfold cho2
      rw [c1, bI_f hn, Int.add_zero, f1, cI_f (c := lp0 p c x j) hn]
      rcases Classical.em (fst (lp0 p c x) j 0 = -1) with z | z
      · rw [cI_t z, z]
      · rw [cI_f z]
    apply m_M_choose_119 hm.1
    simp only [e5, Int.toNat_natCast, e9, el, wr_s (show j < 1000000 by omega)]
    refine ⟨fun z => by omega, fun _ => ⟨by omega, by omega, fun z => ?_, fun z => ⟨by omega, by omega, fun z2 => ?_, fun z2 => ⟨fun z3 => ?_, fun z3 => ?_⟩⟩⟩⟩
    · rw [bI_0] at z
      rw [same (fun q => z q.1)] at ih; exact ih
    · rw [same (fun q => z2 q.2)] at ih; exact ih
    · rw [bI_n] at z
      have hq : lp0 p c x j := ⟨z, z2⟩
      have hc : ¬ cnt (lp0 p c x) j 0 = 0 := fun q => z3 (by unfold cho2; exact cI_t q)
      have e : cho2 p c x (j + 1) = -5 := by
        unfold cho2
        rw [c1, bI_t hq, cI_f (by omega), cI_f (by omega)]
      rw [e] at ih; exact ih
    · rw [bI_n] at z
      have hq : lp0 p c x j := ⟨z, z2⟩
      have hc : cnt (lp0 p c x) j 0 = 0 := by
        rcases Classical.em (cnt (lp0 p c x) j 0 = 0) with q | q
        · exact q
        · unfold cho2 at z3
          rw [cI_f q] at z3
          rcases Classical.em (cnt (lp0 p c x) j 0 = 1) with q2 | q2
          · rw [cI_t q2] at z3
            rcases fst_bd (lp0 p c x) j 0 with b | b <;> omega
          · rw [cI_f q2] at z3; omega
      have e : cho2 p c x (j + 1) = (j : Int) := by
        unfold cho2
        rw [c1, bI_t hq, cI_f (by omega), cI_t (by omega), f1, cI_t ((fst_m1 _ _ _).mpr ((cnt_0 _ _ _).mp hc)), cI_t hq]
      rw [e] at ih; exact ih
theorem lp_M_choose_14 {c f : Nat} (hm : Mok p h) (hf : (f : Int) < nM p) : ∀ (n : Nat) (j : Int), -1 ≤ j → j < n → j < nT p → (∀ r, cho1 p (nm p f) n j = r → ¬ r = -9 → Ψ (some (vi r)) h) → (cho1 p (nm p f) n j = -9 → Ev l D Y_M_choose (d + 1) kc ks 14 [some (vr 100), some (vi (c : Int)), some (vi (f : Int)), some (vi (-1 : Int)), none, none] [] h Ψ) → Ev l D Y_M_choose (d + 1) kc ks 14 [some (vr 100), some (vi (c : Int)), some (vi (f : Int)), some (vi j), none, none] [] h Ψ := by
  have hw := hm.2.2.1
  have w1 := hw.1
  have w2 := hw.2.1
  intro n
  induction n with
  | zero =>
    intro j h1 h2 h3 k1 k2
    have e : j = -1 := by omega
    rw [e] at k2 ⊢
    exact k2 rfl
  | succ n ih =>
    intro j h1 h2 h3 k1 k2
    by_cases e : j = -1
    · rw [e] at k2 ⊢
      exact k2 (cho1_neg p _ _)
    · apply m_M_choose_14 hm.1
      have ef := (hm.2.1).nm f
      rw [Int.toNat_natCast, ef]
      obtain ⟨j', rfl⟩ : ∃ j' : Nat, j = (j' : Int) := ⟨j.toNat, by omega⟩
      obtain ⟨q1, q2, q3, q4, q5⟩ := hw.2.2.2.1 j' h3
      have e2 := (hm.2.1).kd j'
      have e3 := (hm.2.1).up j'
      have ob := own_bd hw j' (nm p f)
      have ex : cho1 p (nm p f) (n + 1) (j' : Int) = cI (¬ own p j' (nm p f) = -1 ∧ (so p (own p j' (nm p f)).toNat = 0 ∨ so p (own p j' (nm p f)).toNat = 1)) (cI (so p (own p j' (nm p f)).toNat = 0) (own p j' (nm p f)) (-4)) (cho1 p (nm p f) n (up p j')) := by
        show cI _ _ _ = _
        rw [cI_f (by omega), Int.toNat_natCast]
      have go : cho1 p (nm p f) (n + 1) (j' : Int) = cho1 p (nm p f) n (up p j') → (¬ kd p j' = 2 → Ev l D Y_M_choose (d + 1) kc ks 14 [some (vr 100), some (vi (c : Int)), some (vi (f : Int)), some (vi (up p j')), none, none] [] h Ψ) ∧ (kd p j' = 2 → Ev l D Y_M_choose (d + 1) kc ks 14 [some (vr 100), some (vi (c : Int)), some (vi (f : Int)), some (vi (-1 : Int)), none, none] [] h Ψ) := by
        intro ez
        rw [ez] at k1 k2
        exact ⟨fun _ => ih _ q2.1 (by omega) (by omega) k1 k2, fun z => by rw [q3 z] at k2; exact k2 (cho1_neg p _ n)⟩
      refine ⟨fun z => absurd z e, fun _ => ⟨by omega, by omega, ct_M_ownOf hm.1 hm.2.1 hw ⟨hm.1, fun z => ?_, fun z => ?_⟩⟩⟩
      · simp only [Int.toNat_natCast, e2, e3]
        obtain ⟨g1, g2⟩ := go (by rw [ex]; exact cI_f (fun q => q.1 z))
        exact ⟨by omega, by omega, fun z2 => ⟨by omega, by omega, g1 z2⟩, g2⟩
      · have e9 := (hm.2.1).so (own p j' (nm p f)).toNat
        simp only [Int.toNat_natCast, e2, e3, e9]
        refine ⟨by omega, by omega, fun z2 => ⟨by omega, by omega, fun z3 => absurd z2 z3, fun _ => ?_⟩, fun z2 => ⟨by omega, by omega, fun z3 => ?_, fun z3 => ⟨by omega, by omega, fun _ => ?_, fun z4 => absurd z4 z2⟩⟩⟩
        · exact k1 _ (by rw [ex, cI_t ⟨z, Or.inl z2⟩, cI_t z2]) (by omega)
        · obtain ⟨g1, g2⟩ := go (by rw [ex]; exact cI_f (fun q => q.2.elim z2 z3))
          exact ⟨by omega, by omega, fun z4 => ⟨by omega, by omega, g1 z4⟩, g2⟩
        · exact k1 _ (by rw [ex, cI_t ⟨z, Or.inr z3⟩, cI_f z2]) (by omega)
theorem ct_M_choose {c f : Nat} (hm : Mok p h) (hc : (c : Int) < nT p) (hf : (f : Int) < nM p) (k : ∀ h', Sc p h h' → Ψ (some (vi (cho p c f))) h') : Ev l D Y_M_choose (d + 3) kc ks 0 [some (vr 100), some (vi (c : Int)), some (vi (f : Int)), none, none, none] [] h Ψ := by
  have hw := hm.2.2.1
  have w1 := hw.1
  have w2 := hw.2.1
  apply m_M_choose_0 hm.1
  have e9 := (hm.2.1).so f
  rw [Int.toNat_natCast, e9]
  refine ⟨by omega, by omega, fun z => ?_, fun z => ?_⟩
  · refine lp_M_choose_14 hm hf 17 c (by omega) (by omega) hc (fun r e hr => ?_) (fun e => ?_)
    · have e2 : cho p c f = r := by unfold cho; rw [cI_f z, cI_f (by rw [e]; exact hr), e]
      rw [← e2]; exact k h (Sc.rf hm)
    · apply m_M_choose_14 hm.1
      have ef := (hm.2.1).nm f
      rw [Int.toNat_natCast, ef]
      refine ⟨fun _ => ⟨by omega, by omega, ct_M_findLeft hm hc (fun h1 q1 q2 => ⟨q1.2.1, ?_⟩)⟩, fun c => absurd rfl c⟩
      have g := lp_M_choose_119 (l := l) (D := D) (d := d + 2) (kc := kc) (ks := ks) (Ψ := Ψ) (x3 := -1) (f := f) q1.2 q2 (by
        have := k h1 q1
        unfold cho at this
        rw [cI_f z, cI_t e] at this
        exact this) (nM p).toNat 0 (by omega)
      have e4 : cho2 p c (nm p f) 0 = -4 := by unfold cho2; exact cI_t rfl
      rw [e4] at g
      exact g
  · have e2 : cho p c f = (f : Int) := by unfold cho; rw [cI_t z]
    rw [← e2]; exact k h (Sc.rf hm)
theorem ct_M_chosenOf {c t : Nat} {x : Int} (hm : Mok p h) (hc : (c : Int) < nT p) (ht : (t : Int) < nT p) (k : ∀ h', Sc p h h' → Ψ (some (vi (chf p c t x))) h') : Ev l D Y_M_chosenOf (d + 4) kc ks 0 [some (vr 100), some (vi (c : Int)), some (vi (t : Int)), some (vi x), none] [] h Ψ := by
  have hw := hm.2.2.1
  have fb := fnd_bd hw t x
  have w2 := hw.2.1
  apply m_M_chosenOf_0 hm.1
  refine ct_M_find hm ht (fun h1 q1 => ⟨q1.2.1, fun z => ?_, fun z => ?_⟩)
  · have e9 := (q1.2.2.1).so (fnd p t x).toNat
    rw [e9]
    refine ⟨by omega, by omega, fun z2 => ?_, fun z2 => ?_⟩
    · have g : Ev l D Y_M_choose (d + 3) 0 0 0 [some (vr 100), some (vi (c : Int)), some (vi (((fnd p t x).toNat : Nat) : Int)), none, none, none] [] h1 (ki fun r2 h2 => MS h2 ∧ Ψ (some (vi r2)) h2) := by
        refine ct_M_choose q1.2 hc (by omega) (fun h2 q2 => ⟨q2.2.1, ?_⟩)
        have := k h2 (q1.tr q2)
        unfold chf at this
        rw [cI_f z, cI_f z2] at this
        exact this
      rw [show (((fnd p t x).toNat : Nat) : Int) = fnd p t x by omega] at g
      exact g
    · have := k h1 q1
      unfold chf at this
      rw [cI_f z, cI_t z2] at this
      exact this
  · have := k h1 q1
    unfold chf at this
    rw [cI_t z] at this
    exact this
end F2
