/-! the graph: pure words for one op's work, and the model's methods -/
def dyn (a k : Nat) : Prop := (a = 119 ∧ k < 48) ∨ (a = 120 ∧ k < 16) ∨ (a = 121 ∧ k < 16) ∨ (a = 122 ∧ k < 192) ∨ (a = 123 ∧ k < 7680) ∨ (a = 124 ∧ k < 640) ∨ (a = 100 ∧ k = 17)
def gdy (a k : Nat) : Prop := scr a k ∨ dyn a k
theorem gdy_sta {a k : Nat} (q : gdy a k) : ¬ sta a k = true := by
  intro z
  have := sta_iff.mp z
  unfold gdy scr dyn at q
  omega
def Gv (p : Pg) (h0 h : Hp) (g : Pg) : Prop := sm gdy h0 h ∧ Mok p h ∧ ∀ a k, dyn a k → xI h a k = g a k
def gs (g : Pg) (a k : Nat) (x : Int) : Pg := fun b j => if b = a ∧ j = k then x else g b j
noncomputable def cG (c : Prop) (a b : Pg) : Pg := @ite Pg c (Classical.propDecidable c) a b
theorem cG_t {c : Prop} {a b : Pg} (h : c) : cG c a b = a := if_pos h
theorem cG_f {c : Prop} {a b : Pg} (h : ¬ c) : cG c a b = b := if_neg h
theorem Gv.sc {p : Pg} {h0 h h' : Hp} {g : Pg} (q : Gv p h0 h g) (r : Sc p h h') : Gv p h0 h' g := ⟨q.1.tr (r.1.mono (fun _ _ => Or.inl)), r.2, fun a k hd => (r.1.2.2 a k (fun z => by unfold scr at z; unfold dyn at hd; omega)).trans (q.2.2 a k hd)⟩
theorem Gv.put {p : Pg} {h0 h : Hp} {g : Pg} {a k : Nat} {x : Int} (q : Gv p h0 h g) (hd : dyn a k) : Gv p h0 (sI h a k x) (gs g a k x) := by
  refine ⟨q.1.put (Or.inr hd), Mok_sI q.2.1 (gdy_sta (Or.inr hd)) (by unfold dyn at hd; omega) (by unfold dyn at hd; omega), fun b j hb => ?_⟩
  rw [xI_sI]
  unfold gs
  by_cases e : b = a ∧ j = k
  · rw [if_pos e, if_pos e]
  · rw [if_neg e, if_neg e]; exact q.2.2 b j hb
theorem Gv.rf {p : Pg} {h : Hp} (hm : Mok p h) : Gv p h h (xI h) := ⟨sm.rf, hm, fun _ _ _ => rfl⟩
theorem Gv.eq {p : Pg} {h0 h : Hp} {g g' : Pg} (q : Gv p h0 h g) (e : ∀ a k, dyn a k → g a k = g' a k) : Gv p h0 h g' := ⟨q.1, q.2.1, fun a k hd => (q.2.2 a k hd).trans (e a k hd)⟩
/-- 'grew' when b -/
noncomputable def gw (g : Pg) (b : Prop) : Pg := gs g 100 17 (bI (¬ g 100 17 = 0 ∨ b))
noncomputable def greach (g : Pg) (m : Nat) : Pg := gs (gw g (g 119 m = 0)) 119 m 1
noncomputable def gcall (g : Pg) (o m : Nat) : Pg := greach (gs (gw g (g 123 (48 * o + m) = 0)) 123 (48 * o + m) 1) m
def gflt (g : Pg) (o : Nat) (c : Int) : Pg := gs g 124 (4 * (o : Int) - 2 - c).toNat (wr (g 124 (4 * (o : Int) - 2 - c).toNat + 1))
def hpl (p : Pg) (t : Nat) : Prop := ∃ m : Nat, (m : Int) < nM p ∧ ty p m = (t : Int) ∧ so p m = 0
def wth (p : Pg) (t k : Nat) : Prop := k = t ∨ (¬ kd p t = 2 ∧ (k : Int) < nT p ∧ U p t k ∧ (¬ kd p k = 2 ∨ hpl p k))
noncomputable def gbeg1 (p : Pg) (o k : Nat) (g : Pg) : Pg := cG (own p k (-1) = -1) (gs (gw g (g 121 k = 0)) 121 k 1) (gcall (gs (gw g (g 121 k = 0)) 121 k 1) o (own p k (-1)).toNat)
noncomputable def gbeg (p : Pg) (o t : Nat) : Nat → Nat → Pg → Pg
  | 0, _, g => g
  | n + 1, k, g => gbeg p o t n (k + 1) (cG (wth p t k) (gbeg1 p o k g) g)
noncomputable def gca1 (o : Nat) (to s : Int) (g : Pg) : Pg := cG (0 ≤ to) (gcall g o to.toNat) (cG (to ≤ -4 ∨ s = 0) (gflt g o to) g)
noncomputable def gca (p : Pg) (o t : Nat) (x : Int) : Nat → Nat → Int → Pg → Pg
  | 0, _, _, g => g
  | n + 1, c, s, g => gca p o t x n (c + 1) (cI (¬ g 120 c = 0 ∧ U p c t) 1 s) (cG (¬ g 120 c = 0 ∧ U p c t) (gca1 o (chf p c t x) s g) g)
noncomputable def gou (o a : Nat) : Nat → Nat → Pg → Pg
  | 0, _, g => g
  | n + 1, m, g => gou o a n (m + 1) (cG (g 122 (48 * a + m) = 0) g (gcall g o m))
noncomputable def gan (p : Pg) (o : Nat) (b : Int) : Nat → Nat → Pg → Pg
  | 0, _, g => g
  | n + 1, m, g => gan p o b n (m + 1) (cG (nm p m = b ∧ (so p m = 0 ∨ so p m = 2 ∨ so p m = 3)) (gcall g o m) g)
def grst (o : Nat) (g : Pg) : Pg := gs (gs (gs (gs g 124 (4 * o) 0) 124 (4 * o + 1) 0) 124 (4 * o + 2) 0) 124 (4 * o + 3) 0
noncomputable def gfk (p : Pg) (o : Nat) (g : Pg) : Pg :=
  cG (ok p o = 0) (gbeg p o (oA p o).toNat (nT p).toNat 0 (gs (gw g (g 120 (oA p o).toNat = 0)) 120 (oA p o).toNat 1))
  (cG (ok p o = 1 ∨ ok p o = 4) (gca p o (oA p o).toNat (oB p o) (nT p).toNat 0 0 g)
  (cG (ok p o = 2) (cG (0 ≤ chf p (oA p o).toNat (oA p o).toNat (oB p o)) (gcall g o (chf p (oA p o).toNat (oA p o).toNat (oB p o)).toNat) (gflt g o (chf p (oA p o).toNat (oA p o).toNat (oB p o))))
  (cG (ok p o = 3) (cG (¬ fnd p (oA p o).toNat (oB p o) = -1 ∧ so p (fnd p (oA p o).toNat (oB p o)).toNat = 2) (gbeg p o (ty p (fnd p (oA p o).toNat (oB p o)).toNat).toNat (nT p).toNat 0 (gcall g o (fnd p (oA p o).toNat (oB p o)).toNat)) (gflt g o (cI (fnd p (oA p o).toNat (oB p o) = -1) (-2) (-3))))
  (cG (ok p o = 5) (gs (gw g (g 122 (48 * (oA p o).toNat + (oB p o).toNat) = 0)) 122 (48 * (oA p o).toNat + (oB p o).toNat) 1)
  (cG (ok p o = 6) (gou o (oA p o).toNat (nM p).toNat 0 g) (gan p o (oB p o) (nM p).toNat 0 g))))))
noncomputable def gfol (p : Pg) (o : Nat) (g : Pg) : Pg := gfk p o (grst o g)
theorem cho_bd {p : Pg} (hw : WF p) (c f : Nat) (hf : (f : Int) < nM p) : (0 ≤ cho p c f ∧ cho p c f < nM p) ∨ cho p c f = -4 ∨ cho p c f = -5 := by
  have w2 := hw.2.1
  have h1 : ∀ (n : Nat) (k : Int), (0 ≤ cho1 p (nm p f) n k ∧ cho1 p (nm p f) n k < nM p) ∨ cho1 p (nm p f) n k = -4 ∨ cho1 p (nm p f) n k = -9 := by
    intro n
    induction n with
    | zero => intro k; exact Or.inr (Or.inr rfl)
    | succ n ih =>
      intro k
      unfold cho1
      rcases Classical.em (k < 0) with e | e
      · rw [cI_t e]; exact Or.inr (Or.inr rfl)
      · rw [cI_f e]
        rcases Classical.em (¬ own p k (nm p f) = -1 ∧ (so p (own p k (nm p f)).toNat = 0 ∨ so p (own p k (nm p f)).toNat = 1)) with e2 | e2
        · rw [cI_t e2]
          have ob := own_bd hw k (nm p f)
          rcases Classical.em (so p (own p k (nm p f)).toNat = 0) with e3 | e3
          · rw [cI_t e3]; left; have := e2.1; omega
          · rw [cI_f e3]; exact Or.inr (Or.inl rfl)
        · rw [cI_f e2]; exact ih _
  unfold cho
  rcases Classical.em (so p f = 3) with e | e
  · rw [cI_t e]; left; omega
  · rw [cI_f e]
    rcases Classical.em (cho1 p (nm p f) 17 c = -9) with e2 | e2
    · rw [cI_t e2]
      unfold cho2
      rcases Classical.em (cnt (lp0 p c (nm p f)) (nM p).toNat 0 = 0) with e3 | e3
      · rw [cI_t e3]; exact Or.inr (Or.inl rfl)
      · rw [cI_f e3]
        rcases Classical.em (cnt (lp0 p c (nm p f)) (nM p).toNat 0 = 1) with e4 | e4
        · rw [cI_t e4]
          rcases fst_spec (lp0 p c (nm p f)) (nM p).toNat 0 with ⟨b1, b2⟩ | ⟨j, b1, b2, b3, b4, b5⟩
          · exact absurd ((cnt_0 _ _ _).mpr b2) e3
          · rw [b5]; left; omega
        · rw [cI_f e4]; exact Or.inr (Or.inr rfl)
    · rw [cI_f e2]
      rcases h1 17 c with g | g | g
      · exact Or.inl g
      · exact Or.inr (Or.inl g)
      · exact absurd g e2
theorem chf_bd {p : Pg} (hw : WF p) (c t : Nat) (x : Int) : (0 ≤ chf p c t x ∧ chf p c t x < nM p) ∨ (-5 ≤ chf p c t x ∧ chf p c t x ≤ -2) := by
  have fb := fnd_bd hw t x
  unfold chf
  rcases Classical.em (fnd p t x = -1) with e | e
  · rw [cI_t e]; omega
  · rw [cI_f e]
    rcases Classical.em (so p (fnd p t x).toNat = 2) with e2 | e2
    · rw [cI_t e2]; omega
    · rw [cI_f e2]
      have := cho_bd hw c (fnd p t x).toNat (by omega)
      omega
section GR
variable {l : Launch} {D : DD} {d kc ks : Nat} {h h0 : Hp} {Ψ : Option AV → Hp → Prop} {p g : Pg}
theorem ct_M_hasPlain {t : Nat} (hm : Mok p h) (k : Ψ (some (vi (bI (hpl p t)))) h) : Ev l D Y_M_hasPlain d kc ks 0 [some (vr 100), some (vi (t : Int)), none, none] [] h Ψ := by
  have w2 := hm.2.2.1.2.1
  have e5 := (hm.2.1).nM
  apply m_M_hasPlain_0 hm.1
  have key : ∀ (i j : Nat), j + i = (nM p).toNat → Ev l D Y_M_hasPlain d kc ks 4 [some (vr 100), some (vi (t : Int)), some (vi (bI (∃ m : Nat, m < j ∧ ty p m = (t : Int) ∧ so p m = 0))), some (vi (j : Int))] [] h Ψ := by
    intro i
    induction i with
    | zero =>
      intro j hj
      apply m_M_hasPlain_4 hm.1
      rw [e5]
      refine ⟨fun _ => ⟨bI_01 _, ?_⟩, fun c => by omega⟩
      rw [bI_c (show (∃ m : Nat, m < j ∧ ty p m = (t : Int) ∧ so p m = 0) ↔ hpl p t from ⟨fun ⟨m, q⟩ => ⟨m, by omega, q.2⟩, fun ⟨m, q⟩ => ⟨m, by have := q.1; omega, q.2⟩⟩)]
      exact k
    | succ i ih =>
      intro j hj
      have g40 : ∀ (y0 x2 : Int), y0 = bI (∃ m : Nat, m < j + 1 ∧ ty p m = (t : Int) ∧ so p m = 0) → Ev l D Y_M_hasPlain d kc ks 40 [some (vr 100), some (vi (t : Int)), some (vi x2), some (vi (j : Int))] [vi y0] h Ψ := by
        intro y0 x2 e0
        apply m_M_hasPlain_40 hm.1
        rw [wr_s (show j < 1000000 by omega), e0]
        exact ih (j + 1) (by omega)
      have e7 := (hm.2.1).ty j
      have e9 := (hm.2.1).so j
      apply m_M_hasPlain_4 hm.1
      simp only [e5, Int.toNat_natCast, e7, e9]
      refine ⟨fun c => by omega, fun _ => ⟨fun c => g40 1 _ ?_, fun c => ⟨by omega, by omega, fun c2 => g40 0 _ ?_, fun c2 => ⟨by omega, by omega, fun c3 => g40 0 _ ?_, fun c3 => g40 1 _ ?_⟩⟩⟩⟩
      · rw [bI_n] at c; obtain ⟨m, q1, q2⟩ := c
        exact (bI_t ⟨m, by omega, q2⟩).symm
      · rw [bI_0] at c
        refine (bI_f (fun ⟨m, q1, q2, q3⟩ => ?_)).symm
        rcases Nat.eq_or_lt_of_le (Nat.le_of_lt_succ q1) with e | e
        · rw [e] at q2; exact c2 q2
        · exact c ⟨m, e, q2, q3⟩
      · rw [bI_0] at c
        refine (bI_f (fun ⟨m, q1, q2, q3⟩ => ?_)).symm
        rcases Nat.eq_or_lt_of_le (Nat.le_of_lt_succ q1) with e | e
        · rw [e] at q3; exact c3 q3
        · exact c ⟨m, e, q2, q3⟩
      · exact (bI_t ⟨j, by omega, c2, c3⟩).symm
  have := key (nM p).toNat 0 (by omega)
  rw [bI_f (fun ⟨m, q, _⟩ => by omega)] at this
  exact this
theorem ct_M_findWith {t : Nat} (hm : Mok p h) (ht : (t : Int) < nT p) (k : ∀ h', Sc p h h' → (∀ j, j < 16 → xI h' 130 j = bI (wth p t j)) → Ψ none h') : Ev l D Y_M_findWith (d + 2) kc ks 0 [some (vr 100), some (vi (t : Int)), none] [] h Ψ := by
  have hw := hm.2.2.1
  have w1 := hw.1
  apply m_M_findWith_0 hm.1
  have lp2 : ∀ (i : Nat) (h' : Hp), i ≤ (nT p).toNat → (Sc p h h' ∧ (∀ j, j < i → xI h' 130 j = bI (wth p t j)) ∧ ∀ j, i ≤ j → j < 16 → xI h' 130 j = bI (j = t)) → Ev l D Y_M_findWith (d + 2) kc ks 32 [some (vr 100), some (vi (t : Int)), some (vi (i : Int))] [] h' Ψ := by
    refine lup _ _ ?_ ?_
    · rintro h' ⟨q1, q2, q3⟩
      apply m_M_findWith_32 q1.2.1
      rw [(q1.2.2.1).nT]
      refine ⟨fun _ => k h' q1 (fun j hj => ?_), fun c => by omega⟩
      by_cases e : j < (nT p).toNat
      · exact q2 j e
      · rw [q3 j (by omega) hj]
        exact bI_c ⟨Or.inl, fun q => q.elim id (fun z => by have := z.2.1; omega)⟩
    · rintro i h' hi ⟨q1, q2, q3⟩ ih
      have g96 : ∀ (h2 : Hp) (y0 : Int), Sc p h h2 → (∀ j, j < i → xI h2 130 j = bI (wth p t j)) → (∀ j, i ≤ j → j < 16 → xI h2 130 j = bI (j = t)) → y0 = bI (wth p t i) → Ev l D Y_M_findWith (d + 2) kc ks 96 [some (vr 100), some (vi (t : Int)), some (vi (i : Int))] [vi y0, vi (i : Int), vr 130] h2 Ψ := by
        intro h2 y0 r1 r2 r3 e0
        apply m_M_findWith_96 r1.2.1
        rw [wr_s (show i < 1000000 by omega), Int.toNat_natCast]
        refine ⟨by omega, by omega, by rw [e0]; exact bI_01 _, fun h3 e3 => ?_⟩
        subst e3
        exact ih _ ⟨r1.put (Or.inr (Or.inr rfl)), pre_sI r2 e0, fun j j1 j2 => by rw [xI_sI, if_neg (by omega)]; exact r3 j (by omega) j2⟩
      apply m_M_findWith_32 q1.2.1
      have e0 := (q1.2.2.1).nT
      have e2 := (q1.2.2.1).kd t
      have e4 := q3 i (Nat.le_refl _) (by omega)
      simp only [e0, Int.toNat_natCast, e2, e4]
      refine ⟨fun c => by omega, fun _ => ⟨by omega, by omega, fun c => k h' q1 (fun j hj => ?_), fun c => ⟨by omega, by omega, fun c2 => ?_, fun c2 => ?_⟩⟩⟩
      · have e : wth p t j ↔ j = t := ⟨fun q => q.elim id (fun z => absurd c z.1), Or.inl⟩
        by_cases e1 : j < i
        · exact q2 j e1
        · rw [q3 j (by omega) hj]; exact bI_c e.symm
      · rw [bI_n] at c2
        exact g96 h' 1 q1 q2 q3 (bI_t (Or.inl c2)).symm
      · rw [bI_0] at c2
        refine ct_M_isUnderI2 q1.2 ⟨by omega, ht⟩ ⟨by omega, by omega⟩ (fun h2 s1 s2 => ⟨s1.2.1, ?_⟩)
        have r2 : ∀ j, j < i → xI h2 130 j = bI (wth p t j) := fun j hj => (s2.2.2 130 j (by unfold scU; omega)).trans (q2 j hj)
        have r3 : ∀ j, i ≤ j → j < 16 → xI h2 130 j = bI (j = t) := fun j j1 j2 => (s2.2.2 130 j (by unfold scU; omega)).trans (q3 j j1 j2)
        have e3 := (s1.2.2.1).kd i
        simp only [Int.toNat_natCast, e3]
        refine ⟨fun c3 => ?_, fun c3 => ⟨by omega, by omega, fun c4 => ?_, fun c4 => ct_M_hasPlain s1.2 ⟨s1.2.1, fun c5 => ?_, fun c5 => ?_⟩⟩⟩
        · rw [bI_0] at c3
          exact g96 h2 0 (q1.tr s1) r2 r3 (bI_f (fun q => q.elim c2 (fun z => c3 z.2.2.1))).symm
        · rw [bI_n] at c3
          exact g96 h2 1 (q1.tr s1) r2 r3 (bI_t (Or.inr ⟨c, by omega, c3, Or.inl c4⟩)).symm
        · rw [bI_0] at c5
          exact g96 h2 0 (q1.tr s1) r2 r3 (bI_f (fun q => q.elim c2 (fun z => z.2.2.2.elim (fun y => y c4) c5))).symm
        · rw [bI_n] at c3 c5
          exact g96 h2 1 (q1.tr s1) r2 r3 (bI_t (Or.inr ⟨c, by omega, c3, Or.inr c5⟩)).symm
  have lp1 : ∀ (i : Nat) (h' : Hp), i ≤ 16 → (Sc p h h' ∧ ∀ j, j < i → xI h' 130 j = bI (j = t)) → Ev l D Y_M_findWith (d + 2) kc ks 2 [some (vr 100), some (vi (t : Int)), some (vi (i : Int))] [] h' Ψ := by
    refine lup _ _ ?_ ?_
    · rintro h' ⟨q1, q2⟩
      apply m_M_findWith_2 q1.2.1
      exact ⟨fun _ => lp2 0 h' (Nat.zero_le _) ⟨q1, fun j hj => by omega, fun j _ hj => q2 j hj⟩, fun c => by omega⟩
    · rintro i h' hi ⟨q1, q2⟩ ih
      apply m_M_findWith_2 q1.2.1
      simp only [Int.toNat_natCast, wr_s (show i < 1000000 by omega)]
      refine ⟨fun c => by omega, fun _ => ⟨fun c => ⟨by omega, by omega, fun h1 e1 => ?_⟩, fun c => ⟨by omega, by omega, fun h1 e1 => ?_⟩⟩⟩
      · subst e1; exact ih _ ⟨q1.put (Or.inr (Or.inr rfl)), pre_sI q2 (bI_f (by omega)).symm⟩
      · subst e1; exact ih _ ⟨q1.put (Or.inr (Or.inr rfl)), pre_sI q2 (bI_t (by omega)).symm⟩
  exact lp1 0 h (Nat.zero_le _) ⟨Sc.rf hm, fun j hj => by omega⟩
theorem ct_M_reach {m : Nat} (q : Gv p h0 h g) (hmm : m < 48) (k : ∀ h', sm dyn h h' → Gv p h0 h' (greach g m) → Ψ none h') : Ev l D Y_M_reach d kc ks 0 [some (vr 100), some (vi (m : Int))] [] h Ψ := by
  have e1 := q.2.2 100 17 (by unfold dyn; omega)
  have e2 := q.2.2 119 m (by unfold dyn; omega)
  have g22 : ∀ y0 : Int, y0 = bI (¬ g 100 17 = 0 ∨ g 119 m = 0) → Ev l D Y_M_reach d kc ks 22 [some (vr 100), some (vi (m : Int))] [vi y0, vr 100] h Ψ := by
    intro y0 e0
    apply m_M_reach_22 q.2.1.1
    rw [Int.toNat_natCast]
    refine ⟨by rw [e0]; exact bI_01 _, fun h1 eh1 => ⟨by omega, by omega, fun h2 eh2 => ?_⟩⟩
    subst eh1; subst eh2
    refine k _ ((sm.rf.put (by unfold dyn; omega)).put (by unfold dyn; omega)) ?_
    rw [e0]
    exact (q.put (a := 100) (k := 17) (by unfold dyn; omega)).put (by unfold dyn; omega)
  apply m_M_reach_0 q.2.1.1
  rw [e1, Int.toNat_natCast, e2]
  exact ⟨fun c => g22 1 (bI_t (Or.inl c)).symm, fun c => ⟨by omega, by omega, fun c2 => g22 0 (bI_f (fun z => z.elim (fun y => y c) c2)).symm, fun c2 => g22 1 (bI_t (Or.inr c2)).symm⟩⟩
theorem ct_M_call {o m : Nat} (q : Gv p h0 h g) (ho : o < 160) (hmm : m < 48) (k : ∀ h', sm dyn h h' → Gv p h0 h' (gcall g o m) → Ψ none h') : Ev l D Y_M_call (d + 1) kc ks 0 [some (vr 100), some (vi (o : Int)), some (vi (m : Int))] [] h Ψ := by
  have e1 := q.2.2 100 17 (by unfold dyn; omega)
  have e2 := q.2.2 123 (48 * o + m) (by unfold dyn; omega)
  have ix : wr (wr ((48 : Int) * (o : Int)) + (m : Int)) = ((48 * o + m : Nat) : Int) := by rw [wr_eq (x := 48 * (o : Int)) (by omega) (by omega), wr_eq (by omega) (by omega)]; omega
  have g27 : ∀ y0 : Int, y0 = bI (¬ g 100 17 = 0 ∨ g 123 (48 * o + m) = 0) → Ev l D Y_M_call (d + 1) kc ks 27 [some (vr 100), some (vi (o : Int)), some (vi (m : Int))] [vi y0, vr 100] h Ψ := by
    intro y0 e0
    apply m_M_call_27 q.2.1.1
    rw [ix, Int.toNat_natCast]
    refine ⟨by rw [e0]; exact bI_01 _, fun h1 eh1 => ⟨by omega, by omega, fun h2 eh2 => ?_⟩⟩
    subst eh1; subst eh2
    have q2 : Gv p h0 (sI (sI h 100 17 y0) 123 (48 * o + m) 1) (gs (gw g (g 123 (48 * o + m) = 0)) 123 (48 * o + m) 1) := by
      rw [e0]; exact (q.put (a := 100) (k := 17) (by unfold dyn; omega)).put (by unfold dyn; omega)
    exact ct_M_reach q2 hmm (fun h' s1 s2 => ⟨s2.2.1.1, k h' (((sm.rf.put (by unfold dyn; omega)).put (by unfold dyn; omega)).tr s1) s2⟩)
  apply m_M_call_0 q.2.1.1
  rw [e1, ix, Int.toNat_natCast, e2]
  exact ⟨fun c => g27 1 (bI_t (Or.inl c)).symm, fun c => ⟨by omega, by omega, fun c2 => g27 0 (bI_f (fun z => z.elim (fun y => y c) c2)).symm, fun c2 => g27 1 (bI_t (Or.inr c2)).symm⟩⟩
theorem ct_M_fault {o : Nat} {c : Int} (q : Gv p h0 h g) (ho : o < 160) (hc : -5 ≤ c ∧ c ≤ -2) (k : ∀ h', sm dyn h h' → Gv p h0 h' (gflt g o c) → Ψ none h') : Ev l D Y_M_fault d kc ks 0 [some (vr 100), some (vi (o : Int)), some (vi c)] [] h Ψ := by
  apply m_M_fault_0 q.2.1.1
  have ix : wr (wr (wr ((4 : Int) * (o : Int)) - 2) - c) = 4 * (o : Int) - 2 - c := by rw [wr_eq (x := 4 * (o : Int)) (by omega) (by omega), wr_eq (x := 4 * (o : Int) - 2) (by omega) (by omega), wr_eq (by omega) (by omega)]
  have e2 := q.2.2 124 (4 * (o : Int) - 2 - c).toNat (by unfold dyn; omega)
  simp only [ix, e2]
  refine ⟨by omega, by omega, by omega, by omega, fun h1 eh => ?_⟩
  subst eh
  exact k _ (sm.rf.put (by unfold dyn; omega)) (q.put (by unfold dyn; omega))
theorem ct_M_beginBy {o t : Nat} (q : Gv p h0 h g) (ho : o < 160) (ht : (t : Int) < nT p) (k : ∀ h', Gv p h0 h' (gbeg p o t (nT p).toNat 0 g) → Ψ none h') : Ev l D Y_M_beginBy (d + 3) kc ks 0 [some (vr 100), some (vi (o : Int)), some (vi (t : Int)), none, none] [] h Ψ := by
  have hw := q.2.1.2.2.1
  have w1 := hw.1
  have w2 := hw.2.1
  apply m_M_beginBy_0 q.2.1.1
  refine ct_M_findWith q.2.1 ht (fun h1 s1 s2 => ⟨s1.2.1, ?_⟩)
  have key : ∀ (n i : Nat) (h' : Hp) (g' : Pg), i + n = (nT p).toNat → Gv p h0 h' g' → (∀ j, j < 16 → xI h' 130 j = bI (wth p t j)) → gbeg p o t n i g' = gbeg p o t (nT p).toNat 0 g → Ev l D Y_M_beginBy (d + 3) kc ks 7 [some (vr 100), some (vi (o : Int)), some (vi (t : Int)), some (vi (i : Int)), none] [] h' Ψ := by
    intro n
    induction n with
    | zero =>
      intro i h' g' hi r1 r2 eg
      apply m_M_beginBy_7 r1.2.1.1
      rw [(r1.2.1.2.1).nT]
      refine ⟨fun _ => k h' ?_, fun c => by omega⟩
      rw [← eg]; exact r1
    | succ n ih =>
      intro i h' g' hi r1 r2 eg
      have e0 := (r1.2.1.2.1).nT
      have e1 := r1.2.2 100 17 (by unfold dyn; omega)
      have e2 := r1.2.2 121 i (by unfold dyn; omega)
      have e3 := r2 i (by omega)
      have ob := own_bd hw (i : Int) (-1)
      have g46 : wth p t i → ∀ y0 : Int, y0 = bI (¬ g' 100 17 = 0 ∨ g' 121 i = 0) → Ev l D Y_M_beginBy (d + 3) kc ks 46 [some (vr 100), some (vi (o : Int)), some (vi (t : Int)), some (vi (i : Int)), none] [vi y0, vr 100] h' Ψ := by
        intro hwt y0 ey
        apply m_M_beginBy_46 r1.2.1.1
        rw [Int.toNat_natCast, wr_s (show i < 1000000 by omega)]
        refine ⟨by rw [ey]; exact bI_01 _, fun h2 eh2 => ⟨by omega, by omega, fun h3 eh3 => ?_⟩⟩
        subst eh2; subst eh3
        have r3 : Gv p h0 (sI (sI h' 100 17 y0) 121 i 1) (gs (gw g' (g' 121 i = 0)) 121 i 1) := by
          rw [ey]; exact (r1.put (a := 100) (k := 17) (by unfold dyn; omega)).put (by unfold dyn; omega)
        have r4 : ∀ j, j < 16 → xI (sI (sI h' 100 17 y0) 121 i 1) 130 j = bI (wth p t j) := fun j hj => by rw [xI_sI, if_neg (by omega), xI_sI, if_neg (by omega)]; exact r2 j hj
        have eg1 : gbeg p o t (n + 1) i g' = gbeg p o t n (i + 1) (gbeg1 p o i g') := by
          show gbeg p o t n (i + 1) _ = _
          rw [cG_t hwt]
        rw [eg1] at eg
        refine ct_M_ownOf r3.2.1.1 r3.2.1.2.1 hw ⟨r3.2.1.1, fun c => ?_, fun c => ?_⟩
        · refine ih (i + 1) _ _ (by omega) r3 r4 ?_
          rw [← eg]; unfold gbeg1; rw [cG_t c]
        · obtain ⟨s, hs⟩ : ∃ s : Nat, own p i (-1) = (s : Int) := ⟨(own p i (-1)).toNat, by omega⟩
          rw [hs]
          refine ct_M_call r3 ho (by omega) (fun h4 t1 t2 => ⟨t2.2.1.1, ih (i + 1) _ _ (by omega) t2 (fun j hj => (t1.2.2 130 j (by unfold dyn; omega)).trans (r4 j hj)) ?_⟩)
          rw [← eg]; unfold gbeg1; rw [cG_f c, hs, Int.toNat_natCast]
      apply m_M_beginBy_7 r1.2.1.1
      simp only [e0, e1, Int.toNat_natCast, e2, e3, wr_s (show i < 1000000 by omega)]
      refine ⟨fun c => by omega, fun _ => ⟨by omega, by omega, fun c => ?_, fun c => ?_⟩⟩
      · rw [bI_0] at c
        refine ih (i + 1) h' g' (by omega) r1 r2 ?_
        rw [← eg]
        show _ = gbeg p o t n (i + 1) _
        rw [cG_f c]
      · rw [bI_n] at c
        exact ⟨fun c2 => g46 c 1 (bI_t (Or.inl c2)).symm, fun c2 => ⟨by omega, by omega, fun c3 => g46 c 0 (bI_f (fun z => z.elim (fun y => y c2) c3)).symm, fun c3 => g46 c 1 (bI_t (Or.inr c3)).symm⟩⟩
  exact key (nT p).toNat 0 h1 g (by omega) (q.sc s1) s2 rfl
end GR
