/-! the model: what is told -/
theorem gfr_mdl {a k : Nat} (q : gfr a k) : mdl a k := by
  show 100 ≤ a ∧ a < 151
  unfold gfr gdy scr dyn at q
  omega
theorem scr_mdl {a k : Nat} (q : scr a k) : mdl a k := by
  show 100 ≤ a ∧ a < 151
  unfold scr at q
  omega
theorem Gr.sm {p : Pg} {h h' : Hp} {A : Nat → Nat → Prop} (q : Gr p h) (r : sm A h h') (n1 : ∀ a k, dyn a k → ¬ A a k) (n2 : ∀ k, ¬ A 131 k ∧ ¬ A 132 k) : Gr p h' := ⟨fun a k hd => (r.2.2 a k (n1 a k hd)).trans (q.1 a k hd), fun a c ha hc => ⟨(r.2.2 132 _ (n2 _).2).trans (q.2 a c ha hc).1, (r.2.2 131 _ (n2 _).1).trans (q.2 a c ha hc).2⟩⟩
theorem Ms.sc {p : Pg} {h h' : Hp} (q : Ms p h) (r : Sc p h h') : Ms p h' := by
  refine ⟨r.2, ?_, fun c => ?_⟩
  · rw [r.1.2.2 100 16 (by unfold scr; omega)]; exact q.2.1
  · rw [r.1.2.2 100 16 (by unfold scr; omega)] at c
    exact (q.2.2 c).sm r.1 (fun a k z y => by unfold dyn at z; unfold scr at y; omega) (fun k => by unfold scr; omega)
noncomputable def rUn (p : Pg) (t u : Int) : Int := cI (¬ (0 ≤ t ∧ t < nT p) ∨ ¬ (0 ≤ u ∧ u < nT p)) (-101) (bI (U p t.toNat u.toNat))
noncomputable def rFo (p : Pg) (t x : Int) : Int := cI (¬ (0 ≤ t ∧ t < nT p)) (-101) (cI (¬ (0 ≤ x ∧ x ≤ 9)) (-102) (fnd p t.toNat x))
noncomputable def rCh (p : Pg) (c t x : Int) : Int := cI (¬ (0 ≤ c ∧ c < nT p) ∨ ¬ (0 ≤ t ∧ t < nT p)) (-101) (cI (¬ (0 ≤ x ∧ x ≤ 9) ∨ ¬ U p c.toNat t.toNat) (-102) (chf p c.toNat t.toNat x))
/-- comes, in the end -/
def cmF (p : Pg) (a c : Nat) : Prop := wsh (dr p (gF p)) (nM p).toNat a c
def rcF (p : Pg) (m : Nat) : Prop := ¬ gF p 119 m = 0 ∧ cmF p m m
def rgF (p : Pg) (m k : Nat) : Prop := rcF p m ∧ cmF p m k ∧ cmF p k m
def sw (f : Nat → Int) : Nat → Nat → Int → Int
  | 0, _, s => s
  | n + 1, m, s => sw f n (m + 1) (wr (s + f m))
noncomputable def cIn (p : Pg) (w : Int) : Int := cI (w = 3) (cnt (fun m => ¬ rt p m = 0) (nM p).toNat 0) (cI (w = 4) (cnt (fun m => ¬ gF p 119 m = 0) (nM p).toNat 0) (cI (w = 5) (cnt (fun m => ¬ gF p 120 m = 0) (nT p).toNat 0) (cI (w = 6) (cnt (fun m => ¬ gF p 121 m = 0) (nT p).toNat 0) (cI (w = 7) (cnt (fun m => ¬ gF p 123 m = 0) 7680 0) (cI (w = 8) (sw (gF p 124) 640 0 0) (cnt (rcF p) (nM p).toNat 0))))))
noncomputable def rCo (p : Pg) (w : Int) : Int := cI (w = 0) (nT p) (cI (w = 1) (nM p) (cI (w = 2) (nO p) (cI (3 ≤ w ∧ w ≤ 9) (cIn p w) (-102))))
noncomputable def rAb (p : Pg) (m w : Int) : Int := cI (¬ (0 ≤ m ∧ m < nM p)) (-101) (cI (w = 0) (bI (¬ gF p 119 m.toNat = 0)) (cI (w = 1) (bI (rcF p m.toNat)) (cI (w = 2) (cnt (fun k => dr p (gF p) k m.toNat) (nM p).toNat 0) (cI (w = 3) (cnt (rgF p m.toNat) (nM p).toNat 0) (cI (w = 4) (fst (rgF p m.toNat) (nM p).toNat 0) (-102))))))
noncomputable def rMa (p : Pg) (t w : Int) : Int := cI (¬ (0 ≤ t ∧ t < nT p)) (-101) (cI (w = 0) (bI (¬ gF p 120 t.toNat = 0)) (cI (w = 1) (bI (¬ gF p 121 t.toNat = 0)) (-102)))
noncomputable def nth (Q : Nat → Prop) (i : Int) : Nat → Nat → Int → Int
  | 0, _, _ => -1
  | n + 1, k, c => cI (Q k) (cI (c = i) k (nth Q i n (k + 1) (c + 1))) (nth Q i n (k + 1) c)
def isO (p : Pg) (m o : Int) : Prop := (0 ≤ m ∧ m < nM p) ∧ (0 ≤ o ∧ o < om p m.toNat)
noncomputable def rCe (p : Pg) (m o i : Int) : Int := cI (¬ isO p m o) (-101) (nth (fun k => ¬ gF p 123 (48 * (oa p (24 * m.toNat + o.toNat)).toNat + k) = 0) i (nM p).toNat 0 0)
noncomputable def rFl (p : Pg) (m o x : Int) : Int := cI (¬ isO p m o) (-101) (cI (¬ (-5 ≤ x ∧ x ≤ -2)) (-102) (gF p 124 (4 * (oa p (24 * m.toNat + o.toNat)) - 2 - x).toNat))
noncomputable def rCr (p : Pg) (m i : Int) : Int := cI (¬ (0 ≤ m ∧ m < nM p)) (-101) (nth (fun k => dr p (gF p) k m.toNat) i (nM p).toNat 0 0)
section AS
variable {l : Launch} {D : DD} {d kc ks : Nat} {h h0 : Hp} {Ψ : Option AV → Hp → Prop} {p g : Pg}
theorem ct_M_under {x1 x2 : Int} (hm : Ms p h) (k : ∀ h', sm mdl h h' → Ms p h' → Ψ (some (vi (rUn p x1 x2))) h') : Ev l D Y_M_under (d + 2) kc ks 0 [some (vr 100), some (vi x1), some (vi x2)] [] h Ψ := by
  have hM := hm.1.1
  have hs := hm.1.2.1
  have hw := hm.1.2.2.1
  have w1 := hw.1
  have bad : rUn p x1 x2 = -101 → Ψ (some (vi (-101))) h := fun e => by have z := k h sm.rf hm; rw [e] at z; exact z
  apply m_M_under_0 hM
  refine ct_M_isType hM hs hw ⟨hM, fun c => bad (cI_t (Or.inl (bI_0.mp c))), fun c => ct_M_isType hM hs hw ⟨hM, fun c2 => ?_, fun c2 => bad (cI_t (Or.inr (bI_0.mp c2)))⟩⟩
  rw [bI_n] at c c2
  refine ct_M_isUnderI hm.1 c (by omega) (fun h' s => ⟨s.2.1, ?_⟩)
  have z := k h' (s.1.mono (fun _ _ => scr_mdl)) (hm.sc s)
  rw [show rUn p x1 x2 = bI (U p x1.toNat x2.toNat) from cI_f (by omega)] at z
  refine ⟨fun c3 => ?_, fun c3 => ?_⟩
  · rw [c3] at z; exact z
  · rw [(bI_01 _).resolve_left c3] at z; exact z
theorem ct_M_found {x1 x2 : Int} (hm : Ms p h) (k : ∀ h', sm mdl h h' → Ms p h' → Ψ (some (vi (rFo p x1 x2))) h') : Ev l D Y_M_found (d + 4) kc ks 0 [some (vr 100), some (vi x1), some (vi x2)] [] h Ψ := by
  have hM := hm.1.1
  have hs := hm.1.2.1
  have hw := hm.1.2.2.1
  have bad : ∀ r, rFo p x1 x2 = r → Ψ (some (vi r)) h := fun r e => by have z := k h sm.rf hm; rw [e] at z; exact z
  apply m_M_found_0 hM
  refine ct_M_isType hM hs hw ⟨hM, fun c => ct_M_in hM ⟨hM, fun c2 => ?_, fun c2 => bad _ ?_⟩, fun c => bad _ (cI_t (bI_0.mp c))⟩
  · rw [bI_n] at c c2
    obtain ⟨t, rfl⟩ : ∃ t : Nat, x1 = (t : Int) := ⟨x1.toNat, by omega⟩
    refine ct_M_find hm.1 c.2 (fun h' s => ⟨s.2.1, ?_⟩)
    have z := k h' (s.1.mono (fun _ _ => scr_mdl)) (hm.sc s)
    rw [show rFo p t x2 = fnd p t x2 from (cI_f (by omega)).trans (cI_f (by omega))] at z
    exact z
  · rw [bI_n] at c; rw [bI_0] at c2
    exact (cI_f (fun z => z c)).trans (cI_t c2)
theorem ct_M_chosen {x1 x2 x3 : Int} (hm : Ms p h) (k : ∀ h', sm mdl h h' → Ms p h' → Ψ (some (vi (rCh p x1 x2 x3))) h') : Ev l D Y_M_chosen (d + 5) kc ks 0 [some (vr 100), some (vi x1), some (vi x2), some (vi x3)] [] h Ψ := by
  have hM := hm.1.1
  have hs := hm.1.2.1
  have hw := hm.1.2.2.1
  have w1 := hw.1
  have bad : ∀ r, rCh p x1 x2 x3 = r → Ψ (some (vi r)) h := fun r e => by have z := k h sm.rf hm; rw [e] at z; exact z
  apply m_M_chosen_0 hM
  refine ct_M_isType hM hs hw ⟨hM, fun c => bad _ (cI_t (Or.inl (bI_0.mp c))), fun c => ct_M_isType hM hs hw ⟨hM, fun c2 => ct_M_in hM ⟨hM, fun c3 => bad _ ?_, fun c3 => ?_⟩, fun c2 => bad _ (cI_t (Or.inr (bI_0.mp c2)))⟩⟩
  · rw [bI_n] at c c2
    exact (cI_f (by omega)).trans (cI_t (Or.inl (bI_0.mp c3)))
  · rw [bI_n] at c c2 c3
    obtain ⟨a, rfl⟩ : ∃ t : Nat, x1 = (t : Int) := ⟨x1.toNat, by omega⟩
    obtain ⟨t, rfl⟩ : ∃ t : Nat, x2 = (t : Int) := ⟨x2.toNat, by omega⟩
    have n1 : ¬ (¬ (0 ≤ (a : Int) ∧ (a : Int) < nT p) ∨ ¬ (0 ≤ (t : Int) ∧ (t : Int) < nT p)) := by omega
    refine ct_M_isUnderI hm.1 c (by omega) (fun h' s => ⟨s.2.1, fun c4 => ?_, fun c4 => ?_⟩)
    · rw [bI_n] at c4
      refine ct_M_chosenOf s.2 c.2 c2.2 (fun h2 s2 => ⟨s2.2.1, ?_⟩)
      have s3 := s.tr s2
      have z := k h2 (s3.1.mono (fun _ _ => scr_mdl)) (hm.sc s3)
      rw [show rCh p a t x3 = chf p a t x3 from (cI_f n1).trans (cI_f (fun q => q.elim (fun y => y c3) (fun y => y c4)))] at z
      exact z
    · rw [bI_0] at c4
      have z := k h' (s.1.mono (fun _ _ => scr_mdl)) (hm.sc s)
      rw [show rCh p a t x3 = -102 from (cI_f n1).trans (cI_t (Or.inr c4))] at z
      exact z
theorem ct_fr (hm : Ms p h) (k : ∀ h', sm mdl h h' → Ms p h' → Gr p h' → Ψ none h') : Ev l D Y_M_freshen (d + 6) kc ks 0 [some (vr 100), none, none] [] h Ψ :=
  ct_M_freshen hm.1 hm.2 (fun h' s m e g => k h' (s.mono (fun _ _ => gfr_mdl)) ⟨m, Or.inr e, fun _ => g⟩ g)
theorem ix48 {a b : Nat} (ha : a < 160) (hb : b < 48) : wr (wr ((48 : Int) * (a : Int)) + (b : Int)) = ((48 * a + b : Nat) : Int) := by rw [wr_eq (x := 48 * (a : Int)) (by omega) (by omega), wr_eq (by omega) (by omega)]; omega
theorem ix24 {a b : Nat} (ha : a < 48) (hb : b < 24) : wr (wr ((24 : Int) * (a : Int)) + (b : Int)) = ((24 * a + b : Nat) : Int) := by rw [wr_eq (x := 24 * (a : Int)) (by omega) (by omega), wr_eq (by omega) (by omega)]; omega
theorem ct_M_isCallee {a c : Nat} (hm : Ms p h) (hg : Gr p h) (ha : (a : Int) < nM p) (hc : (c : Int) < nM p) (k : Ψ (some (vi (bI (dr p (gF p) a c)))) h) : Ev l D Y_M_isCallee d kc ks 0 [some (vr 100), some (vi (a : Int)), some (vi (c : Int))] [] h Ψ := by
  have w2 := hm.1.2.2.1.2.1
  apply m_M_isCallee_0 hm.1.1
  rw [ix48 (by omega) (by omega), Int.toNat_natCast, (hg.2 a c ha hc).1]
  exact ⟨by omega, by omega, bI_01 _, k⟩
theorem ct_M_isRecursive {m : Nat} (hm : Ms p h) (hg : Gr p h) (hmm : (m : Int) < nM p) (k : Ψ (some (vi (bI (rcF p m)))) h) : Ev l D Y_M_isRecursive d kc ks 0 [some (vr 100), some (vi (m : Int))] [] h Ψ := by
  have w2 := hm.1.2.2.1.2.1
  apply m_M_isRecursive_0 hm.1.1
  rw [Int.toNat_natCast, ix48 (by omega) (by omega), Int.toNat_natCast, (hg.2 m m hmm hmm).2, hg.1 119 m (by unfold dyn; omega)]
  refine ⟨by omega, by omega, fun c => ?_, fun c => ⟨by omega, by omega, fun c2 => ?_, fun c2 => ?_⟩⟩
  · rw [bI_f (fun q => q.1 c)] at k; exact k
  · rw [bI_f (fun q => bI_0.mp c2 q.2)] at k; exact k
  · rw [bI_t ⟨c, bI_n.mp c2⟩] at k; exact k
theorem ct_M_isRing {m j : Nat} (hm : Ms p h) (hg : Gr p h) (hmm : (m : Int) < nM p) (hj : (j : Int) < nM p) (k : Ψ (some (vi (bI (rgF p m j)))) h) : Ev l D Y_M_isRing (d + 1) kc ks 0 [some (vr 100), some (vi (m : Int)), some (vi (j : Int))] [] h Ψ := by
  have w2 := hm.1.2.2.1.2.1
  apply m_M_isRing_0 hm.1.1
  refine ct_M_isRecursive hm hg hmm ⟨hm.1.1, fun c => ?_, fun c => ?_⟩
  · rw [bI_f (fun q => bI_0.mp c q.1)] at k; exact k
  · rw [ix48 (a := m) (b := j) (by omega) (by omega), ix48 (a := j) (b := m) (by omega) (by omega), Int.toNat_natCast, Int.toNat_natCast, (hg.2 m j hmm hj).2, (hg.2 j m hj hmm).2]
    refine ⟨by omega, by omega, fun c2 => ?_, fun c2 => ⟨by omega, by omega, fun c3 => ?_, fun c3 => ?_⟩⟩
    · rw [bI_f (fun q => bI_0.mp c2 q.2.1)] at k; exact k
    · rw [bI_f (fun q => bI_0.mp c3 q.2.2)] at k; exact k
    · rw [bI_t ⟨bI_n.mp c, bI_n.mp c2, bI_n.mp c3⟩] at k; exact k
theorem ct_M_callersOf {m n : Nat} (hm : Ms p h) (hg : Gr p h) (hmm : (m : Int) < nM p) (hn : (n : Int) ≤ nM p) (k : Ψ (some (vi (cnt (fun j => dr p (gF p) j m) n 0))) h) : Ev l D Y_M_callersOf (d + 1) kc ks 0 [some (vr 100), some (vi (m : Int)), some (vi (n : Int)), none, none] [] h Ψ := by
  have w2 := hm.1.2.2.1.2.1
  apply m_M_callersOf_0 hm.1.1
  have key : ∀ (i j : Nat), j + i = n → Ev l D Y_M_callersOf (d + 1) kc ks 5 [some (vr 100), some (vi (m : Int)), some (vi (n : Int)), some (vi (cnt (fun j => dr p (gF p) j m) j 0)), some (vi (j : Int))] [] h Ψ := by
    intro i
    induction i with
    | zero =>
      intro j hj
      apply m_M_callersOf_5 hm.1.1
      refine ⟨fun _ => ?_, fun c => by omega⟩
      rw [show j = n by omega]; exact k
    | succ i ih =>
      intro j hj
      have nx := ih (j + 1) (by omega)
      rw [cnt_snoc, Nat.zero_add] at nx
      have cb := cnt_le (fun j => dr p (gF p) j m) j 0
      apply m_M_callersOf_5 hm.1.1
      refine ⟨fun c => by omega, fun _ => ct_M_isCallee hm hg (by omega) hmm ⟨hm.1.1, fun c => ?_, fun c => ?_⟩⟩
      · rw [bI_f (bI_0.mp c)] at nx
        rw [wr_eq (by omega) (by omega), wr_s (show j < 1000000 by omega)]; exact nx
      · rw [bI_t (bI_n.mp c)] at nx
        rw [wr_eq (by omega) (by omega), wr_s (show j < 1000000 by omega)]; exact nx
  exact key n 0 (by omega)
theorem ct_M_made {x1 x2 : Int} (hm : Ms p h) (k : ∀ h', sm mdl h h' → Ms p h' → Ψ (some (vi (rMa p x1 x2))) h') : Ev l D Y_M_made (d + 7) kc ks 0 [some (vr 100), some (vi x1), some (vi x2)] [] h Ψ := by
  have hM := hm.1.1
  have hs := hm.1.2.1
  have hw := hm.1.2.2.1
  have w1 := hw.1
  apply m_M_made_0 hM
  refine ct_M_isType hM hs hw ⟨hM, fun c => ct_fr hm (fun h1 s1 m1 g1 => ⟨m1.1.1, ?_⟩), fun c => ?_⟩
  · rw [bI_n] at c
    have z := k h1 s1 m1
    rw [show rMa p x1 x2 = _ from cI_f (fun q => q c)] at z
    have e1 := g1.1 121 x1.toNat (by unfold dyn; omega)
    have e0 := g1.1 120 x1.toNat (by unfold dyn; omega)
    rw [e0, e1]
    refine ⟨fun c2 => ⟨fun c3 => ?_, fun c3 => ⟨by omega, by omega, fun c4 => ?_, fun c4 => ?_⟩⟩, fun c2 => ⟨by omega, by omega, fun c4 => ?_, fun c4 => ?_⟩⟩
    · rw [cI_f c2, cI_f c3] at z; exact z
    · rw [cI_f c2, cI_t c3, bI_f (fun q => q c4)] at z; exact z
    · rw [cI_f c2, cI_t c3, bI_t c4] at z; exact z
    · rw [cI_t c2, bI_f (fun q => q c4)] at z; exact z
    · rw [cI_t c2, bI_t c4] at z; exact z
  · have z := k h sm.rf hm
    rw [show rMa p x1 x2 = -101 from cI_t (bI_0.mp c)] at z
    exact z
theorem ct_M_isOp {x1 x2 : Int} (hm : Ms p h) (k : Ψ (some (vi (bI (isO p x1 x2)))) h) : Ev l D Y_M_isOp (d + 2) kc ks 0 [some (vr 100), some (vi x1), some (vi x2)] [] h Ψ := by
  have hM := hm.1.1
  have hs := hm.1.2.1
  have hw := hm.1.2.2.1
  have w2 := hw.2.1
  apply m_M_isOp_0 hM
  refine ct_M_isMember hM hs hw ⟨hM, fun c => ?_, fun c => ?_⟩
  · rw [bI_f (fun q => bI_0.mp c q.1)] at k; exact k
  · rw [bI_n] at c
    have wm := (hw.2.2.2.2.1 x1.toNat (by omega)).2.2.2.2.2.1
    rw [hs.om, wr_eq (by omega) (by omega)]
    refine ⟨by omega, by omega, ct_M_in hM ⟨hM, fun c2 => ?_, fun c2 => ?_⟩⟩
    · rw [bI_f (fun q => bI_0.mp c2 ⟨q.2.1, by have := q.2.2; omega⟩)] at k; exact k
    · rw [bI_n] at c2
      rw [bI_t ⟨c, c2.1, by omega⟩] at k; exact k
theorem ct_M_faults {x1 x2 x3 : Int} (hm : Ms p h) (k : ∀ h', sm mdl h h' → Ms p h' → Ψ (some (vi (rFl p x1 x2 x3))) h') : Ev l D Y_M_faults (d + 7) kc ks 0 [some (vr 100), some (vi x1), some (vi x2), some (vi x3)] [] h Ψ := by
  have hw := hm.1.2.2.1
  have w2 := hw.2.1
  have w3 := hw.2.2.1
  apply m_M_faults_0 hm.1.1
  refine ct_M_isOp hm ⟨hm.1.1, fun c => ct_fr hm (fun h1 s1 m1 g1 => ⟨m1.1.1, ct_M_in m1.1.1 ⟨m1.1.1, fun c2 => ?_, fun c2 => ?_⟩⟩), fun c => ?_⟩
  · rw [bI_n] at c
    have z := k h1 s1 m1
    rw [show rFl p x1 x2 x3 = -102 from (cI_f (fun q => q c)).trans (cI_t (bI_0.mp c2))] at z
    exact z
  · rw [bI_n] at c c2
    have z := k h1 s1 m1
    rw [show rFl p x1 x2 x3 = _ from (cI_f (fun q => q c)).trans (cI_f (fun q => q c2))] at z
    obtain ⟨c3, c4⟩ := c
    obtain ⟨m, rfl⟩ : ∃ t : Nat, x1 = (t : Int) := ⟨x1.toNat, by omega⟩
    obtain ⟨i, rfl⟩ : ∃ t : Nat, x2 = (t : Int) := ⟨x2.toNat, by omega⟩
    rw [Int.toNat_natCast] at c4
    have wm := (hw.2.2.2.2.1 m c3.2).2.2.2.2.2.1
    obtain ⟨ob, oe⟩ := oa_bd hw c3.2 c4.2
    rw [Int.toNat_natCast, Int.toNat_natCast] at z
    rw [ix24 (by omega) (by omega), Int.toNat_natCast, (m1.1.2.1).oa, wr_eq (x := 4 * oa p (24 * m + i)) (by omega) (by omega), wr_eq (x := 4 * oa p (24 * m + i) - 2) (by omega) (by omega), wr_eq (x := 4 * oa p (24 * m + i) - 2 - x3) (by omega) (by omega), g1.1 124 _ (by unfold dyn; omega)]
    exact ⟨by omega, by omega, by omega, by omega, z⟩
  · have z := k h sm.rf hm
    rw [show rFl p x1 x2 x3 = -101 from cI_t (bI_0.mp c)] at z
    exact z
theorem ct_M_callee {x1 x2 x3 : Int} (hm : Ms p h) (k : ∀ h', sm mdl h h' → Ms p h' → Ψ (some (vi (rCe p x1 x2 x3))) h') : Ev l D Y_M_callee (d + 7) kc ks 0 [some (vr 100), some (vi x1), some (vi x2), some (vi x3), none, none] [] h Ψ := by
  have hw := hm.1.2.2.1
  have w2 := hw.2.1
  have w3 := hw.2.2.1
  apply m_M_callee_0 hm.1.1
  refine ct_M_isOp hm ⟨hm.1.1, fun c => ct_fr hm (fun h1 s1 m1 g1 => ⟨m1.1.1, ?_⟩), fun c => ?_⟩
  · rw [bI_n] at c
    have z := k h1 s1 m1
    rw [show rCe p x1 x2 x3 = _ from cI_f (fun q => q c)] at z
    obtain ⟨c3, c4⟩ := c
    obtain ⟨m, rfl⟩ : ∃ t : Nat, x1 = (t : Int) := ⟨x1.toNat, by omega⟩
    obtain ⟨i, rfl⟩ : ∃ t : Nat, x2 = (t : Int) := ⟨x2.toNat, by omega⟩
    rw [Int.toNat_natCast] at c4
    rw [Int.toNat_natCast, Int.toNat_natCast] at z
    have wm := (hw.2.2.2.2.1 m c3.2).2.2.2.2.2.1
    obtain ⟨ob, oe⟩ := oa_bd hw c3.2 c4.2
    have key : ∀ (n j : Nat) (c : Int), j + n = (nM p).toNat → (0 ≤ c ∧ c ≤ j) → nth (fun k => ¬ gF p 123 (48 * (oa p (24 * m + i)).toNat + k) = 0) x3 n j c = nth (fun k => ¬ gF p 123 (48 * (oa p (24 * m + i)).toNat + k) = 0) x3 (nM p).toNat 0 0 → Ev l D Y_M_callee (d + 7) kc ks 22 [some (vr 100), some (vi (m : Int)), some (vi (i : Int)), some (vi x3), some (vi c), some (vi (j : Int))] [] h1 Ψ := by
      intro n
      induction n with
      | zero =>
        intro j c hj hc en
        apply m_M_callee_22 m1.1.1
        rw [(m1.1.2.1).nM]
        refine ⟨fun _ => ?_, fun c => by omega⟩
        rw [← en] at z; exact z
      | succ n ih =>
        intro j c hj hc en
        have ixo : wr (wr ((48 : Int) * oa p (24 * m + i)) + (j : Int)) = ((48 * (oa p (24 * m + i)).toNat + j : Nat) : Int) := by
          have := ix48 (a := (oa p (24 * m + i)).toNat) (b := j) (by omega) (by omega)
          rwa [← oe] at this
        apply m_M_callee_22 m1.1.1
        rw [(m1.1.2.1).nM, ix24 (by omega) (by omega), Int.toNat_natCast, (m1.1.2.1).oa, ixo, Int.toNat_natCast, g1.1 123 _ (by unfold dyn; omega), wr_s (show j < 1000000 by omega), wr_eq (x := c + 1) (by omega) (by omega)]
        refine ⟨fun c => by omega, fun _ => ⟨by omega, by omega, by omega, by omega, fun c2 => ih (j + 1) c (by omega) (by omega) ?_, fun c2 => ⟨fun c5 => ih (j + 1) (c + 1) (by omega) (by omega) ?_, fun c5 => ?_⟩⟩⟩
        · rw [← en]; exact (cI_f (fun q => q c2)).symm
        · rw [← en]; exact ((cI_t c2).trans (cI_f c5)).symm
        · rw [← en, show nth (fun k => ¬ gF p 123 (48 * (oa p (24 * m + i)).toNat + k) = 0) x3 (n + 1) j c = (j : Int) from (cI_t c2).trans (cI_t c5)] at z; exact z
    exact key (nM p).toNat 0 0 (by omega) (by omega) rfl
  · have z := k h sm.rf hm
    rw [show rCe p x1 x2 x3 = -101 from cI_t (bI_0.mp c)] at z
    exact z
theorem ct_M_caller {x1 x2 : Int} (hm : Ms p h) (k : ∀ h', sm mdl h h' → Ms p h' → Ψ (some (vi (rCr p x1 x2))) h') : Ev l D Y_M_caller (d + 7) kc ks 0 [some (vr 100), some (vi x1), some (vi x2), none] [] h Ψ := by
  have hM := hm.1.1
  have hs := hm.1.2.1
  have hw := hm.1.2.2.1
  have w2 := hw.2.1
  apply m_M_caller_0 hM
  refine ct_M_isMember hM hs hw ⟨hM, fun c => ct_fr hm (fun h1 s1 m1 g1 => ⟨m1.1.1, ?_⟩), fun c => ?_⟩
  · rw [bI_n] at c
    have z := k h1 s1 m1
    rw [show rCr p x1 x2 = _ from cI_f (fun q => q c)] at z
    obtain ⟨m, rfl⟩ : ∃ t : Nat, x1 = (t : Int) := ⟨x1.toNat, by omega⟩
    rw [Int.toNat_natCast] at z
    have key : ∀ (n j : Nat), j + n = (nM p).toNat → nth (fun k => dr p (gF p) k m) x2 n j (cnt (fun k => dr p (gF p) k m) j 0) = nth (fun k => dr p (gF p) k m) x2 (nM p).toNat 0 0 → Ev l D Y_M_caller (d + 7) kc ks 17 [some (vr 100), some (vi (m : Int)), some (vi x2), some (vi (j : Int))] [] h1 Ψ := by
      intro n
      induction n with
      | zero =>
        intro j hj en
        apply m_M_caller_17 m1.1.1
        rw [(m1.1.2.1).nM]
        refine ⟨fun _ => ?_, fun c => by omega⟩
        rw [← en] at z; exact z
      | succ n ih =>
        intro j hj en
        have cs := cnt_snoc (fun k => dr p (gF p) k m) j 0
        rw [Nat.zero_add] at cs
        apply m_M_caller_17 m1.1.1
        rw [(m1.1.2.1).nM, wr_s (show j < 1000000 by omega)]
        refine ⟨fun c => by omega, fun _ => ct_M_isCallee m1 g1 (by omega) c.2 ⟨m1.1.1, fun c2 => ih (j + 1) (by omega) ?_, fun c2 => ct_M_callersOf m1 g1 c.2 (by omega) ⟨m1.1.1, fun c5 => ih (j + 1) (by omega) ?_, fun c5 => ?_⟩⟩⟩
        · rw [bI_f (bI_0.mp c2), Int.add_zero] at cs
          rw [← en, cs]; exact (cI_f (bI_0.mp c2)).symm
        · rw [bI_t (bI_n.mp c2)] at cs
          rw [← en, cs]; exact ((cI_t (bI_n.mp c2)).trans (cI_f c5)).symm
        · rw [← en, show nth (fun k => dr p (gF p) k m) x2 (n + 1) j (cnt (fun k => dr p (gF p) k m) j 0) = (j : Int) from (cI_t (bI_n.mp c2)).trans (cI_t c5)] at z; exact z
    exact key (nM p).toNat 0 (by omega) rfl
  · have z := k h sm.rf hm
    rw [show rCr p x1 x2 = -101 from cI_t (bI_0.mp c)] at z
    exact z
end AS
