/-! the model: findFar, way -/
def sm1 (f : Nat → Int) : Nat → Int
  | 0 => 0
  | n + 1 => sm1 f n + f n
theorem sm1_le {f f' : Nat → Int} : ∀ (n : Nat), (∀ j, j < n → f' j ≤ f j) → sm1 f' n ≤ sm1 f n
  | 0, _ => Int.le_refl _
  | n + 1, h => by
    have := sm1_le n (fun j hj => h j (by omega))
    have := h n (by omega)
    unfold sm1; omega
theorem sm1_lt {f f' : Nat → Int} : ∀ (n : Nat), (∀ j, j < n → f' j ≤ f j) → (∃ j, j < n ∧ f' j < f j) → sm1 f' n < sm1 f n
  | 0, _, ⟨j, h, _⟩ => by omega
  | n + 1, h, ⟨j, h1, h2⟩ => by
    have a := sm1_le n (fun j hj => h j (by omega))
    have b := h n (by omega)
    unfold sm1
    by_cases e : j = n
    · subst e; omega
    · have := sm1_lt n (fun j hj => h j (by omega)) ⟨j, by omega, h2⟩
      omega
theorem sm1_nn {f : Nat → Int} : ∀ (n : Nat), (∀ j, j < n → 0 ≤ f j) → 0 ≤ sm1 f n
  | 0, _ => Int.le_refl _
  | n + 1, h => by
    have := sm1_nn n (fun j hj => h j (by omega))
    have := h n (by omega)
    unfold sm1; omega
noncomputable def dst (p : Pg) (m : Nat) : Nat → Int := @Classical.epsilon (Nat → Int) ⟨fun _ => 0⟩ (FarOk (dr p (gF p)) (nM p).toNat m)
theorem dst_ok {p : Pg} {m : Nat} {f : Nat → Int} (q : FarOk (dr p (gF p)) (nM p).toNat m f) : FarOk (dr p (gF p)) (nM p).toNat m (dst p m) := @Classical.epsilon_spec (Nat → Int) (FarOk (dr p (gF p)) (nM p).toNat m) ⟨f, q⟩
noncomputable def rWa (p : Pg) (m i : Int) : Int := cI (¬ (0 ≤ m ∧ m < nM p)) (-101) (cI (gF p 119 m.toNat = 0 ∨ i < 0) (-1) (gow (dr p (gF p)) (nM p).toNat (dst p m.toNat) i.toNat (bst (fun k => ¬ rt p k = 0) (dst p m.toNat) (nM p).toNat 0)))
abbrev A133 : Nat → Nat → Prop := fun a _ => a = 133
section WA
variable {l : Launch} {D : DD} {d kc ks : Nat} {h h0 : Hp} {Ψ : Option AV → Hp → Prop} {p g : Pg}
theorem Ms.far {h h' : Hp} (q : Ms p h) (r : sm A133 h h') : Ms p h' := by
  have n16 := r.2.2 100 16 (by omega)
  have n26 := r.2.2 100 26 (by omega)
  refine ⟨⟨MS_sm r q.1.1, SD_sm r (fun a k e z => by have := sta_iff.mp z; have e' : a = 133 := e; omega) q.1.2.1, q.1.2.2.1, ?_, fun c t u ht hu => ?_⟩, ?_, fun c => ?_⟩
  · rw [n26]; exact q.1.2.2.2.1
  · rw [n26] at c
    rw [r.2.2 126 _ (by omega)]; exact q.1.2.2.2.2 c t u ht hu
  · rw [n16]; exact q.2.1
  · rw [n16] at c
    exact (q.2.2 c).sm r (fun a k z y => by have y' : a = 133 := y; unfold dyn at z; omega) (fun k => by omega)
theorem Gr_far {h h' : Hp} (q : Gr p h) (r : sm A133 h h') : Gr p h' := q.sm r (fun a k z y => by have y' : a = 133 := y; unfold dyn at z; omega) (fun k => by omega)
theorem ct_M_findFar {t : Nat} (hm : Ms p h) (hg : Gr p h) (ht : (t : Int) < nM p) (k : ∀ h', sm A133 h h' → FarOk (dr p (gF p)) (nM p).toNat t (xI h' 133) → Ψ none h') : Ev l D Y_M_findFar (d + 1) kc ks 0 [some (vr 100), some (vi (t : Int)), none, none, none] [] h Ψ := by
  have hw := hm.1.2.2.1
  have w2 := hw.2.1
  have msm : ∀ {h' : Hp}, sm A133 h h' → MS h' := fun q => MS_sm q hm.1.1
  have nMe : ∀ {h' : Hp}, sm A133 h h' → xI h' 100 5 = nM p := fun q => (q.2.2 100 5 (by omega)).trans (hm.1.2.1).nM
  have main : ∀ (V : Nat) (h' : Hp), (sm1 (xI h' 133) (nM p).toNat).toNat ≤ V → sm A133 h h' → ((∀ k, k < (nM p).toNat → 0 ≤ xI h' 133 k ∧ xI h' 133 k ≤ 99 ∧ (xI h' 133 k < 99 → wk (dr p (gF p)) (nM p).toNat (xI h' 133 k).toNat k t)) ∧ xI h' 133 t = 0) → Ev l D Y_M_findFar (d + 1) kc ks 35 [some (vr 100), some (vi (t : Int)), some (vi 1), none, none] [] h' Ψ := by
    intro V
    induction V using Nat.strongRecOn with
    | ind V ihV =>
      intro hs hV q1 q2
      apply m_M_findFar_35 (msm q1)
      refine ⟨fun c => by omega, fun _ => ?_⟩
      -- the pass
      have l43 : ∀ (n a : Nat) (h' : Hp) (x : Int), a + n = (nM p).toNat → sm A133 h h' → ((∀ k, k < (nM p).toNat → 0 ≤ xI h' 133 k ∧ xI h' 133 k ≤ 99 ∧ (xI h' 133 k < 99 → wk (dr p (gF p)) (nM p).toNat (xI h' 133 k).toNat k t)) ∧ xI h' 133 t = 0) → ((x = 0 ∧ (∀ j, xI h' 133 j = xI hs 133 j) ∧ ∀ a' b, a' < a → b < (nM p).toNat → dr p (gF p) a' b → xI hs 133 a' ≤ xI hs 133 b + 1) ∨ (x = 1 ∧ sm1 (xI h' 133) (nM p).toNat < sm1 (xI hs 133) (nM p).toNat)) → Ev l D Y_M_findFar (d + 1) kc ks 43 [some (vr 100), some (vi (t : Int)), some (vi x), some (vi (a : Int)), none] [] h' Ψ := by
        intro n
        induction n with
        | zero =>
          intro a h' x ha r1 r2 r3
          apply m_M_findFar_43 (msm r1)
          rw [nMe r1]
          refine ⟨fun _ => ?_, fun c => by omega⟩
          rcases r3 with ⟨e0, e1, e2⟩ | ⟨e0, e1⟩
          · apply m_M_findFar_35 (msm r1)
            refine ⟨fun _ => k h' r1 ⟨r2.1, r2.2, fun a' b ha' hb hE => ?_⟩, fun c => absurd e0 c⟩
            rw [e1, e1]; exact e2 a' b (by omega) hb hE
          · rw [e0]
            have nn := sm1_nn (f := xI h' 133) (nM p).toNat (fun j hj => (r2.1 j hj).1)
            exact ihV _ (by omega) h' (Nat.le_refl _) r1 r2
        | succ n ih =>
          intro a h' x ha r1 r2 r3
          apply m_M_findFar_43 (msm r1)
          rw [nMe r1]
          refine ⟨fun c => by omega, fun _ => ?_⟩
          have l54 : ∀ (n2 b : Nat) (h' : Hp) (x : Int), b + n2 = (nM p).toNat → sm A133 h h' → ((∀ k, k < (nM p).toNat → 0 ≤ xI h' 133 k ∧ xI h' 133 k ≤ 99 ∧ (xI h' 133 k < 99 → wk (dr p (gF p)) (nM p).toNat (xI h' 133 k).toNat k t)) ∧ xI h' 133 t = 0) → ((x = 0 ∧ (∀ j, xI h' 133 j = xI hs 133 j) ∧ ∀ a' b', (a' < a ∨ (a' = a ∧ b' < b)) → b' < (nM p).toNat → dr p (gF p) a' b' → xI hs 133 a' ≤ xI hs 133 b' + 1) ∨ (x = 1 ∧ sm1 (xI h' 133) (nM p).toNat < sm1 (xI hs 133) (nM p).toNat)) → Ev l D Y_M_findFar (d + 1) kc ks 54 [some (vr 100), some (vi (t : Int)), some (vi x), some (vi (a : Int)), some (vi (b : Int))] [] h' Ψ := by
            intro n2
            induction n2 with
            | zero =>
              intro b h' x hb r1 r2 r3
              apply m_M_findFar_54 (msm r1)
              rw [nMe r1, wr_s (show a < 1000000 by omega)]
              refine ⟨fun _ => ih (a + 1) h' x (by omega) r1 r2 ?_, fun c => by omega⟩
              rcases r3 with ⟨e0, e1, e2⟩ | e
              · exact Or.inl ⟨e0, e1, fun a' b' h1 h2 h3 => e2 a' b' (by omega) h2 h3⟩
              · exact Or.inr e
            | succ n2 ih2 =>
              intro b h' x hb r1 r2 r3
              obtain ⟨b1, b2, b3⟩ := r2.1 b (by omega)
              obtain ⟨a1, a2, a3⟩ := r2.1 a (by omega)
              apply m_M_findFar_54 (msm r1)
              rw [nMe r1, Int.toNat_natCast, Int.toNat_natCast, wr_eq (x := xI h' 133 b + 1) (by omega) (by omega), wr_s (show b < 1000000 by omega)]
              refine ⟨fun c => by omega, fun _ => ⟨by omega, by omega, by omega, by omega, fun c => ih2 (b + 1) h' x (by omega) r1 r2 ?_, fun c => ct_M_isCallee (hm.far r1) (Gr_far hg r1) (by omega) (by omega) ⟨msm r1, fun c2 => ih2 (b + 1) h' x (by omega) r1 r2 ?_, fun c2 => ⟨by omega, by omega, by omega, by omega, fun h2 eh => ?_⟩⟩⟩⟩
              · rcases r3 with ⟨e0, e1, e2⟩ | e
                · refine Or.inl ⟨e0, e1, fun a' b' h1 h2 h3 => ?_⟩
                  by_cases z : a' = a ∧ b' = b
                  · rw [z.1, z.2, ← e1, ← e1]; omega
                  · exact e2 a' b' (by omega) h2 h3
                · exact Or.inr e
              · rw [bI_0] at c2
                rcases r3 with ⟨e0, e1, e2⟩ | e
                · refine Or.inl ⟨e0, e1, fun a' b' h1 h2 h3 => ?_⟩
                  by_cases z : a' = a ∧ b' = b
                  · rw [z.1, z.2] at h3; exact absurd h3 c2
                  · exact e2 a' b' (by omega) h2 h3
                · exact Or.inr e
              · rw [bI_n] at c2
                subst eh
                rw [wr_eq (by omega) (by omega)]
                have v : ∀ j, xI (sI h' 133 a (xI h' 133 b + 1)) 133 j = if j = a then xI h' 133 b + 1 else xI h' 133 j := by
                  intro j; rw [xI_sI]
                  by_cases e : j = a
                  · rw [if_pos ⟨rfl, e⟩, if_pos e]
                  · rw [if_neg (fun z => e z.2), if_neg e]
                refine ih2 (b + 1) _ 1 (by omega) (r1.put rfl) ⟨fun j hj => ?_, ?_⟩ (Or.inr ⟨rfl, ?_⟩)
                · rw [v]
                  by_cases e : j = a
                  · rw [if_pos e]
                    refine ⟨by omega, by omega, fun _ => ?_⟩
                    rw [show (xI h' 133 b + 1).toNat = (xI h' 133 b).toNat + 1 by omega, e]
                    exact ⟨b, by omega, c2, b3 (by omega)⟩
                  · rw [if_neg e]; exact r2.1 j hj
                · rw [v, if_neg (by rintro rfl; have := r2.2; omega)]; exact r2.2
                · have lt : sm1 (xI (sI h' 133 a (xI h' 133 b + 1)) 133) (nM p).toNat < sm1 (xI h' 133) (nM p).toNat := by
                    refine sm1_lt _ (fun j hj => ?_) ⟨a, by omega, ?_⟩
                    · rw [v]
                      by_cases e : j = a
                      · rw [if_pos e, e]; omega
                      · rw [if_neg e]; exact Int.le_refl _
                    · rw [v, if_pos rfl]; omega
                  rcases r3 with ⟨e0, e1, e2⟩ | e
                  · have : sm1 (xI h' 133) (nM p).toNat = sm1 (xI hs 133) (nM p).toNat := by rw [show xI h' 133 = xI hs 133 from funext e1]
                    omega
                  · omega
          refine l54 (nM p).toNat 0 h' x (by omega) r1 r2 ?_
          rcases r3 with ⟨e0, e1, e2⟩ | e
          · exact Or.inl ⟨e0, e1, fun a' b' h1 h2 h3 => e2 a' b' (by omega) h2 h3⟩
          · exact Or.inr e
      exact l43 (nM p).toNat 0 hs 0 (by omega) q1 q2 (Or.inl ⟨rfl, fun _ => rfl, fun a' b h1 => by omega⟩)
  apply m_M_findFar_0 hm.1.1
  have l2 : ∀ (j : Nat) (h' : Hp), j ≤ (nM p).toNat → (sm A133 h h' ∧ ∀ i, i < j → xI h' 133 i = (fun i => if i = t then 0 else 99) i) → Ev l D Y_M_findFar (d + 1) kc ks 2 [some (vr 100), some (vi (t : Int)), some (vi (j : Int)), none, none] [] h' Ψ := by
    refine lup _ _ ?_ ?_
    · rintro h' ⟨q1, q2⟩
      apply m_M_findFar_2 (msm q1)
      rw [nMe q1]
      refine ⟨fun _ => main _ h' (Nat.le_refl _) q1 ⟨fun j hj => ?_, ?_⟩, fun c => by omega⟩
      · rw [q2 j hj]
        by_cases e : j = t
        · rw [show (fun i => if i = t then (0 : Int) else 99) j = 0 from if_pos e]
          exact ⟨by omega, by omega, fun _ => e⟩
        · rw [show (fun i => if i = t then (0 : Int) else 99) j = 99 from if_neg e]
          exact ⟨by omega, by omega, fun z => by omega⟩
      · rw [q2 t (by omega)]; exact if_pos rfl
    · rintro j h' hj ⟨q1, q2⟩ ih
      apply m_M_findFar_2 (msm q1)
      rw [nMe q1, Int.toNat_natCast, wr_s (show j < 1000000 by omega)]
      refine ⟨fun c => by omega, fun _ => ⟨fun c => ⟨by omega, by omega, fun h2 eh => ?_⟩, fun c => ⟨by omega, by omega, fun h2 eh => ?_⟩⟩⟩
      · subst eh; exact ih _ ⟨q1.put rfl, pre_sI q2 (if_neg (show ¬ j = t by omega)).symm⟩
      · subst eh; exact ih _ ⟨q1.put rfl, pre_sI q2 (if_pos (show j = t by omega)).symm⟩
  exact l2 0 h (Nat.zero_le _) ⟨sm.rf, fun i hi => by omega⟩
theorem ct_M_way {x1 x2 : Int} (hm : Ms p h) (k : ∀ h', sm mdl h h' → Ms p h' → Ψ (some (vi (rWa p x1 x2))) h') : Ev l D Y_M_way (d + 7) kc ks 0 [some (vr 100), some (vi x1), some (vi x2), none, none, none, none] [] h Ψ := by
  have hM := hm.1.1
  have hs := hm.1.2.1
  have hw := hm.1.2.2.1
  have w2 := hw.2.1
  apply m_M_way_0 hM
  refine ct_M_isMember hM hs hw ⟨hM, fun c => ct_fr hm (fun h1 s1 m1 g1 => ⟨m1.1.1, ?_⟩), fun c => ?_⟩
  · rw [bI_n] at c
    obtain ⟨m, rfl⟩ : ∃ t : Nat, x1 = (t : Int) := ⟨x1.toNat, by omega⟩
    rw [Int.toNat_natCast, g1.1 119 m (by unfold dyn; omega)]
    refine ⟨by omega, by omega, fun c2 => ?_, fun c2 => ⟨fun c3 => ?_, fun c3 => ?_⟩⟩
    · have z := k h1 s1 m1
      rw [show rWa p m x2 = -1 from (cI_f (fun q => q c)).trans (cI_t (Or.inl (by rw [Int.toNat_natCast]; exact c2)))] at z
      exact z
    · refine ct_M_findFar m1 g1 c.2 (fun h2 s2 fo => ⟨MS_sm s2 m1.1.1, ?_⟩)
      have m2 := m1.far s2
      have g2 := Gr_far g1 s2
      have z := k h2 (s1.tr (s2.mono (fun a j e => by have e' : a = 133 := e; show 100 ≤ a ∧ a < 151; omega))) m2
      rw [show rWa p m x2 = _ from (cI_f (fun q => q c)).trans (cI_f (fun q => q.elim (fun y => c2 (by rw [Int.toNat_natCast] at y; exact y)) (fun y => by omega))), Int.toNat_natCast] at z
      have fd := dst_ok fo
      have fe : ∀ j, j < (nM p).toNat → xI h2 133 j = dst p m j := fun j hj => Far_eq fo fd j hj
      -- steps
      have l109 : x2 < 99 → ∀ (n st a : Nat), ((st + n : Nat) : Int) = x2 → a < (nM p).toNat → dst p m a < 99 → (n : Int) ≤ dst p m a → Ψ (some (vi (gow (dr p (gF p)) (nM p).toNat (dst p m) n a))) h2 → Ev l D Y_M_way (d + 7) kc ks 109 [some (vr 100), some (vi (m : Int)), some (vi x2), some (vi (a : Int)), some (vi (st : Int)), none, none] [] h2 Ψ := by
        intro x99 n
        induction n with
        | zero =>
          intro st a e1 ha h99 hf kk
          apply m_M_way_109 m2.1.1
          exact ⟨fun _ => kk, fun c => by omega⟩
        | succ n ih =>
          intro st a e1 ha h99 hf kk
          apply m_M_way_109 m2.1.1
          refine ⟨fun c => by omega, fun _ => ?_⟩
          have fb := Far_bd fd ha h99
          obtain ⟨b, b1, b2, b3, b4⟩ := nxw_ex fd ha (by omega) h99
          unfold gow at kk
          rw [Int.toNat_natCast, cI_f (by omega), b1] at kk
          have nx := ih (st + 1) b (by omega) b2 (by omega) (by omega) kk
          have l126 : ∀ (j i : Nat), j + i = (nM p).toNat → Ev l D Y_M_way (d + 7) kc ks 126 [some (vr 100), some (vi (m : Int)), some (vi x2), some (vi (a : Int)), some (vi (st : Int)), some (vi (fst (fun c => dst p m c = dst p m a - 1 ∧ dr p (gF p) a c) i j)), some (vi ((j : Int) - 1))] [] h2 Ψ := by
            intro j
            induction j with
            | zero =>
              intro i hi
              apply m_M_way_126 m2.1.1
              refine ⟨fun _ => ?_, fun c => by omega⟩
              rw [show fst (fun c => dst p m c = dst p m a - 1 ∧ dr p (gF p) a c) i 0 = (b : Int) by rw [show i = (nM p).toNat by omega]; exact b1]
              have ew : wr ((st : Int) + 1) = ((st + 1 : Nat) : Int) := by rw [wr_eq (by omega) (by omega)]; omega
              rw [ew]; exact nx
            | succ j ih2 =>
              intro i hi
              have nx2 := ih2 (i + 1) (by omega)
              rw [show fst (fun c => dst p m c = dst p m a - 1 ∧ dr p (gF p) a c) (i + 1) j = cI (dst p m j = dst p m a - 1 ∧ dr p (gF p) a j) j (fst (fun c => dst p m c = dst p m a - 1 ∧ dr p (gF p) a c) i (j + 1)) from rfl] at nx2
              have e1 : (((j + 1 : Nat) : Int) - 1) = (j : Int) := by omega
              have e2 : wr ((j : Int) + -1) = (j : Int) - 1 := by rw [wr_eq (by omega) (by omega)]; omega
              have fa := (fd.1 a ha)
              rw [e1]
              apply m_M_way_126 m2.1.1
              rw [e2, Int.toNat_natCast, Int.toNat_natCast, fe j (by omega), fe a ha, wr_eq (x := dst p m a - 1) (by omega) (by omega)]
              refine ⟨fun c0 => by omega, fun _ => ⟨by omega, by omega, by omega, by omega, fun c0 => ?_, fun c0 => ct_M_isCallee m2 g2 (by omega) (by omega) ⟨m2.1.1, fun c4 => ?_, fun c4 => ?_⟩⟩⟩
              · rw [cI_f (fun q => c0 q.1)] at nx2; exact nx2
              · rw [cI_f (fun q => bI_0.mp c4 q.2)] at nx2; exact nx2
              · rw [cI_t ⟨c0, bI_n.mp c4⟩] at nx2; exact nx2
          have k0 := l126 (nM p).toNat 0 (by omega)
          rw [show (((nM p).toNat : Nat) : Int) = nM p by omega] at k0
          rw [(m2.1.2.1).nM, wr_eq (by omega) (by omega)]
          exact k0
      have l45 : ∀ (j i : Nat), j + i = (nM p).toNat → Ev l D Y_M_way (d + 7) kc ks 45 [some (vr 100), some (vi (m : Int)), some (vi x2), some (vi (bst (fun k => ¬ rt p k = 0) (dst p m) i j)), some (vi ((j : Int) - 1)), none, none] [] h2 Ψ := by
        intro j
        induction j with
        | zero =>
          intro i hi
          rw [show i = (nM p).toNat by omega]
          obtain ⟨-, r, n, r1, r2, r3⟩ := (gF_inv hw).1 m (by omega) c2
          rcases bst_is (fun k => ¬ rt p k = 0) (dst p m) (nM p).toNat 0 with ⟨y1, y2⟩ | ⟨a, y1, y2, y3, y4, y5⟩
          · exact absurd r2 (y2 r (Nat.zero_le _) (by omega))
          · have ha : a < (nM p).toNat := by omega
            have f9 := Far_fin (by omega) fd n r (by omega) r3
            have fa : dst p m a < 99 := by have := (y5 r (Nat.zero_le _) (by omega) r2).1; omega
            rw [y1] at z ⊢
            apply m_M_way_45 m2.1.1
            rw [Int.toNat_natCast, fe a ha]
            refine ⟨fun _ => ⟨by omega, by omega, fun c4 => ?_, fun c4 => ?_⟩, fun c4 => by omega⟩
            · exact l109 (by omega) x2.toNat 0 a (by omega) ha fa (by omega) z
            · rw [gow_far fd x2.toNat a ha (by omega) fa] at z; exact z
        | succ j ih =>
          intro i hi
          have nx := ih (i + 1) (by omega)
          rw [show bst (fun k => ¬ rt p k = 0) (dst p m) (i + 1) j = cI (¬ rt p j = 0 ∧ (bst (fun k => ¬ rt p k = 0) (dst p m) i (j + 1) = -1 ∨ dst p m j ≤ dst p m (bst (fun k => ¬ rt p k = 0) (dst p m) i (j + 1)).toNat)) j (bst (fun k => ¬ rt p k = 0) (dst p m) i (j + 1)) from rfl] at nx
          have e1 : (((j + 1 : Nat) : Int) - 1) = (j : Int) := by omega
          have e2 : wr ((j : Int) + -1) = (j : Int) - 1 := by rw [wr_eq (by omega) (by omega)]; omega
          rw [e1]
          apply m_M_way_45 m2.1.1
          rw [e2, Int.toNat_natCast, (m2.1.2.1).rt j, fe j (by omega)]
          refine ⟨fun c0 => by omega, fun _ => ⟨by omega, by omega, fun c0 => ?_, fun c0 => ⟨fun c4 => ?_, fun c4 => ?_⟩⟩⟩
          · rw [cI_f (fun q => q.1 c0)] at nx; exact nx
          · rw [cI_t ⟨c0, Or.inl c4⟩] at nx; exact nx
          · rcases bst_is (fun k => ¬ rt p k = 0) (dst p m) i (j + 1) with ⟨y1, y2⟩ | ⟨a, y1, y2, y3, y4, y5⟩
            · exact absurd y1 c4
            · rw [y1, Int.toNat_natCast] at nx ⊢
              rw [fe a (by omega)]
              refine ⟨by omega, by omega, by omega, by omega, fun c5 => ?_, fun c5 => ?_⟩
              · rw [cI_f (fun q => q.2.elim (fun y => by omega) (fun y => by omega))] at nx; exact nx
              · rw [cI_t ⟨c0, Or.inr c5⟩] at nx; exact nx
      have k0 := l45 (nM p).toNat 0 (by omega)
      rw [show (((nM p).toNat : Nat) : Int) = nM p by omega] at k0
      rw [(m2.1.2.1).nM, wr_eq (by omega) (by omega)]
      exact k0
    · have z := k h1 s1 m1
      rw [show rWa p m x2 = -1 from (cI_f (fun q => q c)).trans (cI_t (Or.inr c3))] at z
      exact z
  · have z := k h sm.rf hm
    rw [show rWa p x1 x2 = -101 from cI_t (bI_0.mp c)] at z
    exact z
end WA
