/-! the model: count, about -/
def q1 (p : Pg) (w : Int) (m : Nat) : Prop := (w = 3 ∧ ¬ rt p m = 0) ∨ (w = 4 ∧ ¬ gF p 119 m = 0) ∨ (w = 9 ∧ rcF p m)
def q2 (p : Pg) (w : Int) (t : Nat) : Prop := (w = 5 ∧ ¬ gF p 120 t = 0) ∨ (w = 6 ∧ ¬ gF p 121 t = 0)
section CN
variable {l : Launch} {D : DD} {d kc ks : Nat} {h h0 : Hp} {Ψ : Option AV → Hp → Prop} {p g : Pg}
theorem ct_M_countIn {w : Int} (hm : Ms p h) (hg : Gr p h) (hw3 : 3 ≤ w ∧ w ≤ 9) (k : Ψ (some (vi (cIn p w))) h) : Ev l D Y_M_countIn (d + 1) kc ks 0 [some (vr 100), some (vi w), none, none] [] h Ψ := by
  have hM := hm.1.1
  have hs := hm.1.2.1
  have hw := hm.1.2.2.1
  have w1 := hw.1
  have w2 := hw.2.1
  have l4 : ∀ (n j : Nat) (s : Int), j + n = 640 → w = 8 → sw (gF p 124) n j s = sw (gF p 124) 640 0 0 → Ev l D Y_M_countIn (d + 1) kc ks 161 [some (vr 100), some (vi w), some (vi s), some (vi (j : Int))] [] h Ψ := by
    intro n
    induction n with
    | zero =>
      intro j s hj e8 es
      apply m_M_countIn_161 hM
      refine ⟨fun _ => ?_, fun c => by omega⟩
      rw [show cIn p w = s by unfold cIn; rw [cI_f (by omega), cI_f (by omega), cI_f (by omega), cI_f (by omega), cI_f (by omega), cI_t e8, ← es]; rfl] at k
      exact k
    | succ n ih =>
      intro j s hj e8 es
      apply m_M_countIn_161 hM
      rw [Int.toNat_natCast, hg.1 124 j (by unfold dyn; omega), wr_s (show j < 1000000 by omega)]
      exact ⟨fun c => by omega, fun _ => ⟨fun c => absurd e8 c, fun _ => ⟨by omega, by omega, ih (j + 1) _ (by omega) e8 es⟩⟩⟩
  have l3 : ∀ (n j : Nat), j + n = 7680 → w = 7 → Ev l D Y_M_countIn (d + 1) kc ks 123 [some (vr 100), some (vi w), some (vi (cnt (fun m => ¬ gF p 123 m = 0) j 0)), some (vi (j : Int))] [] h Ψ := by
    intro n
    induction n with
    | zero =>
      intro j hj e7
      apply m_M_countIn_123 hM
      refine ⟨fun _ => ?_, fun c => by omega⟩
      apply m_M_countIn_161 hM
      rw [show cIn p w = cnt (fun m => ¬ gF p 123 m = 0) j 0 by unfold cIn; rw [cI_f (by omega), cI_f (by omega), cI_f (by omega), cI_f (by omega), cI_t e7, show j = 7680 by omega]] at k
      exact ⟨fun c => by omega, fun _ => ⟨fun _ => k, fun c => by omega⟩⟩
    | succ n ih =>
      intro j hj e7
      have nx := ih (j + 1) (by omega) e7
      rw [cnt_snoc, Nat.zero_add] at nx
      have cb := cnt_le (fun m => ¬ gF p 123 m = 0) j 0
      apply m_M_countIn_123 hM
      rw [Int.toNat_natCast, hg.1 123 j (by unfold dyn; omega), wr_s (show j < 1000000 by omega)]
      refine ⟨fun c => by omega, fun _ => ⟨fun c => absurd e7 c, fun _ => ⟨by omega, by omega, fun c => ?_, fun c => ?_⟩⟩⟩
      · rw [bI_f (fun q => q c)] at nx; rw [wr_eq (by omega) (by omega)]; exact nx
      · rw [bI_t c] at nx; rw [wr_eq (by omega) (by omega)]; exact nx
  have z1 : (¬ w = 3 ∧ ¬ w = 4 ∧ ¬ w = 9) → cnt (q1 p w) (nM p).toNat 0 = 0 := fun q => (cnt_0 _ _ _).mpr (fun j _ _ => by unfold q1; omega)
  have z2 : (¬ w = 5 ∧ ¬ w = 6) → cnt (q2 p w) (nT p).toNat 0 = 0 := fun q => (cnt_0 _ _ _).mpr (fun j _ _ => by unfold q2; omega)
  have l2 : ∀ (n j : Nat), j + n = (nT p).toNat → Ev l D Y_M_countIn (d + 1) kc ks 70 [some (vr 100), some (vi w), some (vi (cnt (q1 p w) (nM p).toNat 0 + cnt (q2 p w) j 0)), some (vi (j : Int))] [] h Ψ := by
    intro n
    induction n with
    | zero =>
      intro j hj
      apply m_M_countIn_70 hM
      rw [hs.nT]
      refine ⟨fun _ => ?_, fun c => by omega⟩
      rw [show j = (nT p).toNat by omega]
      rcases Classical.em (w = 7) with e7 | e7
      · rw [z1 (by omega), z2 (by omega)]
        exact l3 7680 0 (by omega) e7
      · apply m_M_countIn_123 hM
        refine ⟨fun c => by omega, fun _ => ⟨fun _ => ?_, fun c => absurd c e7⟩⟩
        rcases Classical.em (w = 8) with e8 | e8
        · rw [z1 (by omega), z2 (by omega)]
          exact l4 640 0 0 (by omega) e8 rfl
        · apply m_M_countIn_161 hM
          refine ⟨fun c => by omega, fun _ => ⟨fun _ => ?_, fun c => absurd c e8⟩⟩
          have ek : cIn p w = cnt (q1 p w) (nM p).toNat 0 + cnt (q2 p w) (nT p).toNat 0 := by
            unfold cIn
            rcases Classical.em (w = 3) with e | e3
            · rw [cI_t e, z2 (by omega), Int.add_zero]
              exact cnt_congr _ _ (fun j _ _ => by unfold q1; omega)
            rw [cI_f e3]
            rcases Classical.em (w = 4) with e | e4
            · rw [cI_t e, z2 (by omega), Int.add_zero]
              exact cnt_congr _ _ (fun j _ _ => by unfold q1; omega)
            rw [cI_f e4]
            rcases Classical.em (w = 5) with e | e5
            · rw [cI_t e, z1 (by omega), Int.zero_add]
              exact cnt_congr _ _ (fun j _ _ => by unfold q2; omega)
            rw [cI_f e5]
            rcases Classical.em (w = 6) with e | e6
            · rw [cI_t e, z1 (by omega), Int.zero_add]
              exact cnt_congr _ _ (fun j _ _ => by unfold q2; omega)
            rw [cI_f e6, cI_f e7, cI_f e8, z2 (by omega), Int.add_zero]
            exact cnt_congr _ _ (fun j _ _ => ⟨fun q => Or.inr (Or.inr ⟨by omega, q⟩), fun q => q.elim (fun y => absurd y.1 e3) (fun y => y.elim (fun x => absurd x.1 e4) (fun x => x.2))⟩)
          rw [ek] at k; exact k
    | succ n ih =>
      intro j hj
      have nx := ih (j + 1) (by omega)
      rw [cnt_snoc, Nat.zero_add] at nx
      have cb := cnt_le (q2 p w) j 0
      have cb1 := cnt_le (q1 p w) (nM p).toNat 0
      have g113 : ∀ (y0 x2 : Int), y0 = bI (q2 p w j) → Ev l D Y_M_countIn (d + 1) kc ks 113 [some (vr 100), some (vi w), some (vi x2), some (vi (j : Int))] [vi y0, vi (cnt (q1 p w) (nM p).toNat 0 + cnt (q2 p w) j 0)] h Ψ := by
        intro y0 x2 ey
        apply m_M_countIn_113 hM
        have b01 := bI_01 (q2 p w j)
        rw [ey, wr_eq (by omega) (by omega), wr_s (show j < 1000000 by omega), Int.add_assoc]
        exact nx
      apply m_M_countIn_70 hM
      rw [hs.nT, Int.toNat_natCast, hg.1 120 j (by unfold dyn; omega), hg.1 121 j (by unfold dyn; omega)]
      refine ⟨fun c => by omega, fun _ => ⟨fun c5 => ⟨fun c6 => g113 0 _ ?_, fun c6 => ⟨by omega, by omega, fun c => g113 0 _ ?_, fun c => g113 1 _ ?_⟩⟩, fun c5 => ⟨by omega, by omega, fun c => g113 1 _ ?_, fun c => ⟨fun c6 => g113 0 _ ?_, fun c6 => by omega⟩⟩⟩⟩
      · exact (bI_f (by unfold q2; omega)).symm
      · exact (bI_f (by unfold q2; omega)).symm
      · exact (bI_t (by unfold q2; omega)).symm
      · exact (bI_t (by unfold q2; omega)).symm
      · exact (bI_f (by unfold q2; omega)).symm
  have l1 : ∀ (n j : Nat), j + n = (nM p).toNat → Ev l D Y_M_countIn (d + 1) kc ks 4 [some (vr 100), some (vi w), some (vi (cnt (q1 p w) j 0)), some (vi (j : Int))] [] h Ψ := by
    intro n
    induction n with
    | zero =>
      intro j hj
      apply m_M_countIn_4 hM
      rw [hs.nM]
      refine ⟨fun _ => ?_, fun c => by omega⟩
      have := l2 (nT p).toNat 0 (by omega)
      rw [show cnt (q2 p w) 0 0 = 0 from rfl, Int.add_zero] at this
      rw [show j = (nM p).toNat by omega]
      exact this
    | succ n ih =>
      intro j hj
      have nx := ih (j + 1) (by omega)
      rw [cnt_snoc, Nat.zero_add] at nx
      have cb := cnt_le (q1 p w) j 0
      have g60 : ∀ (y0 x2 : Int), y0 = bI (q1 p w j) → Ev l D Y_M_countIn (d + 1) kc ks 60 [some (vr 100), some (vi w), some (vi x2), some (vi (j : Int))] [vi y0, vi (cnt (q1 p w) j 0)] h Ψ := by
        intro y0 x2 ey
        apply m_M_countIn_60 hM
        have b01 := bI_01 (q1 p w j)
        rw [ey, wr_eq (by omega) (by omega), wr_s (show j < 1000000 by omega)]
        exact nx
      apply m_M_countIn_4 hM
      rw [hs.nM, Int.toNat_natCast, hg.1 119 j (by unfold dyn; omega), hs.rt j]
      refine ⟨fun c => by omega, fun _ => ⟨fun c3 => ⟨fun c4 => ⟨fun c9 => g60 0 _ ?_, fun c9 => ct_M_isRecursive hm hg (by omega) ⟨hM, fun c => g60 0 _ ?_, fun c => g60 1 _ ?_⟩⟩, fun c4 => ⟨by omega, by omega, fun c => g60 1 _ ?_, fun c => ⟨fun _ => g60 0 _ ?_, fun c9 => by omega⟩⟩⟩, fun c3 => ⟨by omega, by omega, fun c => g60 1 _ ?_, fun c => ⟨fun _ => ⟨fun _ => g60 0 _ ?_, fun c9 => by omega⟩, fun c4 => by omega⟩⟩⟩⟩
      · exact (bI_f (by unfold q1; omega)).symm
      · rw [bI_0] at c
        exact (bI_f (fun q => q.elim (fun y => c3 y.1) (fun y => y.elim (fun x => c4 x.1) (fun x => c x.2)))).symm
      · exact (bI_t (Or.inr (Or.inr ⟨c9, bI_n.mp c⟩))).symm
      · exact (bI_t (Or.inr (Or.inl ⟨c4, c⟩))).symm
      · exact (bI_f (by unfold q1; omega)).symm
      · exact (bI_t (Or.inl ⟨c3, c⟩)).symm
      · exact (bI_f (by unfold q1; omega)).symm
  apply m_M_countIn_0 hM
  exact l1 (nM p).toNat 0 (by omega)
theorem ct_M_count {w : Int} (hm : Ms p h) (k : ∀ h', sm mdl h h' → Ms p h' → Ψ (some (vi (rCo p w))) h') : Ev l D Y_M_count (d + 7) kc ks 0 [some (vr 100), some (vi w)] [] h Ψ := by
  apply m_M_count_0 hm.1.1
  refine ct_fr hm (fun h1 s1 m1 g1 => ⟨m1.1.1, ?_⟩)
  have z := k h1 s1 m1
  unfold rCo at z
  rw [(m1.1.2.1).nT, (m1.1.2.1).nM, (m1.1.2.1).nO]
  refine ⟨fun c0 => ⟨fun c1 => ⟨fun c2 => ct_M_in m1.1.1 ⟨m1.1.1, fun c => ?_, fun c => ct_M_countIn m1 g1 (bI_n.mp c) ⟨m1.1.1, ?_⟩⟩, fun c2 => ?_⟩, fun c1 => ?_⟩, fun c0 => ?_⟩
  · rw [cI_f c0, cI_f c1, cI_f c2, cI_f (bI_0.mp c)] at z; exact z
  · rw [cI_f c0, cI_f c1, cI_f c2, cI_t (bI_n.mp c)] at z; exact z
  · rw [cI_f c0, cI_f c1, cI_t c2] at z; exact z
  · rw [cI_f c0, cI_t c1] at z; exact z
  · rw [cI_t c0] at z; exact z
theorem ct_M_about {x1 w : Int} (hm : Ms p h) (k : ∀ h', sm mdl h h' → Ms p h' → Ψ (some (vi (rAb p x1 w))) h') : Ev l D Y_M_about (d + 7) kc ks 0 [some (vr 100), some (vi x1), some (vi w), none, none, none] [] h Ψ := by
  have hM := hm.1.1
  have hs := hm.1.2.1
  have hw := hm.1.2.2.1
  have w2 := hw.2.1
  apply m_M_about_0 hM
  refine ct_M_isMember hM hs hw ⟨hM, fun c => ct_fr hm (fun h1 s1 m1 g1 => ⟨m1.1.1, ?_⟩), fun c => ?_⟩
  · rw [bI_n] at c
    have z := k h1 s1 m1
    rw [show rAb p x1 w = _ from cI_f (fun q => q c)] at z
    obtain ⟨m, rfl⟩ : ∃ t : Nat, x1 = (t : Int) := ⟨x1.toNat, by omega⟩
    rw [Int.toNat_natCast] at z
    have key : ∀ (j n : Nat), j + n = (nM p).toNat → Ev l D Y_M_about (d + 7) kc ks 28 [some (vr 100), some (vi (m : Int)), some (vi w), some (vi (cnt (rgF p m) n j)), some (vi (fst (rgF p m) n j)), some (vi ((j : Int) - 1))] [] h1 Ψ := by
      intro j
      induction j with
      | zero =>
        intro n hn
        apply m_M_about_28 m1.1.1
        rw [Int.toNat_natCast, g1.1 119 m (by unfold dyn; omega), (m1.1.2.1).nM]
        have en : n = (nM p).toNat := by omega
        refine ⟨fun _ => ⟨fun c0 => ⟨by omega, by omega, fun c2 => ?_, fun c2 => ?_⟩, fun c0 => ct_M_isRecursive m1 g1 c.2 ⟨m1.1.1, fun c2 => ?_, fun c2 => ?_⟩, fun c0 => ?_, fun c0 => ?_, fun c0 => ?_, fun c0 => ?_⟩, fun c0 => by omega⟩
        · rw [cI_t c0, bI_f (fun q => q c2)] at z; exact z
        · rw [cI_t c0, bI_t c2] at z; exact z
        · rw [cI_f (by omega), cI_t c0, c2] at z; exact z
        · rw [cI_f (by omega), cI_t c0, (bI_01 _).resolve_left c2] at z; exact z
        · rw [cI_f (by omega), cI_f (by omega), cI_t c0, ← en] at z
          rw [show nM p = (n : Int) by omega]
          exact ct_M_callersOf m1 g1 c.2 (by omega) ⟨m1.1.1, z⟩
        · rw [cI_f (by omega), cI_f (by omega), cI_f (by omega), cI_t c0, ← en] at z; exact z
        · rw [cI_f (by omega), cI_f (by omega), cI_f (by omega), cI_f (by omega), cI_t c0, ← en] at z; exact z
        · rw [cI_f (by omega), cI_f (by omega), cI_f (by omega), cI_f (by omega), cI_f (by omega)] at z; exact z
      | succ j ih =>
        intro n hn
        have nx := ih (n + 1) (by omega)
        rw [show cnt (rgF p m) (n + 1) j = bI (rgF p m j) + cnt (rgF p m) n (j + 1) from rfl, show fst (rgF p m) (n + 1) j = cI (rgF p m j) j (fst (rgF p m) n (j + 1)) from rfl] at nx
        have cb := cnt_le (rgF p m) n (j + 1)
        have e1 : (((j + 1 : Nat) : Int) - 1) = (j : Int) := by omega
        have e2 : wr ((j : Int) + -1) = (j : Int) - 1 := by rw [wr_eq (by omega) (by omega)]; omega
        rw [e1]
        apply m_M_about_28 m1.1.1
        rw [e2]
        refine ⟨fun c0 => by omega, fun _ => ct_M_isRing m1 g1 c.2 (by omega) ⟨m1.1.1, fun c2 => ct_M_isRing m1 g1 c.2 (by omega) ⟨m1.1.1, fun c3 => ?_, fun c3 => absurd c2 c3⟩, fun c2 => ct_M_isRing m1 g1 c.2 (by omega) ⟨m1.1.1, fun c3 => absurd c3 c2, fun c3 => ?_⟩⟩⟩
        · rw [bI_f (bI_0.mp c2), cI_f (bI_0.mp c2), Int.zero_add] at nx
          rw [wr_eq (by omega) (by omega), Int.add_zero]; exact nx
        · rw [bI_t (bI_n.mp c2), cI_t (bI_n.mp c2), Int.add_comm] at nx
          rw [wr_eq (by omega) (by omega)]; exact nx
    have k0 := key (nM p).toNat 0 (by omega)
    rw [show (((nM p).toNat : Nat) : Int) = nM p by omega] at k0
    rw [(m1.1.2.1).nM, wr_eq (by omega) (by omega)]
    exact k0
  · have z := k h sm.rf hm
    rw [show rAb p x1 w = -101 from cI_t (bI_0.mp c)] at z
    exact z
end CN
