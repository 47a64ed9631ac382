/-! the component: callee, faults, caller -/
theorem nth_m1 (Q : Nat → Prop) (i : Int) : ∀ (n k : Nat) (c : Int), (i < c ∨ ∀ j, k ≤ j → j < k + n → ¬ Q j) → nth Q i n k c = -1
  | 0, _, _, _ => rfl
  | n + 1, k, c, h => by
    unfold nth
    rcases Classical.em (Q k) with e | e
    · have hc : i < c := h.resolve_right (fun y => y k (Nat.le_refl _) (by omega) e)
      rw [cI_t e, cI_f (by omega)]
      exact nth_m1 Q i n (k + 1) (c + 1) (Or.inl (by omega))
    · rw [cI_f e]
      exact nth_m1 Q i n (k + 1) c (h.elim Or.inl (fun y => Or.inr (fun j h1 h2 => y j (by omega) (by omega))))
theorem row_un {p : Pg} (hw : WF p) (ho : WO p) {m i c : Nat} (hm : (m : Int) < nM p) (hi : (i : Int) < om p m) (hc : c < 48) (hr : gF p 119 m = 0) : gF p 123 (48 * (oa p (24 * m + i)).toNat + c) = 0 := by
  refine Classical.byContradiction (fun z => ?_)
  obtain ⟨m', i', c', h1, h2, h3, h4, h5⟩ := (gF_inv hw).2.1 _ z
  have w2 := hw.2.1
  obtain ⟨ob, oe⟩ := oa_bd hw hm hi
  obtain ⟨ob', oe'⟩ := oa_bd hw h1 h2
  have e : (oa p (24 * m + i)).toNat = (oa p (24 * m' + i')).toNat := by omega
  have := ho.1 m m' i i' hm h1 hi h2 (by omega)
  rw [this.1] at hr
  exact h4 hr
theorem flt_un {p : Pg} (hw : WF p) (ho : WO p) {m i j : Nat} (hm : (m : Int) < nM p) (hi : (i : Int) < om p m) (hj : j < 4) (hr : gF p 119 m = 0) : gF p 124 (4 * (oa p (24 * m + i)).toNat + j) = 0 := by
  refine Classical.byContradiction (fun z => ?_)
  obtain ⟨m', i', c', h1, h2, h3, h4, h5⟩ := (gF_inv hw).2.2 _ z
  obtain ⟨ob, oe⟩ := oa_bd hw hm hi
  obtain ⟨ob', oe'⟩ := oa_bd hw h1 h2
  have e : (oa p (24 * m + i)).toNat = (oa p (24 * m' + i')).toNat := by omega
  have := ho.1 m m' i i' hm h1 hi h2 (by omega)
  rw [this.1] at hr
  exact h4 hr
section CQ2
variable {l : Launch} {D : DD} {d kc ks : Nat} {h h0 : Hp} {Ψ : Option AV → Hp → Prop} {p g : Pg}
theorem ct_G_faults {x1 x2 x3 : Int} (q : CA p h) (k : ∀ h', agM h h' → CA p h' → Ψ (some (vi (rFl p x1 x2 x3))) h') : Ev l D Y_G_faults (d + 9) kc ks 0 [some (vr 20), some (vi x1), some (vi x2), some (vi x3)] [] h Ψ := by
  obtain ⟨c, hw, ho, hf⟩ := q.1
  have w2 := hw.2.1
  have w3 := hw.2.2.1
  apply g_G_faults_0 c.sh
  refine ct_G_isOp c hw ⟨c.sh, fun c1 => ct_within c.sh ⟨c.sh, fun c2 => ct_d q (fun h1 ag ca e => ⟨ca.1.1.sh, ?_⟩), fun c2 => ?_⟩, fun c1 => ?_⟩
  · rw [bI_n] at c1 c2
    have z := k h1 ag ca
    rw [show rFl p x1 x2 x3 = _ from (cI_f (fun q => q c1)).trans (cI_f (fun q => q c2))] at z
    obtain ⟨c3, c4⟩ := c1
    obtain ⟨m, rfl⟩ : ∃ t : Nat, x1 = (t : Int) := ⟨x1.toNat, by omega⟩
    obtain ⟨i, rfl⟩ : ∃ t : Nat, x2 = (t : Int) := ⟨x2.toNat, by omega⟩
    rw [Int.toNat_natCast] at c4
    rw [Int.toNat_natCast, Int.toNat_natCast] at z
    have hm := c3.2
    have hi := c4.2
    have s := ca.1.1
    have wm := (hw.2.2.2.2.1 m hm).2.2.2.2.2.1
    obtain ⟨ob, oe⟩ := oa_bd hw hm hi
    have en := s.mon m hm
    have ek := s.mok m hm
    have on := s.ofn _ ob
    rw [show (4 * oa p (24 * m + i) - 2 - x3).toNat = 4 * (oa p (24 * m + i)).toNat + (-x3 - 2).toNat by omega] at z
    rw [Int.toNat_natCast, s.mr m hm, e.1.1 m hm, s.mo m hm, Int.toNat_natCast, s.mop m i hm hi, s.of _ ob, wr_eq (x := -x3) (by omega) (by omega), wr_eq (x := -x3 - 2) (by omega) (by omega)]
    refine ⟨by omega, by omega, s.mkk m hm, fun c5 => ?_, fun c5 => ⟨by omega, by omega, s.mkk m hm, by omega, by omega, by omega, by rw [s.okk _ ob]; exact opk_ok _, s.ofk _ ob, by omega, by omega, ?_⟩⟩
    · rw [flt_un hw ho hm hi (by omega) c5] at z; exact z
    · rw [e.2.2.1 m i hm hi c5 _ (by omega)]; exact z
  · rw [bI_n] at c1; rw [bI_0] at c2
    have z := k h agM.rf q
    rw [show rFl p x1 x2 x3 = -102 from (cI_f (fun q => q c1)).trans (cI_t c2)] at z
    exact z
  · have z := k h agM.rf q
    rw [show rFl p x1 x2 x3 = -101 from cI_t (bI_0.mp c1)] at z
    exact z
theorem ct_G_callee {x1 x2 x3 : Int} (q : CA p h) (hx : x3 ≤ 2147483647) (k : ∀ h', agM h h' → CA p h' → Ψ (some (vi (rCe p x1 x2 x3))) h') : Ev l D Y_G_callee (d + 9) kc ks 0 [some (vr 20), some (vi x1), some (vi x2), some (vi x3), none, none, none] [] h Ψ := by
  obtain ⟨c, hw, ho, hf⟩ := q.1
  have w2 := hw.2.1
  have w3 := hw.2.2.1
  apply g_G_callee_0 c.sh
  refine ct_G_isOp c hw ⟨c.sh, fun c1 => ct_d q (fun h1 ag ca e => ⟨ca.1.1.sh, ?_⟩), fun c1 => ?_⟩
  · rw [bI_n] at c1
    have z := k h1 ag ca
    rw [show rCe p x1 x2 x3 = _ from cI_f (fun q => q c1)] at z
    obtain ⟨c3, c4⟩ := c1
    obtain ⟨m, rfl⟩ : ∃ t : Nat, x1 = (t : Int) := ⟨x1.toNat, by omega⟩
    obtain ⟨i, rfl⟩ : ∃ t : Nat, x2 = (t : Int) := ⟨x2.toNat, by omega⟩
    rw [Int.toNat_natCast] at c4
    rw [Int.toNat_natCast, Int.toNat_natCast] at z
    have hm := c3.2
    have hi := c4.2
    have s := ca.1.1
    have wm := (hw.2.2.2.2.1 m hm).2.2.2.2.2.1
    obtain ⟨ob, oe⟩ := oa_bd hw hm hi
    have en := s.mon m hm
    have ek := s.mok m hm
    have on := s.ocn _ ob
    have key : ∀ (n j : Nat) (c : Int), j + n = (nM p).toNat → (0 ≤ c ∧ c ≤ j) → nth (fun k => ¬ gF p 123 (48 * (oa p (24 * m + i)).toNat + k) = 0) x3 n j c = nth (fun k => ¬ gF p 123 (48 * (oa p (24 * m + i)).toNat + k) = 0) x3 (nM p).toNat 0 0 → Ev l D Y_G_callee (d + 9) kc ks 30 [some (vr 20), some (vi (m : Int)), some (vi (i : Int)), some (vi x3), some (vr (mA m)), some (vi (x3 - c)), some (vi (j : Int))] [] h1 Ψ := by
      intro n
      induction n with
      | zero =>
        intro j c hj hc en
        apply g_G_callee_30 s.sh
        rw [s.cm]
        refine ⟨fun _ => ?_, fun c => by omega⟩
        rw [← en] at z; exact z
      | succ n ih =>
        intro j c hj hc en
        apply g_G_callee_30 s.sh
        rw [s.cm, e.1.1 m hm, s.mo m hm, Int.toNat_natCast, s.mop m i hm hi, s.oc _ ob, Int.toNat_natCast, e.1.2.2.2.2.1 _ j ob (by omega), wr_s (show j < 1000000 by omega)]
        refine ⟨fun c => by omega, fun _ => ⟨s.mkk m hm, fun c5 => ?_, fun c5 => ⟨fun c6 => ?_, fun c6 => ⟨s.mkk m hm, by omega, by omega, by omega, by rw [s.okk _ ob]; exact opk_ok _, s.ock _ ob, by omega, by omega, fun c7 => ih (j + 1) c (by omega) (by omega) ?_, fun c7 => ⟨fun c8 => ?_, fun c8 => ?_⟩⟩⟩⟩⟩
        · rw [nth_m1 _ _ _ _ _ (Or.inr (fun j _ hj y => y (row_un hw ho hm hi (by omega) c5)))] at z; exact z
        · rw [nth_m1 _ _ _ _ _ (Or.inl (by omega))] at z; exact z
        · rw [← en]; exact (cI_f (fun q => q c7)).symm
        · rw [wr_eq (by omega) (by omega), show x3 - c + -1 = x3 - (c + 1) by omega]
          refine ih (j + 1) (c + 1) (by omega) (by omega) ?_
          rw [← en]; exact ((cI_t c7).trans (cI_f (by omega))).symm
        · rw [← en, show nth (fun k => ¬ gF p 123 (48 * (oa p (24 * m + i)).toNat + k) = 0) x3 (n + 1) j c = (j : Int) from (cI_t c7).trans (cI_t (by omega))] at z; exact z
    rw [Int.toNat_natCast, s.mr m hm]
    have k0 := key (nM p).toNat 0 0 (by omega) (by omega) rfl
    rw [Int.sub_zero] at k0
    exact ⟨by omega, by omega, k0⟩
  · have z := k h agM.rf q
    rw [show rCe p x1 x2 x3 = -101 from cI_t (bI_0.mp c1)] at z
    exact z
theorem ct_G_caller {x1 x2 : Int} (q : CA p h) (hx : x2 ≤ 2147483647) (k : ∀ h', agM h h' → CA p h' → Ψ (some (vi (rCr p x1 x2))) h') : Ev l D Y_G_caller (d + 9) kc ks 0 [some (vr 20), some (vi x1), some (vi x2), none, none] [] h Ψ := by
  obtain ⟨c, hw, ho, hf⟩ := q.1
  have w2 := hw.2.1
  apply g_G_caller_0 c.sh
  refine ct_G_isMember c hw ⟨c.sh, fun c1 => ct_d q (fun h1 ag ca e => ⟨ca.1.1.sh, ?_⟩), fun c1 => ?_⟩
  · rw [bI_n] at c1
    have z := k h1 ag ca
    rw [show rCr p x1 x2 = _ from cI_f (fun q => q c1)] at z
    obtain ⟨m, rfl⟩ : ∃ t : Nat, x1 = (t : Int) := ⟨x1.toNat, by omega⟩
    rw [Int.toNat_natCast] at z
    have hm := c1.2
    have s := ca.1.1
    have key : ∀ (n j : Nat) (c : Int), j + n = (nM p).toNat → (0 ≤ c ∧ c ≤ j) → nth (fun k => dr p (gF p) k m) x2 n j c = nth (fun k => dr p (gF p) k m) x2 (nM p).toNat 0 0 → Ev l D Y_G_caller (d + 9) kc ks 20 [some (vr 20), some (vi (m : Int)), some (vi x2), some (vi (x2 - c)), some (vi (j : Int))] [] h1 Ψ := by
      intro n
      induction n with
      | zero =>
        intro j c hj hc en
        apply g_G_caller_20 s.sh
        rw [s.cm]
        refine ⟨fun _ => ?_, fun c => by omega⟩
        rw [← en] at z; exact z
      | succ n ih =>
        intro j c hj hc en
        apply g_G_caller_20 s.sh
        rw [s.cm, Int.toNat_natCast, s.mr j (by omega), wr_s (show j < 1000000 by omega)]
        refine ⟨fun c => by omega, fun _ => ⟨fun c6 => ?_, fun c6 => ⟨by omega, by omega, ct_calls s hw e (by omega) hm ⟨s.sh, fun c7 => ih (j + 1) c (by omega) (by omega) ?_, fun c7 => ⟨fun c8 => ?_, fun c8 => ?_⟩⟩⟩⟩⟩
        · rw [nth_m1 _ _ _ _ _ (Or.inl (by omega))] at z; exact z
        · rw [← en]; exact (cI_f (bI_0.mp c7)).symm
        · rw [wr_eq (by omega) (by omega), show x2 - c + -1 = x2 - (c + 1) by omega]
          refine ih (j + 1) (c + 1) (by omega) (by omega) ?_
          rw [← en]; exact ((cI_t (bI_n.mp c7)).trans (cI_f (by omega))).symm
        · rw [← en, show nth (fun k => dr p (gF p) k m) x2 (n + 1) j c = (j : Int) from (cI_t (bI_n.mp c7)).trans (cI_t (by omega))] at z; exact z
    have k0 := key (nM p).toNat 0 0 (by omega) (by omega) rfl
    rw [Int.sub_zero] at k0
    exact k0
  · have z := k h agM.rf q
    rw [show rCr p x1 x2 = -101 from cI_t (bI_0.mp c1)] at z
    exact z
end CQ2
