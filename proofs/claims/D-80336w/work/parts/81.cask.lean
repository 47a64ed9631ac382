/-! the component: what is told -/
def agM (h h' : Hp) : Prop := ∀ a, a = 11 ∨ (100 ≤ a ∧ a < 151) → xK h' a = xK h a ∧ xN h' a = xN h a ∧ (∀ k, xI h' a k = xI h a k) ∧ (∀ k, xR h' a k = xR h a k) ∧ ∀ k, xL h' a k = xL h a k
theorem agM.rf {h : Hp} : agM h h := fun _ _ => ⟨rfl, rfl, fun _ => rfl, fun _ => rfl, fun _ => rfl⟩
theorem agM.tr {h h1 h2 : Hp} (q : agM h h1) (r : agM h1 h2) : agM h h2 := fun a ha => ⟨(r a ha).1.trans (q a ha).1, (r a ha).2.1.trans (q a ha).2.1, fun k => ((r a ha).2.2.1 k).trans ((q a ha).2.2.1 k), fun k => ((r a ha).2.2.2.1 k).trans ((q a ha).2.2.2.1 k), fun k => ((r a ha).2.2.2.2 k).trans ((q a ha).2.2.2.2 k)⟩
/-- what is still free -/
def Fr (p : Pg) (h : Hp) : Prop := (∀ t j : Nat, nT p ≤ (t : Int) → t < 16 → j < 4 → xK h (tA t + j) = 0) ∧ (∀ m j : Nat, nM p ≤ (m : Int) → m < 48 → j < 2 → xK h (mA m + j) = 0) ∧ (∀ o j : Nat, nO p ≤ (o : Int) → o < 160 → j < 3 → xK h (oD o + j) = 0) ∧ (∀ t : Nat, nT p ≤ (t : Int) → t < 16 → xK h (1000 + t) = 0) ∧ (∀ m : Nat, nM p ≤ (m : Int) → m < 48 → xK h (1100 + m) = 0)
def Vs (h : Hp) : Prop := xK h 9 = 26 ∧ xN h 9 = 3 ∧ xK h 10 = 27 ∧ xN h 10 = 5 ∧ (∀ i, i < 3 → xR h 9 i = 1 + i) ∧ ∀ i, i < 5 → xR h 10 i = 4 + i
def CA (p : Pg) (h : Hp) : Prop := Cs p h ∧ Fr p h ∧ Vs h
theorem CA_mv {A B : Nat → Nat → Prop} {h h' : Hp} {p : Pg} (q : CA p h) (f : fx A B h h') (hA : ∀ a k, A a k → ¬ a = 11 ∧ ¬ (100 ≤ a ∧ a < 151)) (hB : ∀ a k, B a k → ¬ csr a k) (c : Cs p h') : CA p h' ∧ agM h h' := by
  have eB : ∀ a k, csr a k → xR h' a k = xR h a k := fun a k z => f.2.2.1 a k (fun y => hB a k y z)
  obtain ⟨_, ⟨a1, a2, a3, a4, a5⟩, ⟨b1, b2, b3, b4, b5, b6⟩⟩ := q
  refine ⟨⟨c, ⟨fun t j x y z => by rw [f.K]; exact a1 t j x y z, fun t j x y z => by rw [f.K]; exact a2 t j x y z, fun t j x y z => by rw [f.K]; exact a3 t j x y z, fun t x y => by rw [f.K]; exact a4 t x y, fun t x y => by rw [f.K]; exact a5 t x y⟩, ⟨by rw [f.K]; exact b1, by rw [f.N]; exact b2, by rw [f.K]; exact b3, by rw [f.N]; exact b4, fun i hi => by rw [eB _ _ (by unfold csr; omega)]; exact b5 i hi, fun i hi => by rw [eB _ _ (by unfold csr; omega)]; exact b6 i hi⟩⟩, fun a ha => ⟨f.K a, f.N a, fun k => f.2.1 a k (fun y => ?_), fun k => eB a k (by unfold csr; omega), fun k => f.2.2.2 a k⟩⟩
  have := hA a k y
  omega
section CQ
variable {l : Launch} {D : DD} {d kc ks : Nat} {h h0 : Hp} {Ψ : Option AV → Hp → Prop} {p g : Pg}
theorem CA_lv {h' : Hp} (q : CA p h) (f : fx A205 B206 h h') : CA p h' ∧ agM h h' := by
  refine CA_mv q f (fun a k z => ?_) (fun a k z => ?_) (Cs_fx f (fun a k z => ?_) (fun a k z => ?_) q.1)
  · have z' : a = 20 ∧ k = 5 := z; omega
  · have z' : a = 20 ∧ k = 6 := z; unfold csr; omega
  · have z' : a = 20 ∧ k = 5 := z; unfold cst drx cdx; omega
  · have z' : a = 20 ∧ k = 6 := z; unfold csr; omega
theorem ct_d (q : CA p h) (k : ∀ h', agM h h' → CA p h' → Dr p h' → Ψ none h') : Ev l D Y_G_draw (d + 8) kc ks 0 [some (vr 20), none, none, none, none] [] h Ψ := by
  refine ct_dr q.1 (fun h' f c e => ?_)
  obtain ⟨a, b⟩ := CA_mv q f (fun a k z => by unfold ddy drx cdx at z; omega) (fun a k z => by have z' : a = 20 ∧ k = 6 := z; unfold csr; omega) c
  exact k h' b a e
theorem ct_calls {m c : Nat} (q : CS h p) (hw : WF p) (e : Dr p h) (hm : (m : Int) < nM p) (hc : (c : Int) < nM p) (k : Ψ (some (vi (bI (dr p (gF p) m c)))) h) : Ev l D Y_G_calls d kc ks 0 [some (vr 20), some (vr (mA m)), some (vi (c : Int)), none, none] [] h Ψ := by
  have w2 := hw.2.1
  obtain ⟨m1, m2, m3, m4, m5, m6, m7⟩ := hw.2.2.2.2.1 m hm
  apply g_G_calls_0 q.sh
  have key : ∀ (n i : Nat), i + n = (om p m).toNat → Ev l D Y_G_calls d kc ks 5 [some (vr 20), some (vr (mA m)), some (vi (c : Int)), some (vi (bI (∃ y : Nat, y < i ∧ ¬ gF p 119 m = 0 ∧ ¬ gF p 123 (48 * (oa p (24 * m + y)).toNat + c) = 0))), some (vi (i : Int))] [] h Ψ := by
    intro n
    induction n with
    | zero =>
      intro i hi
      have ee : bI (∃ y : Nat, y < i ∧ ¬ gF p 119 m = 0 ∧ ¬ gF p 123 (48 * (oa p (24 * m + y)).toNat + c) = 0) = bI (dr p (gF p) m c) := bI_c ⟨fun ⟨y, y1, y2⟩ => ⟨y, by omega, y2⟩, fun ⟨y, y1, y2⟩ => ⟨y, by omega, y2⟩⟩
      apply g_G_calls_5 q.sh
      rw [q.mc m hm, ee]
      exact ⟨q.mkk m hm, fun _ => ⟨bI_01 _, k⟩, fun c => by omega⟩
    | succ n ih =>
      intro i hi
      have hi' : (i : Int) < om p m := by omega
      obtain ⟨ob, oe⟩ := oa_bd hw hm hi'
      have nx := ih (i + 1) (by omega)
      have en := q.mon m hm
      have ek := q.mok m hm
      have on := q.ocn _ ob
      apply g_G_calls_5 q.sh
      rw [q.mc m hm, e.1.1 m hm, q.mo m hm, Int.toNat_natCast, q.mop m i hm hi', q.oc _ ob, Int.toNat_natCast, e.1.2.2.2.2.1 _ c ob (by omega), wr_s (show i < 1000000 by omega)]
      refine ⟨q.mkk m hm, fun _ => by omega, fun _ => ⟨q.mkk m hm, fun c1 => ⟨bI_01 _, ?_⟩, fun c1 => ⟨fun c2 => ⟨bI_01 _, ?_⟩, fun c2 => ⟨q.mkk m hm, by omega, by omega, by omega, by rw [q.okk _ ob]; exact opk_ok _, q.ock _ ob, by omega, by omega, ?_⟩⟩⟩⟩
      · rw [bI_f (fun ⟨y, _, y2, _⟩ => y2 c1)]
        rw [bI_f (fun ⟨y, _, y2, _⟩ => y2 c1)] at k
        exact k
      · rw [bI_n] at c2
        rw [bI_t c2]
        obtain ⟨y, y1, y2⟩ := c2
        rw [bI_t ⟨y, by omega, y2⟩] at k
        exact k
      · rw [bI_0] at c2
        rcases e.2.1 123 (48 * (oa p (24 * m + i)).toNat + c) (Or.inl (by omega)) with v | v
        · rw [v]
          rw [bI_f (fun ⟨y, y1, y2, y3⟩ => by
            rcases Nat.eq_or_lt_of_le (Nat.le_of_lt_succ y1) with z | z
            · rw [z] at y3; exact y3 v
            · exact c2 ⟨y, z, y2, y3⟩)] at nx
          exact nx
        · rw [v]
          rw [bI_t ⟨i, by omega, c1, by rw [v]; decide⟩] at nx
          exact nx
  have k0 := key (om p m).toNat 0 (by omega)
  rw [bI_f (fun ⟨y, y1, _⟩ => by omega)] at k0
  exact k0
theorem ct_G_under {x1 x2 : Int} (q : CA p h) (k : ∀ h', agM h h' → CA p h' → Ψ (some (vi (rUn p x1 x2))) h') : Ev l D Y_G_under (d + 2) kc ks 0 [some (vr 20), some (vi x1), some (vi x2)] [] h Ψ := by
  obtain ⟨c, hw, ho, hf⟩ := q.1
  have w1 := hw.1
  have k' := k h agM.rf q
  apply g_G_under_0 c.sh
  refine ct_G_isType c hw ⟨c.sh, fun c1 => ?_, fun c1 => ct_G_isType c hw ⟨c.sh, fun c2 => ?_, fun c2 => ?_⟩⟩
  · rw [show rUn p x1 x2 = -101 from cI_t (Or.inl (bI_0.mp c1))] at k'; exact k'
  · rw [bI_n] at c1 c2
    obtain ⟨t, rfl⟩ : ∃ t : Nat, x1 = (t : Int) := ⟨x1.toNat, by omega⟩
    obtain ⟨u, rfl⟩ : ∃ t : Nat, x2 = (t : Int) := ⟨x2.toNat, by omega⟩
    rw [show rUn p t u = bI (U p t u) from cI_f (by omega)] at k'
    rw [Int.toNat_natCast, Int.toNat_natCast, c.trr t c1.2, c.trr u c2.2]
    refine ⟨by omega, by omega, by omega, by omega, c.tk t c1.2, ct_isUnder c hw c1.2 c2.2 ⟨c.sh, fun c3 => ?_, fun c3 => ?_⟩⟩
    · rw [c3] at k'; exact k'
    · rw [(bI_01 _).resolve_left c3] at k'; exact k'
  · rw [show rUn p x1 x2 = -101 from cI_t (Or.inr (bI_0.mp c2))] at k'; exact k'
theorem ct_G_found {x1 x2 : Int} (q : CA p h) (k : ∀ h', agM h h' → CA p h' → Ψ (some (vi (rFo p x1 x2))) h') : Ev l D Y_G_found (d + 5) kc ks 0 [some (vr 20), some (vi x1), some (vi x2), none] [] h Ψ := by
  obtain ⟨c, hw, ho, hf⟩ := q.1
  have w1 := hw.1
  apply g_G_found_0 c.sh
  refine ct_G_isType c hw ⟨c.sh, fun c1 => ct_within c.sh ⟨c.sh, fun c2 => ?_, fun c2 => ?_⟩, fun c1 => ?_⟩
  · rw [bI_n] at c1 c2
    obtain ⟨t, rfl⟩ : ∃ t : Nat, x1 = (t : Int) := ⟨x1.toNat, by omega⟩
    obtain ⟨x, rfl⟩ : ∃ t : Nat, x2 = (t : Int) := ⟨x2.toNat, by omega⟩
    rw [Int.toNat_natCast, c.trr t c1.2]
    refine ⟨by omega, by omega, ct_G_find c hw c1.2 (by omega) (fun h' f => ?_)⟩
    obtain ⟨ca, ag⟩ := CA_lv q f
    have z := k h' ag ca
    rw [show rFo p t x = fnd p t x from (cI_f (by omega)).trans (cI_f (by omega))] at z
    have fb := fnd_bd hw t (x : Int)
    refine ⟨ca.1.1.sh, fun c3 => ?_, fun c3 => ?_⟩
    · rw [mrf_0 (by omega)] at c3
      obtain ⟨m, hm⟩ : ∃ m : Nat, fnd p t x = (m : Int) := ⟨(fnd p t x).toNat, by omega⟩
      rw [hm] at z
      rw [mrf_s c3, hm, Int.toNat_natCast, ca.1.1.mn m (by omega)]
      exact ⟨ca.1.1.mkk m (by omega), z⟩
    · rw [mrf_0 (by omega)] at c3
      rw [c3] at z; exact z
  · rw [bI_n] at c1; rw [bI_0] at c2
    have z := k h agM.rf q
    rw [show rFo p x1 x2 = -102 from (cI_f (fun y => y c1)).trans (cI_t c2)] at z
    exact z
  · have z := k h agM.rf q
    rw [show rFo p x1 x2 = -101 from cI_t (bI_0.mp c1)] at z
    exact z
theorem ct_G_chosen {x1 x2 x3 : Int} (q : CA p h) (k : ∀ h', agM h h' → CA p h' → Ψ (some (vi (rCh p x1 x2 x3))) h') : Ev l D Y_G_chosen (d + 5) kc ks 0 [some (vr 20), some (vi x1), some (vi x2), some (vi x3)] [] h Ψ := by
  obtain ⟨c, hw, ho, hf⟩ := q.1
  have w1 := hw.1
  have bad : ∀ r, rCh p x1 x2 x3 = r → Ψ (some (vi r)) h := fun r e => by have z := k h agM.rf q; rw [e] at z; exact z
  apply g_G_chosen_0 c.sh
  refine ct_G_isType c hw ⟨c.sh, fun c1 => bad _ (cI_t (Or.inl (bI_0.mp c1))), fun c1 => ct_G_isType c hw ⟨c.sh, fun c2 => ct_within c.sh ⟨c.sh, fun c3 => bad _ ?_, fun c3 => ?_⟩, fun c2 => bad _ (cI_t (Or.inr (bI_0.mp c2)))⟩⟩
  · rw [bI_n] at c1 c2
    exact (cI_f (by omega)).trans (cI_t (Or.inl (bI_0.mp c3)))
  · rw [bI_n] at c1 c2 c3
    obtain ⟨a, rfl⟩ : ∃ t : Nat, x1 = (t : Int) := ⟨x1.toNat, by omega⟩
    obtain ⟨t, rfl⟩ : ∃ t : Nat, x2 = (t : Int) := ⟨x2.toNat, by omega⟩
    obtain ⟨x, rfl⟩ : ∃ t : Nat, x3 = (t : Int) := ⟨x3.toNat, by omega⟩
    have n1 : ¬ (¬ (0 ≤ (a : Int) ∧ (a : Int) < nT p) ∨ ¬ (0 ≤ (t : Int) ∧ (t : Int) < nT p)) := by omega
    rw [Int.toNat_natCast, Int.toNat_natCast, c.trr a c1.2, c.trr t c2.2]
    refine ⟨by omega, by omega, by omega, by omega, c.tk a c1.2, ct_isUnder c hw c1.2 c2.2 ⟨c.sh, fun c4 => ?_, fun c4 => bad _ ?_⟩⟩
    · rw [bI_n] at c4
      rw [c.trr a c1.2, c.trr t c2.2]
      refine ⟨by omega, by omega, by omega, by omega, ct_G_find c hw c2.2 (by omega) (fun h' f => ?_)⟩
      obtain ⟨ca, ag⟩ := CA_lv q f
      have fb := fnd_bd hw t (x : Int)
      refine ⟨ca.1.1.sh, ct_G_choose ca.1.1 hw c1.2 (by omega) (fun e => by rw [fnd_nm hw e]; omega) (fun h2 f2 => ?_)⟩
      obtain ⟨ca2, ag2⟩ := CA_lv ca f2
      have z := k h2 (ag.tr ag2) ca2
      rw [show rCh p a t x = chf p a t x from (cI_f n1).trans (cI_f (fun q => q.elim (fun y => y c3) (fun y => y c4)))] at z
      exact ⟨ca2.1.1.sh, z⟩
    · exact (cI_f n1).trans (cI_t (Or.inr (bI_0.mp c4)))
theorem ct_G_made {x1 x2 : Int} (q : CA p h) (k : ∀ h', agM h h' → CA p h' → Ψ (some (vi (rMa p x1 x2))) h') : Ev l D Y_G_made (d + 9) kc ks 0 [some (vr 20), some (vi x1), some (vi x2)] [] h Ψ := by
  obtain ⟨c, hw, ho, hf⟩ := q.1
  have w1 := hw.1
  apply g_G_made_0 c.sh
  refine ct_G_isType c hw ⟨c.sh, fun c1 => ct_within c.sh ⟨c.sh, fun c2 => ct_d q (fun h1 ag ca e => ⟨ca.1.1.sh, ?_⟩), fun c2 => ?_⟩, fun c1 => ?_⟩
  · rw [bI_n] at c1 c2
    have z := k h1 ag ca
    rw [show rMa p x1 x2 = _ from cI_f (fun q => q c1)] at z
    rw [e.1.2.1 x1.toNat (by omega), e.1.2.2.1 x1.toNat (by omega)]
    refine ⟨fun c3 => ⟨by omega, by omega, fun c4 => ?_, fun c4 => ?_⟩, fun c3 => ⟨by omega, by omega, fun c4 => ?_, fun c4 => ?_⟩⟩
    · rw [cI_f c3, cI_t (by omega), bI_f (fun q => q c4)] at z; exact z
    · rw [cI_f c3, cI_t (by omega), bI_t c4] at z; exact z
    · rw [cI_t c3, bI_f (fun q => q c4)] at z; exact z
    · rw [cI_t c3, bI_t c4] at z; exact z
  · rw [bI_n] at c1; rw [bI_0] at c2
    have z := k h agM.rf q
    rw [show rMa p x1 x2 = -102 from (cI_f (fun y => y c1)).trans ((cI_f (by omega)).trans (cI_f (by omega)))] at z
    exact z
  · have z := k h agM.rf q
    rw [show rMa p x1 x2 = -101 from cI_t (bI_0.mp c1)] at z
    exact z
theorem ct_G_isOp {x1 x2 : Int} (c : CS h p) (hw : WF p) (k : Ψ (some (vi (bI (isO p x1 x2)))) h) : Ev l D Y_G_isOp (d + 2) kc ks 0 [some (vr 20), some (vi x1), some (vi x2)] [] h Ψ := by
  have w2 := hw.2.1
  apply g_G_isOp_0 c.sh
  refine ct_G_isMember c hw ⟨c.sh, fun c1 => ?_, fun c1 => ?_⟩
  · rw [bI_f (fun q => bI_0.mp c1 q.1)] at k; exact k
  · rw [bI_n] at c1
    obtain ⟨m, rfl⟩ : ∃ t : Nat, x1 = (t : Int) := ⟨x1.toNat, by omega⟩
    have wm := (hw.2.2.2.2.1 m c1.2).2.2.2.2.2.1
    rw [Int.toNat_natCast, c.mr m c1.2, c.mc m c1.2, wr_eq (by omega) (by omega)]
    refine ⟨by omega, by omega, c.mkk m c1.2, ct_within c.sh ⟨c.sh, fun c2 => ?_, fun c2 => ?_⟩⟩
    · rw [bI_0] at c2
      rw [bI_f (fun q => c2 ⟨q.2.1, by have := q.2.2; rw [Int.toNat_natCast] at this; omega⟩)] at k; exact k
    · rw [bI_n] at c2
      rw [bI_t ⟨c1, c2.1, by rw [Int.toNat_natCast]; omega⟩] at k; exact k
theorem ct_G_ring {m : Nat} (q : CS h p) (hw : WF p) (e : Dr p h) (hm : (m : Int) < nM p) (k : Ψ (some (vi (cnt (fun j => cmF p m j ∧ cmF p j m) (nM p).toNat 0))) h) : Ev l D Y_G_ring d kc ks 0 [some (vr 20), some (vi (m : Int)), none, none] [] h Ψ := by
  have w2 := hw.2.1
  apply g_G_ring_0 q.sh
  have key : ∀ (n j : Nat), j + n = (nM p).toNat → Ev l D Y_G_ring d kc ks 4 [some (vr 20), some (vi (m : Int)), some (vi (cnt (fun j => cmF p m j ∧ cmF p j m) j 0)), some (vi (j : Int))] [] h Ψ := by
    intro n
    induction n with
    | zero =>
      intro j hj
      apply g_G_ring_4 q.sh
      rw [q.cm]
      refine ⟨fun _ => ?_, fun c => by omega⟩
      rw [show j = (nM p).toNat by omega]; exact k
    | succ n ih =>
      intro j hj
      have nx := ih (j + 1) (by omega)
      rw [cnt_snoc, Nat.zero_add] at nx
      have cb := cnt_le (fun j => cmF p m j ∧ cmF p j m) j 0
      have g40 : ∀ y0 x2 : Int, y0 = bI (cmF p m j ∧ cmF p j m) → Ev l D Y_G_ring d kc ks 40 [some (vr 20), some (vi (m : Int)), some (vi x2), some (vi (j : Int))] [vi y0, vi (cnt (fun j => cmF p m j ∧ cmF p j m) j 0)] h Ψ := by
        intro y0 x2 ey
        have yb := bI_01 (cmF p m j ∧ cmF p j m)
        apply g_G_ring_40 q.sh
        rw [wr_eq (by omega) (by omega), wr_s (show j < 1000000 by omega), ey]
        exact nx
      obtain ⟨l1, l2, l3⟩ := GS_ld q.sh (show m < 48 by omega)
      obtain ⟨n1, n2, n3⟩ := GS_ld q.sh (show j < 48 by omega)
      apply g_G_ring_4 q.sh
      rw [q.cm, Int.toNat_natCast, Int.toNat_natCast, l1, n1, e.2.2.2 m j hm (by omega), e.2.2.2 j m (by omega) hm]
      refine ⟨fun c => by omega, fun _ => ⟨by omega, by omega, l2, by omega, by omega, fun c => g40 0 _ ?_, fun c => ⟨by omega, by omega, n2, by omega, by omega, fun c2 => g40 0 _ ?_, fun c2 => g40 1 _ ?_⟩⟩⟩
      · exact (bI_f (fun z => bI_0.mp c z.1)).symm
      · exact (bI_f (fun z => bI_0.mp c2 z.2)).symm
      · exact (bI_t ⟨bI_n.mp c, bI_n.mp c2⟩).symm
  exact key (nM p).toNat 0 (by omega)
theorem rg_eq {m k : Nat} (hr : ¬ gF p 119 m = 0) (hk : (k : Int) < nM p) : (cmF p m k ∧ cmF p k m) ↔ rgF p m k := ⟨fun z => ⟨⟨hr, wsh_tr _ _ m k m (by omega) z.1 z.2⟩, z⟩, fun z => z.2⟩
theorem ct_G_about {x1 x2 : Int} (q : CA p h) (k : ∀ h', agM h h' → CA p h' → Ψ (some (vi (rAb p x1 x2))) h') : Ev l D Y_G_about (d + 9) kc ks 0 [some (vr 20), some (vi x1), some (vi x2), none, none, none] [] h Ψ := by
  obtain ⟨c, hw, ho, hf⟩ := q.1
  have w2 := hw.2.1
  apply g_G_about_0 c.sh
  refine ct_G_isMember c hw ⟨c.sh, fun c1 => ct_within c.sh ⟨c.sh, fun c2 => ct_d q (fun h1 ag ca e => ⟨ca.1.1.sh, ?_⟩), fun c2 => ?_⟩, fun c1 => ?_⟩
  · rw [bI_n] at c1 c2
    have z := k h1 ag ca
    rw [show rAb p x1 x2 = _ from cI_f (fun q => q c1)] at z
    obtain ⟨m, rfl⟩ : ∃ t : Nat, x1 = (t : Int) := ⟨x1.toNat, by omega⟩
    rw [Int.toNat_natCast] at z
    have s := ca.1.1
    have hm := c1.2
    obtain ⟨l1, l2, l3⟩ := GS_ld s.sh (show m < 48 by omega)
    rw [Int.toNat_natCast, s.mr m hm, e.1.1 m hm, l1, e.2.2.2 m m hm hm]
    refine ⟨by omega, by omega, s.mkk m hm, fun v => ⟨fun c3 => ?_, fun c3 => ?_⟩, fun v => ⟨fun c3 => ?_, fun c3 => ⟨by omega, by omega, l2, by omega, by omega, fun c4 => ?_, fun c4 => ?_⟩⟩, fun v => ?_, fun v => ⟨fun c3 => ?_, fun c3 => ?_⟩, fun v => ?_⟩
    · rw [cI_t v, bI_f (fun y => y c3)] at z; exact z
    · rw [cI_t v, bI_t c3] at z; exact z
    · rw [cI_f (by omega), cI_t v, bI_f (fun y => y.1 c3)] at z; exact z
    · rw [cI_f (by omega), cI_t v, bI_f (fun y => bI_0.mp c4 y.2)] at z; exact z
    · rw [cI_f (by omega), cI_t v, bI_t ⟨c3, bI_n.mp c4⟩] at z; exact z
    · rw [cI_f (by omega), cI_f (by omega), cI_t v] at z
      have key : ∀ (n j : Nat) (x2 x3 : Int), j + n = (nM p).toNat → Ev l D Y_G_about (d + 9) kc ks 106 [some (vr 20), some (vi (m : Int)), some (vi x2), some (vi x3), some (vi (cnt (fun k => dr p (gF p) k m) j 0)), some (vi (j : Int))] [] h1 Ψ := by
        intro n
        induction n with
        | zero =>
          intro j x2 x3 hj
          apply g_G_about_106 s.sh
          rw [s.cm]
          refine ⟨fun _ => ?_, fun c => by omega⟩
          rw [show j = (nM p).toNat by omega]; exact z
        | succ n ih =>
          intro j x2 x3 hj
          have nx := ih (j + 1) x2 x3 (by omega)
          rw [cnt_snoc, Nat.zero_add] at nx
          have cb := cnt_le (fun k => dr p (gF p) k m) j 0
          apply g_G_about_106 s.sh
          rw [s.cm, Int.toNat_natCast, s.mr j (by omega)]
          refine ⟨fun c => by omega, fun _ => ⟨by omega, by omega, ct_calls s hw e (by omega) hm ⟨s.sh, fun c3 => ?_, fun c3 => ?_⟩⟩⟩
          · rw [bI_f (bI_0.mp c3)] at nx
            rw [wr_eq (by omega) (by omega), wr_s (show j < 1000000 by omega)]; exact nx
          · rw [bI_t (bI_n.mp c3)] at nx
            rw [wr_eq (by omega) (by omega), wr_s (show j < 1000000 by omega)]; exact nx
      exact key (nM p).toNat 0 _ _ (by omega)
    · rw [cI_f (by omega), cI_f (by omega), cI_f (by omega), cI_t v, (cnt_0 _ _ _).mpr (fun j _ _ y => y.1.1 c3)] at z
      exact z
    · rw [cI_f (by omega), cI_f (by omega), cI_f (by omega), cI_t v] at z
      refine ct_G_ring s hw e hm ⟨s.sh, ?_⟩
      rw [cnt_congr (Q' := rgF p m) _ _ (fun j _ hj => rg_eq c3 (by omega))]
      exact z
    · rw [cI_f (by omega), cI_f (by omega), cI_f (by omega), cI_f (by omega), cI_t (by omega)] at z
      have key : ∀ (n j : Nat) (x4 : Int), j + n = (nM p).toNat → Ψ (some (vi (fst (rgF p m) n j))) h1 → Ev l D Y_G_about (d + 9) kc ks 166 [some (vr 20), some (vi (m : Int)), some (vi x2), some (vi (gF p 119 m)), some (vi x4), some (vi (j : Int))] [] h1 Ψ := by
        intro n
        induction n with
        | zero =>
          intro j x4 hj z
          apply g_G_about_166 s.sh
          rw [s.cm]
          exact ⟨fun _ => z, fun c => by omega⟩
        | succ n ih =>
          intro j x4 hj z
          obtain ⟨n1, n2, n3⟩ := GS_ld s.sh (show j < 48 by omega)
          apply g_G_about_166 s.sh
          rw [s.cm, Int.toNat_natCast, Int.toNat_natCast, l1, n1, e.2.2.2 m j hm (by omega), e.2.2.2 j m (by omega) hm, wr_s (show j < 1000000 by omega)]
          refine ⟨fun c => by omega, fun _ => ⟨fun c3 => ?_, fun c3 => ⟨by omega, by omega, l2, by omega, by omega, fun c4 => ih (j + 1) x4 (by omega) ?_, fun c4 => ⟨by omega, by omega, n2, by omega, by omega, fun c5 => ih (j + 1) x4 (by omega) ?_, fun c5 => ?_⟩⟩⟩⟩
          · rw [(fst_m1 _ _ _).mpr (fun i _ _ y => y.1.1 c3)] at z; exact z
          · unfold fst at z
            rw [cI_f (fun y => bI_0.mp c4 y.2.1)] at z; exact z
          · unfold fst at z
            rw [cI_f (fun y => bI_0.mp c5 y.2.2)] at z; exact z
          · unfold fst at z
            rw [cI_t ((rg_eq c3 (by omega)).mp ⟨bI_n.mp c4, bI_n.mp c5⟩)] at z; exact z
      exact key (nM p).toNat 0 0 (by omega) z
  · rw [bI_n] at c1; rw [bI_0] at c2
    have z := k h agM.rf q
    rw [show rAb p x1 x2 = -102 from (cI_f (fun y => y c1)).trans ((cI_f (by omega)).trans ((cI_f (by omega)).trans ((cI_f (by omega)).trans ((cI_f (by omega)).trans (cI_f (by omega))))))] at z
    exact z
  · have z := k h agM.rf q
    rw [show rAb p x1 x2 = -101 from cI_t (bI_0.mp c1)] at z
    exact z
end CQ
